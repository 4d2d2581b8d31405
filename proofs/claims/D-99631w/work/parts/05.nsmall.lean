/-! BoardCrossing$River -/
set_option maxRecDepth 100000
def RX1 : String := "BoardCrossing$Rive\x72"
def TX1 : u_T := fun k => match k with
  | 0 => ("BoardCrossing$Rive\x72", "boards", "Ljava/util/ArrayList;", true)
  | 1 => ("BoardCrossing$Rive\x72", "loads", "Ljava/util/ArrayList;", true)
  | 2 => ("BoardCrossing$Rive\x72", "current", "[I", true)
  | 3 => ("BoardCrossing$Rive\x72", "hasCurrent", "[Z", true)
  | 4 => ("BoardCrossing$Rive\x72", "isIron", "[Z", true)
  | 5 => ("BoardCrossing$Rive\x72", "heat", "LBoardCrossing$Part;", false)
  | 6 => ("BoardCrossing$Rive\x72", "hasFlood", "Z", false)
  | 7 => ("BoardCrossing$Rive\x72", "hasDraw", "Z", false)
  | 8 => ("BoardCrossing$Rive\x72", "columns", "I", false)
  | 9 => ("BoardCrossing$Rive\x72", "strokes", "I", false)
  | 10 => ("BoardCrossing$Rive\x72", "lines", "I", false)
  | 11 => ("BoardCrossing$Rive\x72", "currents", "I", false)
  | 12 => ("BoardCrossing$Rive\x72", "irons", "I", false)
  | 13 => ("BoardCrossing$Rive\x72", "units", "I", false)
  | 14 => ("BoardCrossing$Rive\x72", "flood", "I", false)
  | 15 => ("BoardCrossing$Rive\x72", "draw", "I", false)
  | _ => ("BoardCrossing$Rive\x72", "told", "[I", true)
def tyX1 : Nat → FieldType := fun k => match k with
  | 0 => .object "java/util/ArrayList"
  | 1 => .object "java/util/ArrayList"
  | 2 => .array .int
  | 3 => .array .boolean
  | 4 => .array .boolean
  | 5 => .object "BoardCrossing$Part"
  | 6 => .boolean
  | 7 => .boolean
  | 8 => .int
  | 9 => .int
  | 10 => .int
  | 11 => .int
  | 12 => .int
  | 13 => .int
  | 14 => .int
  | 15 => .int
  | _ => .array .int
abbrev wsX10 : List Cond := u_ws RX1 TX1 17
set_option maxRecDepth 100000 in
theorem nmX1 : ∀ a, a < 17 → ∀ b, b < 17 → a ≠ b → (TX1 a).2.1 ≠ (TX1 b).2.1 := by decide +kernel
set_option maxRecDepth 100000 in
theorem tyX1_ok : ∀ k, k < 17 → parseFieldDescriptor (TX1 k).2.2.1 = some (tyX1 k) := by decide +kernel
abbrev cX1_init : ByteArray := prog_12_method_1_code
def yX1_init : MethodName := ⟨RX1, "<init>", "()V"⟩
def dkwX1_init_2 : List UInt8 := [181, 0, 29, 42, 16, 8, 181, 0, 32, 42, 16, 6, 181, 0, 36, 42, 16, 6, 188, 10, 181, 0, 39, 177]
abbrev dktX1_init_2 : List UInt8 := dkwX1_init_2 ++ []
def dkwX1_init_1 : List UInt8 := [181, 0, 18, 42, 16, 56, 188, 10, 181, 0, 21, 42, 16, 56, 188, 4, 181, 0, 25, 42, 16, 56, 188, 4]
abbrev dktX1_init_1 : List UInt8 := dkwX1_init_1 ++ dktX1_init_2
def dkwX1_init_0 : List UInt8 := [42, 183, 0, 3, 42, 187, 0, 9, 89, 183, 0, 11, 181, 0, 12, 42, 187, 0, 9, 89, 183, 0, 11]
abbrev dktX1_init_0 : List UInt8 := dkwX1_init_0 ++ dktX1_init_1
theorem dksX1_init_0 : cX1_init.data.toList.drop 0 = dktX1_init_0 := by decide +kernel
theorem dksX1_init_1 : cX1_init.data.toList.drop 23 = dktX1_init_1 := dk_seg dksX1_init_0 23 rfl rfl
theorem dksX1_init_2 : cX1_init.data.toList.drop 47 = dktX1_init_2 := dk_seg dksX1_init_1 24 rfl rfl
theorem dX1_init_0 : decode cX1_init 0 = .ok (.aload_n 0, 1) := dk_42 (dk_at dksX1_init_0 0 rfl rfl)
theorem dX1_init_1 : decode cX1_init 1 = .ok (.invokespecial 3, 3) := dk_183 0 3 (dk_at dksX1_init_0 1 rfl rfl)
theorem dX1_init_4 : decode cX1_init 4 = .ok (.aload_n 0, 1) := dk_42 (dk_at dksX1_init_0 4 rfl rfl)
theorem dX1_init_5 : decode cX1_init 5 = .ok (.new 9, 3) := dk_187 0 9 (dk_at dksX1_init_0 5 rfl rfl)
theorem dX1_init_8 : decode cX1_init 8 = .ok (.dup, 1) := dk_89 (dk_at dksX1_init_0 8 rfl rfl)
theorem dX1_init_9 : decode cX1_init 9 = .ok (.invokespecial 11, 3) := dk_183 0 11 (dk_at dksX1_init_0 9 rfl rfl)
theorem dX1_init_12 : decode cX1_init 12 = .ok (.putfield 12, 3) := dk_181 0 12 (dk_at dksX1_init_0 12 rfl rfl)
theorem dX1_init_15 : decode cX1_init 15 = .ok (.aload_n 0, 1) := dk_42 (dk_at dksX1_init_0 15 rfl rfl)
theorem dX1_init_16 : decode cX1_init 16 = .ok (.new 9, 3) := dk_187 0 9 (dk_at dksX1_init_0 16 rfl rfl)
theorem dX1_init_19 : decode cX1_init 19 = .ok (.dup, 1) := dk_89 (dk_at dksX1_init_0 19 rfl rfl)
theorem dX1_init_20 : decode cX1_init 20 = .ok (.invokespecial 11, 3) := dk_183 0 11 (dk_at dksX1_init_0 20 rfl rfl)
theorem dX1_init_23 : decode cX1_init 23 = .ok (.putfield 18, 3) := dk_181 0 18 (dk_at dksX1_init_1 0 rfl rfl)
theorem dX1_init_26 : decode cX1_init 26 = .ok (.aload_n 0, 1) := dk_42 (dk_at dksX1_init_1 3 rfl rfl)
theorem dX1_init_27 : decode cX1_init 27 = .ok (.bipush 56, 2) := dk_16 56 (dk_at dksX1_init_1 4 rfl rfl)
theorem dX1_init_29 : decode cX1_init 29 = .ok (.newarray .int, 2) := dk_188_10 (dk_at dksX1_init_1 6 rfl rfl)
theorem dX1_init_31 : decode cX1_init 31 = .ok (.putfield 21, 3) := dk_181 0 21 (dk_at dksX1_init_1 8 rfl rfl)
theorem dX1_init_34 : decode cX1_init 34 = .ok (.aload_n 0, 1) := dk_42 (dk_at dksX1_init_1 11 rfl rfl)
theorem dX1_init_35 : decode cX1_init 35 = .ok (.bipush 56, 2) := dk_16 56 (dk_at dksX1_init_1 12 rfl rfl)
theorem dX1_init_37 : decode cX1_init 37 = .ok (.newarray .boolean, 2) := dk_188_4 (dk_at dksX1_init_1 14 rfl rfl)
theorem dX1_init_39 : decode cX1_init 39 = .ok (.putfield 25, 3) := dk_181 0 25 (dk_at dksX1_init_1 16 rfl rfl)
theorem dX1_init_42 : decode cX1_init 42 = .ok (.aload_n 0, 1) := dk_42 (dk_at dksX1_init_1 19 rfl rfl)
theorem dX1_init_43 : decode cX1_init 43 = .ok (.bipush 56, 2) := dk_16 56 (dk_at dksX1_init_1 20 rfl rfl)
theorem dX1_init_45 : decode cX1_init 45 = .ok (.newarray .boolean, 2) := dk_188_4 (dk_at dksX1_init_1 22 rfl rfl)
theorem dX1_init_47 : decode cX1_init 47 = .ok (.putfield 29, 3) := dk_181 0 29 (dk_at dksX1_init_2 0 rfl rfl)
theorem dX1_init_50 : decode cX1_init 50 = .ok (.aload_n 0, 1) := dk_42 (dk_at dksX1_init_2 3 rfl rfl)
theorem dX1_init_51 : decode cX1_init 51 = .ok (.bipush 8, 2) := dk_16 8 (dk_at dksX1_init_2 4 rfl rfl)
theorem dX1_init_53 : decode cX1_init 53 = .ok (.putfield 32, 3) := dk_181 0 32 (dk_at dksX1_init_2 6 rfl rfl)
theorem dX1_init_56 : decode cX1_init 56 = .ok (.aload_n 0, 1) := dk_42 (dk_at dksX1_init_2 9 rfl rfl)
theorem dX1_init_57 : decode cX1_init 57 = .ok (.bipush 6, 2) := dk_16 6 (dk_at dksX1_init_2 10 rfl rfl)
theorem dX1_init_59 : decode cX1_init 59 = .ok (.putfield 36, 3) := dk_181 0 36 (dk_at dksX1_init_2 12 rfl rfl)
theorem dX1_init_62 : decode cX1_init 62 = .ok (.aload_n 0, 1) := dk_42 (dk_at dksX1_init_2 15 rfl rfl)
theorem dX1_init_63 : decode cX1_init 63 = .ok (.bipush 6, 2) := dk_16 6 (dk_at dksX1_init_2 16 rfl rfl)
theorem dX1_init_65 : decode cX1_init 65 = .ok (.newarray .int, 2) := dk_188_10 (dk_at dksX1_init_2 18 rfl rfl)
theorem dX1_init_67 : decode cX1_init 67 = .ok (.putfield 39, 3) := dk_181 0 39 (dk_at dksX1_init_2 20 rfl rfl)
theorem dX1_init_70 : decode cX1_init 70 = .ok (.return_, 1) := dk_177 (dk_at dksX1_init_2 23 rfl rfl)
abbrev cX1_cell : ByteArray := prog_12_method_2_code
def yX1_cell : MethodName := ⟨RX1, "cell", "(II)I"⟩
def dkwX1_cell_0 : List UInt8 := [16, 8, 28, 104, 27, 96, 172]
abbrev dktX1_cell_0 : List UInt8 := dkwX1_cell_0 ++ []
theorem dksX1_cell_0 : cX1_cell.data.toList.drop 0 = dktX1_cell_0 := by decide +kernel
theorem dX1_cell_0 : decode cX1_cell 0 = .ok (.bipush 8, 2) := dk_16 8 (dk_at dksX1_cell_0 0 rfl rfl)
theorem dX1_cell_2 : decode cX1_cell 2 = .ok (.iload_n 2, 1) := dk_28 (dk_at dksX1_cell_0 2 rfl rfl)
theorem dX1_cell_3 : decode cX1_cell 3 = .ok (.imul, 1) := dk_104 (dk_at dksX1_cell_0 3 rfl rfl)
theorem dX1_cell_4 : decode cX1_cell 4 = .ok (.iload_n 1, 1) := dk_27 (dk_at dksX1_cell_0 4 rfl rfl)
theorem dX1_cell_5 : decode cX1_cell 5 = .ok (.iadd, 1) := dk_96 (dk_at dksX1_cell_0 5 rfl rfl)
theorem dX1_cell_6 : decode cX1_cell 6 = .ok (.ireturn, 1) := dk_172 (dk_at dksX1_cell_0 6 rfl rfl)
abbrev cX1_widthOf : ByteArray := prog_12_method_4_code
def yX1_widthOf : MethodName := ⟨RX1, "widthOf", "(I)I"⟩
def dkwX1_widthOf_2 : List UInt8 := [167, 255, 213, 28, 172]
abbrev dktX1_widthOf_2 : List UInt8 := dkwX1_widthOf_2 ++ []
def dkwX1_widthOf_1 : List UInt8 := [42, 180, 0, 18, 29, 182, 0, 58, 192, 0, 89, 180, 0, 91, 167, 0, 4, 3, 96, 61, 132, 3, 1]
abbrev dktX1_widthOf_1 : List UInt8 := dkwX1_widthOf_1 ++ dktX1_widthOf_2
def dkwX1_widthOf_0 : List UInt8 := [3, 61, 3, 62, 29, 42, 180, 0, 18, 182, 0, 81, 162, 0, 38, 28, 27, 29, 184, 0, 85, 153, 0, 20]
abbrev dktX1_widthOf_0 : List UInt8 := dkwX1_widthOf_0 ++ dktX1_widthOf_1
theorem dksX1_widthOf_0 : cX1_widthOf.data.toList.drop 0 = dktX1_widthOf_0 := by decide +kernel
theorem dksX1_widthOf_1 : cX1_widthOf.data.toList.drop 24 = dktX1_widthOf_1 := dk_seg dksX1_widthOf_0 24 rfl rfl
theorem dksX1_widthOf_2 : cX1_widthOf.data.toList.drop 47 = dktX1_widthOf_2 := dk_seg dksX1_widthOf_1 23 rfl rfl
theorem dX1_widthOf_0 : decode cX1_widthOf 0 = .ok (.iconst 0, 1) := dk_3 (dk_at dksX1_widthOf_0 0 rfl rfl)
theorem dX1_widthOf_1 : decode cX1_widthOf 1 = .ok (.istore_n 2, 1) := dk_61 (dk_at dksX1_widthOf_0 1 rfl rfl)
theorem dX1_widthOf_2 : decode cX1_widthOf 2 = .ok (.iconst 0, 1) := dk_3 (dk_at dksX1_widthOf_0 2 rfl rfl)
theorem dX1_widthOf_3 : decode cX1_widthOf 3 = .ok (.istore_n 3, 1) := dk_62 (dk_at dksX1_widthOf_0 3 rfl rfl)
theorem dX1_widthOf_4 : decode cX1_widthOf 4 = .ok (.iload_n 3, 1) := dk_29 (dk_at dksX1_widthOf_0 4 rfl rfl)
theorem dX1_widthOf_5 : decode cX1_widthOf 5 = .ok (.aload_n 0, 1) := dk_42 (dk_at dksX1_widthOf_0 5 rfl rfl)
theorem dX1_widthOf_6 : decode cX1_widthOf 6 = .ok (.getfield 18, 3) := dk_180 0 18 (dk_at dksX1_widthOf_0 6 rfl rfl)
theorem dX1_widthOf_9 : decode cX1_widthOf 9 = .ok (.invokevirtual 81, 3) := dk_182 0 81 (dk_at dksX1_widthOf_0 9 rfl rfl)
theorem dX1_widthOf_12 : decode cX1_widthOf 12 = .ok (.if_icmp .ge 38, 3) := dk_162 0 38 (dk_at dksX1_widthOf_0 12 rfl rfl)
theorem dX1_widthOf_15 : decode cX1_widthOf 15 = .ok (.iload_n 2, 1) := dk_28 (dk_at dksX1_widthOf_0 15 rfl rfl)
theorem dX1_widthOf_16 : decode cX1_widthOf 16 = .ok (.iload_n 1, 1) := dk_27 (dk_at dksX1_widthOf_0 16 rfl rfl)
theorem dX1_widthOf_17 : decode cX1_widthOf 17 = .ok (.iload_n 3, 1) := dk_29 (dk_at dksX1_widthOf_0 17 rfl rfl)
theorem dX1_widthOf_18 : decode cX1_widthOf 18 = .ok (.invokestatic 85, 3) := dk_184 0 85 (dk_at dksX1_widthOf_0 18 rfl rfl)
theorem dX1_widthOf_21 : decode cX1_widthOf 21 = .ok (.ifCond .eq 20, 3) := dk_153 0 20 (dk_at dksX1_widthOf_0 21 rfl rfl)
theorem dX1_widthOf_24 : decode cX1_widthOf 24 = .ok (.aload_n 0, 1) := dk_42 (dk_at dksX1_widthOf_1 0 rfl rfl)
theorem dX1_widthOf_25 : decode cX1_widthOf 25 = .ok (.getfield 18, 3) := dk_180 0 18 (dk_at dksX1_widthOf_1 1 rfl rfl)
theorem dX1_widthOf_28 : decode cX1_widthOf 28 = .ok (.iload_n 3, 1) := dk_29 (dk_at dksX1_widthOf_1 4 rfl rfl)
theorem dX1_widthOf_29 : decode cX1_widthOf 29 = .ok (.invokevirtual 58, 3) := dk_182 0 58 (dk_at dksX1_widthOf_1 5 rfl rfl)
theorem dX1_widthOf_32 : decode cX1_widthOf 32 = .ok (.checkcast 89, 3) := dk_192 0 89 (dk_at dksX1_widthOf_1 8 rfl rfl)
theorem dX1_widthOf_35 : decode cX1_widthOf 35 = .ok (.getfield 91, 3) := dk_180 0 91 (dk_at dksX1_widthOf_1 11 rfl rfl)
theorem dX1_widthOf_38 : decode cX1_widthOf 38 = .ok (.goto 4, 3) := dk_167 0 4 (dk_at dksX1_widthOf_1 14 rfl rfl)
theorem dX1_widthOf_41 : decode cX1_widthOf 41 = .ok (.iconst 0, 1) := dk_3 (dk_at dksX1_widthOf_1 17 rfl rfl)
theorem dX1_widthOf_42 : decode cX1_widthOf 42 = .ok (.iadd, 1) := dk_96 (dk_at dksX1_widthOf_1 18 rfl rfl)
theorem dX1_widthOf_43 : decode cX1_widthOf 43 = .ok (.istore_n 2, 1) := dk_61 (dk_at dksX1_widthOf_1 19 rfl rfl)
theorem dX1_widthOf_44 : decode cX1_widthOf 44 = .ok (.iinc 3 1, 3) := dk_132 3 1 (dk_at dksX1_widthOf_1 20 rfl rfl)
theorem dX1_widthOf_47 : decode cX1_widthOf 47 = .ok (.goto (-43), 3) := dk_167 255 213 (dk_at dksX1_widthOf_2 0 rfl rfl)
theorem dX1_widthOf_50 : decode cX1_widthOf 50 = .ok (.iload_n 2, 1) := dk_28 (dk_at dksX1_widthOf_2 3 rfl rfl)
theorem dX1_widthOf_51 : decode cX1_widthOf 51 = .ok (.ireturn, 1) := dk_172 (dk_at dksX1_widthOf_2 4 rfl rfl)
abbrev cX1_has : ByteArray := prog_12_method_5_code
def yX1_has : MethodName := ⟨RX1, "has", "(II)Z"⟩
def dkwX1_has_0 : List UInt8 := [26, 27, 122, 4, 126, 4, 160, 0, 7, 4, 167, 0, 4, 3, 172]
abbrev dktX1_has_0 : List UInt8 := dkwX1_has_0 ++ []
theorem dksX1_has_0 : cX1_has.data.toList.drop 0 = dktX1_has_0 := by decide +kernel
theorem dX1_has_0 : decode cX1_has 0 = .ok (.iload_n 0, 1) := dk_26 (dk_at dksX1_has_0 0 rfl rfl)
theorem dX1_has_1 : decode cX1_has 1 = .ok (.iload_n 1, 1) := dk_27 (dk_at dksX1_has_0 1 rfl rfl)
theorem dX1_has_2 : decode cX1_has 2 = .ok (.ishr, 1) := dk_122 (dk_at dksX1_has_0 2 rfl rfl)
theorem dX1_has_3 : decode cX1_has 3 = .ok (.iconst 1, 1) := dk_4 (dk_at dksX1_has_0 3 rfl rfl)
theorem dX1_has_4 : decode cX1_has 4 = .ok (.iand, 1) := dk_126 (dk_at dksX1_has_0 4 rfl rfl)
theorem dX1_has_5 : decode cX1_has 5 = .ok (.iconst 1, 1) := dk_4 (dk_at dksX1_has_0 5 rfl rfl)
theorem dX1_has_6 : decode cX1_has 6 = .ok (.if_icmp .ne 7, 3) := dk_160 0 7 (dk_at dksX1_has_0 6 rfl rfl)
theorem dX1_has_9 : decode cX1_has 9 = .ok (.iconst 1, 1) := dk_4 (dk_at dksX1_has_0 9 rfl rfl)
theorem dX1_has_10 : decode cX1_has 10 = .ok (.goto 4, 3) := dk_167 0 4 (dk_at dksX1_has_0 10 rfl rfl)
theorem dX1_has_13 : decode cX1_has 13 = .ok (.iconst 0, 1) := dk_3 (dk_at dksX1_has_0 13 rfl rfl)
theorem dX1_has_14 : decode cX1_has 14 = .ok (.ireturn, 1) := dk_172 (dk_at dksX1_has_0 14 rfl rfl)
abbrev cX1_hotter : ByteArray := prog_12_method_3_code
def yX1_hotter : MethodName := ⟨RX1, "hotte\x72", "(LBoardCrossing$State;I)I"⟩
def dkwX1_hotter_4 : List UInt8 := [180, 0, 39, 182, 0, 71, 16, 99, 184, 0, 77, 172]
abbrev dktX1_hotter_4 : List UInt8 := dkwX1_hotter_4 ++ []
def dkwX1_hotter_3 : List UInt8 := [43, 180, 0, 67, 28, 46, 79, 42, 180, 0, 39, 8, 43, 180, 0, 69, 28, 46, 79, 42, 180, 0, 42, 42]
abbrev dktX1_hotter_3 : List UInt8 := dkwX1_hotter_3 ++ dktX1_hotter_4
def dkwX1_hotter_2 : List UInt8 := [180, 0, 39, 6, 42, 180, 0, 12, 28, 182, 0, 58, 192, 0, 62, 180, 0, 64, 79, 42, 180, 0, 39, 7]
abbrev dktX1_hotter_2 : List UInt8 := dkwX1_hotter_2 ++ dktX1_hotter_3
def dkwX1_hotter_1 : List UInt8 := [180, 0, 39, 4, 43, 180, 0, 51, 28, 46, 79, 42, 180, 0, 39, 5, 43, 42, 28, 182, 0, 54, 79, 42]
abbrev dktX1_hotter_1 : List UInt8 := dkwX1_hotter_1 ++ dktX1_hotter_2
def dkwX1_hotter_0 : List UInt8 := [42, 180, 0, 42, 199, 0, 5, 4, 172, 42, 180, 0, 39, 3, 43, 180, 0, 46, 28, 46, 79, 42]
abbrev dktX1_hotter_0 : List UInt8 := dkwX1_hotter_0 ++ dktX1_hotter_1
theorem dksX1_hotter_0 : cX1_hotter.data.toList.drop 0 = dktX1_hotter_0 := by decide +kernel
theorem dksX1_hotter_1 : cX1_hotter.data.toList.drop 22 = dktX1_hotter_1 := dk_seg dksX1_hotter_0 22 rfl rfl
theorem dksX1_hotter_2 : cX1_hotter.data.toList.drop 46 = dktX1_hotter_2 := dk_seg dksX1_hotter_1 24 rfl rfl
theorem dksX1_hotter_3 : cX1_hotter.data.toList.drop 70 = dktX1_hotter_3 := dk_seg dksX1_hotter_2 24 rfl rfl
theorem dksX1_hotter_4 : cX1_hotter.data.toList.drop 94 = dktX1_hotter_4 := dk_seg dksX1_hotter_3 24 rfl rfl
theorem dX1_hotter_0 : decode cX1_hotter 0 = .ok (.aload_n 0, 1) := dk_42 (dk_at dksX1_hotter_0 0 rfl rfl)
theorem dX1_hotter_1 : decode cX1_hotter 1 = .ok (.getfield 42, 3) := dk_180 0 42 (dk_at dksX1_hotter_0 1 rfl rfl)
theorem dX1_hotter_4 : decode cX1_hotter 4 = .ok (.ifnonnull 5, 3) := dk_199 0 5 (dk_at dksX1_hotter_0 4 rfl rfl)
theorem dX1_hotter_7 : decode cX1_hotter 7 = .ok (.iconst 1, 1) := dk_4 (dk_at dksX1_hotter_0 7 rfl rfl)
theorem dX1_hotter_8 : decode cX1_hotter 8 = .ok (.ireturn, 1) := dk_172 (dk_at dksX1_hotter_0 8 rfl rfl)
theorem dX1_hotter_9 : decode cX1_hotter 9 = .ok (.aload_n 0, 1) := dk_42 (dk_at dksX1_hotter_0 9 rfl rfl)
theorem dX1_hotter_10 : decode cX1_hotter 10 = .ok (.getfield 39, 3) := dk_180 0 39 (dk_at dksX1_hotter_0 10 rfl rfl)
theorem dX1_hotter_13 : decode cX1_hotter 13 = .ok (.iconst 0, 1) := dk_3 (dk_at dksX1_hotter_0 13 rfl rfl)
theorem dX1_hotter_14 : decode cX1_hotter 14 = .ok (.aload_n 1, 1) := dk_43 (dk_at dksX1_hotter_0 14 rfl rfl)
theorem dX1_hotter_15 : decode cX1_hotter 15 = .ok (.getfield 46, 3) := dk_180 0 46 (dk_at dksX1_hotter_0 15 rfl rfl)
theorem dX1_hotter_18 : decode cX1_hotter 18 = .ok (.iload_n 2, 1) := dk_28 (dk_at dksX1_hotter_0 18 rfl rfl)
theorem dX1_hotter_19 : decode cX1_hotter 19 = .ok (.iaload, 1) := dk_46 (dk_at dksX1_hotter_0 19 rfl rfl)
theorem dX1_hotter_20 : decode cX1_hotter 20 = .ok (.iastore, 1) := dk_79 (dk_at dksX1_hotter_0 20 rfl rfl)
theorem dX1_hotter_21 : decode cX1_hotter 21 = .ok (.aload_n 0, 1) := dk_42 (dk_at dksX1_hotter_0 21 rfl rfl)
theorem dX1_hotter_22 : decode cX1_hotter 22 = .ok (.getfield 39, 3) := dk_180 0 39 (dk_at dksX1_hotter_1 0 rfl rfl)
theorem dX1_hotter_25 : decode cX1_hotter 25 = .ok (.iconst 1, 1) := dk_4 (dk_at dksX1_hotter_1 3 rfl rfl)
theorem dX1_hotter_26 : decode cX1_hotter 26 = .ok (.aload_n 1, 1) := dk_43 (dk_at dksX1_hotter_1 4 rfl rfl)
theorem dX1_hotter_27 : decode cX1_hotter 27 = .ok (.getfield 51, 3) := dk_180 0 51 (dk_at dksX1_hotter_1 5 rfl rfl)
theorem dX1_hotter_30 : decode cX1_hotter 30 = .ok (.iload_n 2, 1) := dk_28 (dk_at dksX1_hotter_1 8 rfl rfl)
theorem dX1_hotter_31 : decode cX1_hotter 31 = .ok (.iaload, 1) := dk_46 (dk_at dksX1_hotter_1 9 rfl rfl)
theorem dX1_hotter_32 : decode cX1_hotter 32 = .ok (.iastore, 1) := dk_79 (dk_at dksX1_hotter_1 10 rfl rfl)
theorem dX1_hotter_33 : decode cX1_hotter 33 = .ok (.aload_n 0, 1) := dk_42 (dk_at dksX1_hotter_1 11 rfl rfl)
theorem dX1_hotter_34 : decode cX1_hotter 34 = .ok (.getfield 39, 3) := dk_180 0 39 (dk_at dksX1_hotter_1 12 rfl rfl)
theorem dX1_hotter_37 : decode cX1_hotter 37 = .ok (.iconst 2, 1) := dk_5 (dk_at dksX1_hotter_1 15 rfl rfl)
theorem dX1_hotter_38 : decode cX1_hotter 38 = .ok (.aload_n 1, 1) := dk_43 (dk_at dksX1_hotter_1 16 rfl rfl)
theorem dX1_hotter_39 : decode cX1_hotter 39 = .ok (.aload_n 0, 1) := dk_42 (dk_at dksX1_hotter_1 17 rfl rfl)
theorem dX1_hotter_40 : decode cX1_hotter 40 = .ok (.iload_n 2, 1) := dk_28 (dk_at dksX1_hotter_1 18 rfl rfl)
theorem dX1_hotter_41 : decode cX1_hotter 41 = .ok (.invokevirtual 54, 3) := dk_182 0 54 (dk_at dksX1_hotter_1 19 rfl rfl)
theorem dX1_hotter_44 : decode cX1_hotter 44 = .ok (.iastore, 1) := dk_79 (dk_at dksX1_hotter_1 22 rfl rfl)
theorem dX1_hotter_45 : decode cX1_hotter 45 = .ok (.aload_n 0, 1) := dk_42 (dk_at dksX1_hotter_1 23 rfl rfl)
theorem dX1_hotter_46 : decode cX1_hotter 46 = .ok (.getfield 39, 3) := dk_180 0 39 (dk_at dksX1_hotter_2 0 rfl rfl)
theorem dX1_hotter_49 : decode cX1_hotter 49 = .ok (.iconst 3, 1) := dk_6 (dk_at dksX1_hotter_2 3 rfl rfl)
theorem dX1_hotter_50 : decode cX1_hotter 50 = .ok (.aload_n 0, 1) := dk_42 (dk_at dksX1_hotter_2 4 rfl rfl)
theorem dX1_hotter_51 : decode cX1_hotter 51 = .ok (.getfield 12, 3) := dk_180 0 12 (dk_at dksX1_hotter_2 5 rfl rfl)
theorem dX1_hotter_54 : decode cX1_hotter 54 = .ok (.iload_n 2, 1) := dk_28 (dk_at dksX1_hotter_2 8 rfl rfl)
theorem dX1_hotter_55 : decode cX1_hotter 55 = .ok (.invokevirtual 58, 3) := dk_182 0 58 (dk_at dksX1_hotter_2 9 rfl rfl)
theorem dX1_hotter_58 : decode cX1_hotter 58 = .ok (.checkcast 62, 3) := dk_192 0 62 (dk_at dksX1_hotter_2 12 rfl rfl)
theorem dX1_hotter_61 : decode cX1_hotter 61 = .ok (.getfield 64, 3) := dk_180 0 64 (dk_at dksX1_hotter_2 15 rfl rfl)
theorem dX1_hotter_64 : decode cX1_hotter 64 = .ok (.iastore, 1) := dk_79 (dk_at dksX1_hotter_2 18 rfl rfl)
theorem dX1_hotter_65 : decode cX1_hotter 65 = .ok (.aload_n 0, 1) := dk_42 (dk_at dksX1_hotter_2 19 rfl rfl)
theorem dX1_hotter_66 : decode cX1_hotter 66 = .ok (.getfield 39, 3) := dk_180 0 39 (dk_at dksX1_hotter_2 20 rfl rfl)
theorem dX1_hotter_69 : decode cX1_hotter 69 = .ok (.iconst 4, 1) := dk_7 (dk_at dksX1_hotter_2 23 rfl rfl)
theorem dX1_hotter_70 : decode cX1_hotter 70 = .ok (.aload_n 1, 1) := dk_43 (dk_at dksX1_hotter_3 0 rfl rfl)
theorem dX1_hotter_71 : decode cX1_hotter 71 = .ok (.getfield 67, 3) := dk_180 0 67 (dk_at dksX1_hotter_3 1 rfl rfl)
theorem dX1_hotter_74 : decode cX1_hotter 74 = .ok (.iload_n 2, 1) := dk_28 (dk_at dksX1_hotter_3 4 rfl rfl)
theorem dX1_hotter_75 : decode cX1_hotter 75 = .ok (.iaload, 1) := dk_46 (dk_at dksX1_hotter_3 5 rfl rfl)
theorem dX1_hotter_76 : decode cX1_hotter 76 = .ok (.iastore, 1) := dk_79 (dk_at dksX1_hotter_3 6 rfl rfl)
theorem dX1_hotter_77 : decode cX1_hotter 77 = .ok (.aload_n 0, 1) := dk_42 (dk_at dksX1_hotter_3 7 rfl rfl)
theorem dX1_hotter_78 : decode cX1_hotter 78 = .ok (.getfield 39, 3) := dk_180 0 39 (dk_at dksX1_hotter_3 8 rfl rfl)
theorem dX1_hotter_81 : decode cX1_hotter 81 = .ok (.iconst 5, 1) := dk_8 (dk_at dksX1_hotter_3 11 rfl rfl)
theorem dX1_hotter_82 : decode cX1_hotter 82 = .ok (.aload_n 1, 1) := dk_43 (dk_at dksX1_hotter_3 12 rfl rfl)
theorem dX1_hotter_83 : decode cX1_hotter 83 = .ok (.getfield 69, 3) := dk_180 0 69 (dk_at dksX1_hotter_3 13 rfl rfl)
theorem dX1_hotter_86 : decode cX1_hotter 86 = .ok (.iload_n 2, 1) := dk_28 (dk_at dksX1_hotter_3 16 rfl rfl)
theorem dX1_hotter_87 : decode cX1_hotter 87 = .ok (.iaload, 1) := dk_46 (dk_at dksX1_hotter_3 17 rfl rfl)
theorem dX1_hotter_88 : decode cX1_hotter 88 = .ok (.iastore, 1) := dk_79 (dk_at dksX1_hotter_3 18 rfl rfl)
theorem dX1_hotter_89 : decode cX1_hotter 89 = .ok (.aload_n 0, 1) := dk_42 (dk_at dksX1_hotter_3 19 rfl rfl)
theorem dX1_hotter_90 : decode cX1_hotter 90 = .ok (.getfield 42, 3) := dk_180 0 42 (dk_at dksX1_hotter_3 20 rfl rfl)
theorem dX1_hotter_93 : decode cX1_hotter 93 = .ok (.aload_n 0, 1) := dk_42 (dk_at dksX1_hotter_3 23 rfl rfl)
theorem dX1_hotter_94 : decode cX1_hotter 94 = .ok (.getfield 39, 3) := dk_180 0 39 (dk_at dksX1_hotter_4 0 rfl rfl)
theorem dX1_hotter_97 : decode cX1_hotter 97 = .ok (.invokevirtual 71, 3) := dk_182 0 71 (dk_at dksX1_hotter_4 3 rfl rfl)
theorem dX1_hotter_100 : decode cX1_hotter 100 = .ok (.bipush 99, 2) := dk_16 99 (dk_at dksX1_hotter_4 6 rfl rfl)
theorem dX1_hotter_102 : decode cX1_hotter 102 = .ok (.invokestatic 77, 3) := dk_184 0 77 (dk_at dksX1_hotter_4 8 rfl rfl)
theorem dX1_hotter_105 : decode cX1_hotter 105 = .ok (.ireturn, 1) := dk_172 (dk_at dksX1_hotter_4 11 rfl rfl)
theorem q130 : (Jvm.Cond.initialized "BoardCrossing$Rive\x72") ∈ lw_all := lw_g (lw_at lw_m1 2 rfl) rfl
theorem q173 : (Jvm.Cond.instantiable "BoardCrossing$Rive\x72" (17 : Nat)) ∈ lw_all := lw_g (lw_at lw_m1 45 rfl) rfl
theorem q175 : (Jvm.Cond.instanceMethod ({ cls := "BoardCrossing$Rive\x72", name := "<init>", desc := "()V" } : Jvm.MethodName)) ∈ lw_all := lw_g (lw_at lw_m1 47 rfl) rfl
theorem q176 : (Jvm.Cond.code ({ cls := "BoardCrossing$Rive\x72", name := "<init>", desc := "()V" } : Jvm.MethodName) prog_12_method_1_code (1 : Nat) (Option.none : Option Jvm.ClassFile.FieldType)) ∈ lw_all := lw_g (lw_at lw_m1 48 rfl) rfl
theorem q177 : (Jvm.Cond.methodLink "BoardCrossing$Rive\x72" (3 : Nat) ({ cls := "java/lang/Object", name := "<init>", desc := "()V" } : Jvm.MethodName)) ∈ lw_all := lw_g (lw_at lw_m1 49 rfl) rfl
theorem q178 : (Jvm.Cond.classLink "BoardCrossing$Rive\x72" (9 : Nat) "java/util/ArrayList") ∈ lw_all := lw_g (lw_at lw_m1 50 rfl) rfl
theorem q180 : (Jvm.Cond.methodLink "BoardCrossing$Rive\x72" (11 : Nat) ({ cls := "java/util/ArrayList", name := "<init>", desc := "()V" } : Jvm.MethodName)) ∈ lw_all := lw_g (lw_at lw_m1 52 rfl) rfl
theorem q207 : (Jvm.Cond.fieldLink "BoardCrossing$Rive\x72" (12 : Nat) "BoardCrossing$Rive\x72" "boards" "Ljava/util/ArrayList;") ∈ lw_all := lw_g (lw_at lw_m1 79 rfl) rfl
theorem q211 : (Jvm.Cond.fieldLink "BoardCrossing$Rive\x72" (18 : Nat) "BoardCrossing$Rive\x72" "loads" "Ljava/util/ArrayList;") ∈ lw_all := lw_g (lw_at lw_m1 83 rfl) rfl
theorem q215 : (Jvm.Cond.fieldLink "BoardCrossing$Rive\x72" (21 : Nat) "BoardCrossing$Rive\x72" "current" "[I") ∈ lw_all := lw_g (lw_at lw_m1 87 rfl) rfl
theorem q219 : (Jvm.Cond.fieldLink "BoardCrossing$Rive\x72" (25 : Nat) "BoardCrossing$Rive\x72" "hasCurrent" "[Z") ∈ lw_all := lw_g (lw_at lw_m1 91 rfl) rfl
theorem q221 : (Jvm.Cond.fieldLink "BoardCrossing$Rive\x72" (29 : Nat) "BoardCrossing$Rive\x72" "isIron" "[Z") ∈ lw_all := lw_g (lw_at lw_m1 93 rfl) rfl
theorem q225 : (Jvm.Cond.fieldLink "BoardCrossing$Rive\x72" (42 : Nat) "BoardCrossing$Rive\x72" "heat" "LBoardCrossing$Part;") ∈ lw_all := lw_g (lw_at lw_m1 97 rfl) rfl
theorem q229 : (Jvm.Cond.fieldLink "BoardCrossing$Rive\x72" (32 : Nat) "BoardCrossing$Rive\x72" "columns" "I") ∈ lw_all := lw_g (lw_at lw_m1 101 rfl) rfl
theorem q233 : (Jvm.Cond.fieldLink "BoardCrossing$Rive\x72" (36 : Nat) "BoardCrossing$Rive\x72" "strokes" "I") ∈ lw_all := lw_g (lw_at lw_m1 105 rfl) rfl
theorem q247 : (Jvm.Cond.fieldLink "BoardCrossing$Rive\x72" (39 : Nat) "BoardCrossing$Rive\x72" "told" "[I") ∈ lw_all := lw_g (lw_at lw_m1 119 rfl) rfl
theorem q248 : (Jvm.Cond.laysFinal "BoardCrossing$Rive\x72" "BoardCrossing$Rive\x72" "boards" "Ljava/util/ArrayList;") ∈ lw_all := lw_g (lw_at lw_m1 120 rfl) rfl
theorem q249 : (Jvm.Cond.soleField "BoardCrossing$Rive\x72" "boards") ∈ lw_all := lw_g (lw_at lw_m1 121 rfl) rfl
theorem q250 : (Jvm.Cond.laysFinal "BoardCrossing$Rive\x72" "BoardCrossing$Rive\x72" "loads" "Ljava/util/ArrayList;") ∈ lw_all := lw_g (lw_at lw_m1 122 rfl) rfl
theorem q251 : (Jvm.Cond.soleField "BoardCrossing$Rive\x72" "loads") ∈ lw_all := lw_g (lw_at lw_m1 123 rfl) rfl
theorem q252 : (Jvm.Cond.laysFinal "BoardCrossing$Rive\x72" "BoardCrossing$Rive\x72" "current" "[I") ∈ lw_all := lw_g (lw_at lw_m1 124 rfl) rfl
theorem q253 : (Jvm.Cond.soleField "BoardCrossing$Rive\x72" "current") ∈ lw_all := lw_g (lw_at lw_m1 125 rfl) rfl
theorem q254 : (Jvm.Cond.laysFinal "BoardCrossing$Rive\x72" "BoardCrossing$Rive\x72" "hasCurrent" "[Z") ∈ lw_all := lw_g (lw_at lw_m1 126 rfl) rfl
theorem q255 : (Jvm.Cond.soleField "BoardCrossing$Rive\x72" "hasCurrent") ∈ lw_all := lw_g (lw_at lw_m1 127 rfl) rfl
theorem q256 : (Jvm.Cond.laysFinal "BoardCrossing$Rive\x72" "BoardCrossing$Rive\x72" "isIron" "[Z") ∈ lw_all := lw_g (lw_at lw_m1 128 rfl) rfl
theorem q257 : (Jvm.Cond.soleField "BoardCrossing$Rive\x72" "isIron") ∈ lw_all := lw_g (lw_at lw_m1 129 rfl) rfl
theorem q258 : (Jvm.Cond.lays "BoardCrossing$Rive\x72" "BoardCrossing$Rive\x72" "heat" "LBoardCrossing$Part;") ∈ lw_all := lw_g (lw_at lw_m1 130 rfl) rfl
theorem q259 : (Jvm.Cond.soleField "BoardCrossing$Rive\x72" "heat") ∈ lw_all := lw_g (lw_at lw_m1 131 rfl) rfl
theorem q260 : (Jvm.Cond.lays "BoardCrossing$Rive\x72" "BoardCrossing$Rive\x72" "hasFlood" "Z") ∈ lw_all := lw_g (lw_at lw_m1 132 rfl) rfl
theorem q261 : (Jvm.Cond.soleField "BoardCrossing$Rive\x72" "hasFlood") ∈ lw_all := lw_g (lw_at lw_m1 133 rfl) rfl
theorem q262 : (Jvm.Cond.lays "BoardCrossing$Rive\x72" "BoardCrossing$Rive\x72" "hasDraw" "Z") ∈ lw_all := lw_g (lw_at lw_m1 134 rfl) rfl
theorem q263 : (Jvm.Cond.soleField "BoardCrossing$Rive\x72" "hasDraw") ∈ lw_all := lw_g (lw_at lw_m1 135 rfl) rfl
theorem q264 : (Jvm.Cond.lays "BoardCrossing$Rive\x72" "BoardCrossing$Rive\x72" "columns" "I") ∈ lw_all := lw_g (lw_at lw_m1 136 rfl) rfl
theorem q265 : (Jvm.Cond.soleField "BoardCrossing$Rive\x72" "columns") ∈ lw_all := lw_g (lw_at lw_m1 137 rfl) rfl
theorem q266 : (Jvm.Cond.lays "BoardCrossing$Rive\x72" "BoardCrossing$Rive\x72" "strokes" "I") ∈ lw_all := lw_g (lw_at lw_m1 138 rfl) rfl
theorem q267 : (Jvm.Cond.soleField "BoardCrossing$Rive\x72" "strokes") ∈ lw_all := lw_g (lw_at lw_m1 139 rfl) rfl
theorem q268 : (Jvm.Cond.lays "BoardCrossing$Rive\x72" "BoardCrossing$Rive\x72" "lines" "I") ∈ lw_all := lw_g (lw_at lw_m1 140 rfl) rfl
theorem q269 : (Jvm.Cond.soleField "BoardCrossing$Rive\x72" "lines") ∈ lw_all := lw_g (lw_at lw_m1 141 rfl) rfl
theorem q270 : (Jvm.Cond.lays "BoardCrossing$Rive\x72" "BoardCrossing$Rive\x72" "currents" "I") ∈ lw_all := lw_g (lw_at lw_m1 142 rfl) rfl
theorem q271 : (Jvm.Cond.soleField "BoardCrossing$Rive\x72" "currents") ∈ lw_all := lw_g (lw_at lw_m1 143 rfl) rfl
theorem q272 : (Jvm.Cond.lays "BoardCrossing$Rive\x72" "BoardCrossing$Rive\x72" "irons" "I") ∈ lw_all := lw_g (lw_at lw_m1 144 rfl) rfl
theorem q273 : (Jvm.Cond.soleField "BoardCrossing$Rive\x72" "irons") ∈ lw_all := lw_g (lw_at lw_m1 145 rfl) rfl
theorem q274 : (Jvm.Cond.lays "BoardCrossing$Rive\x72" "BoardCrossing$Rive\x72" "units" "I") ∈ lw_all := lw_g (lw_at lw_m1 146 rfl) rfl
theorem q275 : (Jvm.Cond.soleField "BoardCrossing$Rive\x72" "units") ∈ lw_all := lw_g (lw_at lw_m1 147 rfl) rfl
theorem q276 : (Jvm.Cond.lays "BoardCrossing$Rive\x72" "BoardCrossing$Rive\x72" "flood" "I") ∈ lw_all := lw_g (lw_at lw_m1 148 rfl) rfl
theorem q277 : (Jvm.Cond.soleField "BoardCrossing$Rive\x72" "flood") ∈ lw_all := lw_g (lw_at lw_m1 149 rfl) rfl
theorem q278 : (Jvm.Cond.lays "BoardCrossing$Rive\x72" "BoardCrossing$Rive\x72" "draw" "I") ∈ lw_all := lw_g (lw_at lw_m1 150 rfl) rfl
theorem q279 : (Jvm.Cond.soleField "BoardCrossing$Rive\x72" "draw") ∈ lw_all := lw_g (lw_at lw_m1 151 rfl) rfl
theorem q280 : (Jvm.Cond.laysFinal "BoardCrossing$Rive\x72" "BoardCrossing$Rive\x72" "told" "[I") ∈ lw_all := lw_g (lw_at lw_m1 152 rfl) rfl
theorem q281 : (Jvm.Cond.soleField "BoardCrossing$Rive\x72" "told") ∈ lw_all := lw_g (lw_at lw_m1 153 rfl) rfl
theorem q282 : (Jvm.Cond.superclass "BoardCrossing$Rive\x72" "java/lang/Object") ∈ lw_all := lw_g (lw_at lw_m1 154 rfl) rfl
theorem q293 : (Jvm.Cond.fieldLinkNest "BoardCrossing$Rive\x72" (51 : Nat) "BoardCrossing$State" "column" "[I" "BoardCrossing") ∈ lw_tbl := lw_at lw_m1 165 rfl
theorem q296 : (Jvm.Cond.fieldLinkNest "BoardCrossing$Rive\x72" (46 : Nat) "BoardCrossing$State" "row" "[I" "BoardCrossing") ∈ lw_tbl := lw_at lw_m1 168 rfl
theorem q301 : (Jvm.Cond.fieldLinkNest "BoardCrossing$Rive\x72" (69 : Nat) "BoardCrossing$State" "heat" "[I" "BoardCrossing") ∈ lw_tbl := lw_at lw_m1 173 rfl
theorem q307 : (Jvm.Cond.fieldLinkNest "BoardCrossing$Rive\x72" (67 : Nat) "BoardCrossing$State" "strokes" "[I" "BoardCrossing") ∈ lw_tbl := lw_at lw_m1 179 rfl
theorem q762 : (Jvm.Cond.instanceMethod ({ cls := "BoardCrossing$Rive\x72", name := "cell", desc := "(II)I" } : Jvm.MethodName)) ∈ lw_all := lw_g (lw_at lw_m3 154 rfl) rfl
theorem q763 : (Jvm.Cond.selects "BoardCrossing$Rive\x72" ({ cls := "BoardCrossing$Rive\x72", name := "cell", desc := "(II)I" } : Jvm.MethodName) ({ cls := "BoardCrossing$Rive\x72", name := "cell", desc := "(II)I" } : Jvm.MethodName)) ∈ lw_all := lw_g (lw_at lw_m3 155 rfl) rfl
theorem q764 : (Jvm.Cond.code ({ cls := "BoardCrossing$Rive\x72", name := "cell", desc := "(II)I" } : Jvm.MethodName) prog_12_method_2_code (3 : Nat) (Option.some Jvm.ClassFile.FieldType.int)) ∈ lw_all := lw_g (lw_at lw_m3 156 rfl) rfl
theorem q847 : (Jvm.Cond.fieldLink "BoardCrossing$Rive\x72" (64 : Nat) "BoardCrossing$Board" "wide" "I") ∈ lw_all := lw_g (lw_at lw_m3 239 rfl) rfl
theorem q849 : (Jvm.Cond.fieldLink "BoardCrossing$Rive\x72" (91 : Nat) "BoardCrossing$Load" "wide" "I") ∈ lw_all := lw_g (lw_at lw_m4 1 rfl) rfl
theorem q907 : (Jvm.Cond.selects "BoardCrossing$Rive\x72" ({ cls := "java/lang/Object", name := "getClass", desc := "()Ljava/lang/Class;" } : Jvm.MethodName) ({ cls := "java/lang/Object", name := "getClass", desc := "()Ljava/lang/Class;" } : Jvm.MethodName)) ∈ lw_all := lw_g (lw_at lw_m4 59 rfl) rfl
theorem q1065 : (Jvm.Cond.instanceMethod ({ cls := "BoardCrossing$Rive\x72", name := "widthOf", desc := "(I)I" } : Jvm.MethodName)) ∈ lw_all := lw_g (lw_at lw_m4 217 rfl) rfl
theorem q1066 : (Jvm.Cond.selects "BoardCrossing$Rive\x72" ({ cls := "BoardCrossing$Rive\x72", name := "widthOf", desc := "(I)I" } : Jvm.MethodName) ({ cls := "BoardCrossing$Rive\x72", name := "widthOf", desc := "(I)I" } : Jvm.MethodName)) ∈ lw_all := lw_g (lw_at lw_m4 218 rfl) rfl
theorem q1067 : (Jvm.Cond.code ({ cls := "BoardCrossing$Rive\x72", name := "widthOf", desc := "(I)I" } : Jvm.MethodName) prog_12_method_4_code (4 : Nat) (Option.some Jvm.ClassFile.FieldType.int)) ∈ lw_all := lw_g (lw_at lw_m4 219 rfl) rfl
theorem q1068 : (Jvm.Cond.methodLink "BoardCrossing$Rive\x72" (81 : Nat) ({ cls := "java/util/ArrayList", name := "size", desc := "()I" } : Jvm.MethodName)) ∈ lw_all := lw_g (lw_at lw_m4 220 rfl) rfl
theorem q1069 : (Jvm.Cond.methodLink "BoardCrossing$Rive\x72" (85 : Nat) ({ cls := "BoardCrossing$Rive\x72", name := "has", desc := "(II)Z" } : Jvm.MethodName)) ∈ lw_all := lw_g (lw_at lw_m4 221 rfl) rfl
theorem q1070 : (Jvm.Cond.static ({ cls := "BoardCrossing$Rive\x72", name := "has", desc := "(II)Z" } : Jvm.MethodName)) ∈ lw_all := lw_g (lw_at lw_m4 222 rfl) rfl
theorem q1071 : (Jvm.Cond.code ({ cls := "BoardCrossing$Rive\x72", name := "has", desc := "(II)Z" } : Jvm.MethodName) prog_12_method_5_code (2 : Nat) (Option.some Jvm.ClassFile.FieldType.boolean)) ∈ lw_all := lw_g (lw_at lw_m4 223 rfl) rfl
theorem q1072 : (Jvm.Cond.methodLink "BoardCrossing$Rive\x72" (58 : Nat) ({ cls := "java/util/ArrayList", name := "get", desc := "(I)Ljava/lang/Object;" } : Jvm.MethodName)) ∈ lw_all := lw_g (lw_at lw_m4 224 rfl) rfl
theorem q1073 : (Jvm.Cond.classLink "BoardCrossing$Rive\x72" (89 : Nat) "BoardCrossing$Load") ∈ lw_all := lw_g (lw_at lw_m4 225 rfl) rfl
theorem q1098 : (Jvm.Cond.instanceMethod ({ cls := "BoardCrossing$Rive\x72", name := "hotte\x72", desc := "(LBoardCrossing$State;I)I" } : Jvm.MethodName)) ∈ lw_all := lw_g (lw_at lw_m5 10 rfl) rfl
theorem q1099 : (Jvm.Cond.selects "BoardCrossing$Rive\x72" ({ cls := "BoardCrossing$Rive\x72", name := "hotte\x72", desc := "(LBoardCrossing$State;I)I" } : Jvm.MethodName) ({ cls := "BoardCrossing$Rive\x72", name := "hotte\x72", desc := "(LBoardCrossing$State;I)I" } : Jvm.MethodName)) ∈ lw_all := lw_g (lw_at lw_m5 11 rfl) rfl
theorem q1100 : (Jvm.Cond.code ({ cls := "BoardCrossing$Rive\x72", name := "hotte\x72", desc := "(LBoardCrossing$State;I)I" } : Jvm.MethodName) prog_12_method_3_code (3 : Nat) (Option.some Jvm.ClassFile.FieldType.int)) ∈ lw_all := lw_g (lw_at lw_m5 12 rfl) rfl
theorem q1101 : (Jvm.Cond.methodLink "BoardCrossing$Rive\x72" (54 : Nat) ({ cls := "BoardCrossing$State", name := "burden", desc := "(LBoardCrossing$River;I)I" } : Jvm.MethodName)) ∈ lw_all := lw_g (lw_at lw_m5 13 rfl) rfl
theorem q1102 : (Jvm.Cond.classLink "BoardCrossing$Rive\x72" (62 : Nat) "BoardCrossing$Board") ∈ lw_all := lw_g (lw_at lw_m5 14 rfl) rfl
theorem q1103 : (Jvm.Cond.methodLink "BoardCrossing$Rive\x72" (71 : Nat) ({ cls := "BoardCrossing$Part", name := "of", desc := "([I)I" } : Jvm.MethodName)) ∈ lw_all := lw_g (lw_at lw_m5 15 rfl) rfl
theorem q1123 : (Jvm.Cond.methodLinkNest "BoardCrossing$Rive\x72" (77 : Nat) ({ cls := "BoardCrossing", name := "within", desc := "(II)I" } : Jvm.MethodName) "BoardCrossing") ∈ lw_tbl := lw_at lw_m5 35 rfl
theorem q2242 : (Jvm.Cond.castable "BoardCrossing$Rive\x72" "java/lang/Object") ∈ lw_tbl := lw_at lw_m9 194 rfl
theorem in_X1 : ∀ w ∈ wsX10, w ∈ lw_all := lw_in wsX10 [248, 250, 252, 254, 256, 258, 260, 262, 264, 266, 268, 270, 272, 274, 276, 278, 280] (by decide +kernel) (by decide +kernel)
/-! BoardCrossing$State -/
set_option maxRecDepth 100000
def RX2 : String := "BoardCrossing$State"
def TX2 : u_T := fun k => match k with
  | 0 => ("BoardCrossing$State", "column", "[I", true)
  | 1 => ("BoardCrossing$State", "row", "[I", true)
  | 2 => ("BoardCrossing$State", "heat", "[I", true)
  | 3 => ("BoardCrossing$State", "scorches", "[I", true)
  | 4 => ("BoardCrossing$State", "strokes", "[I", true)
  | 5 => ("BoardCrossing$State", "where", "[I", true)
  | _ => ("BoardCrossing$State", "seed", "I", false)
def tyX2 : Nat → FieldType := fun k => match k with
  | 0 => .array .int
  | 1 => .array .int
  | 2 => .array .int
  | 3 => .array .int
  | 4 => .array .int
  | 5 => .array .int
  | _ => .int
abbrev wsX20 : List Cond := u_ws RX2 TX2 7
theorem nmX2 : ∀ a, a < 7 → ∀ b, b < 7 → a ≠ b → (TX2 a).2.1 ≠ (TX2 b).2.1 := by decide +kernel
theorem tyX2_ok : ∀ k, k < 7 → parseFieldDescriptor (TX2 k).2.2.1 = some (tyX2 k) := by decide +kernel
abbrev cX2_init : ByteArray := prog_14_method_1_code
def yX2_init : MethodName := ⟨RX2, "<init>", "()V"⟩
def dkwX2_init_2 : List UInt8 := [181, 0, 27, 177]
abbrev dktX2_init_2 : List UInt8 := dkwX2_init_2 ++ []
def dkwX2_init_1 : List UInt8 := [181, 0, 18, 42, 7, 188, 10, 181, 0, 21, 42, 7, 188, 10, 181, 0, 24, 42, 16, 7, 188, 10]
abbrev dktX2_init_1 : List UInt8 := dkwX2_init_1 ++ dktX2_init_2
def dkwX2_init_0 : List UInt8 := [42, 183, 0, 3, 42, 7, 188, 10, 181, 0, 9, 42, 7, 188, 10, 181, 0, 15, 42, 7, 188, 10]
abbrev dktX2_init_0 : List UInt8 := dkwX2_init_0 ++ dktX2_init_1
theorem dksX2_init_0 : cX2_init.data.toList.drop 0 = dktX2_init_0 := by decide +kernel
theorem dksX2_init_1 : cX2_init.data.toList.drop 22 = dktX2_init_1 := dk_seg dksX2_init_0 22 rfl rfl
theorem dksX2_init_2 : cX2_init.data.toList.drop 44 = dktX2_init_2 := dk_seg dksX2_init_1 22 rfl rfl
theorem dX2_init_0 : decode cX2_init 0 = .ok (.aload_n 0, 1) := dk_42 (dk_at dksX2_init_0 0 rfl rfl)
theorem dX2_init_1 : decode cX2_init 1 = .ok (.invokespecial 3, 3) := dk_183 0 3 (dk_at dksX2_init_0 1 rfl rfl)
theorem dX2_init_4 : decode cX2_init 4 = .ok (.aload_n 0, 1) := dk_42 (dk_at dksX2_init_0 4 rfl rfl)
theorem dX2_init_5 : decode cX2_init 5 = .ok (.iconst 4, 1) := dk_7 (dk_at dksX2_init_0 5 rfl rfl)
theorem dX2_init_6 : decode cX2_init 6 = .ok (.newarray .int, 2) := dk_188_10 (dk_at dksX2_init_0 6 rfl rfl)
theorem dX2_init_8 : decode cX2_init 8 = .ok (.putfield 9, 3) := dk_181 0 9 (dk_at dksX2_init_0 8 rfl rfl)
theorem dX2_init_11 : decode cX2_init 11 = .ok (.aload_n 0, 1) := dk_42 (dk_at dksX2_init_0 11 rfl rfl)
theorem dX2_init_12 : decode cX2_init 12 = .ok (.iconst 4, 1) := dk_7 (dk_at dksX2_init_0 12 rfl rfl)
theorem dX2_init_13 : decode cX2_init 13 = .ok (.newarray .int, 2) := dk_188_10 (dk_at dksX2_init_0 13 rfl rfl)
theorem dX2_init_15 : decode cX2_init 15 = .ok (.putfield 15, 3) := dk_181 0 15 (dk_at dksX2_init_0 15 rfl rfl)
theorem dX2_init_18 : decode cX2_init 18 = .ok (.aload_n 0, 1) := dk_42 (dk_at dksX2_init_0 18 rfl rfl)
theorem dX2_init_19 : decode cX2_init 19 = .ok (.iconst 4, 1) := dk_7 (dk_at dksX2_init_0 19 rfl rfl)
theorem dX2_init_20 : decode cX2_init 20 = .ok (.newarray .int, 2) := dk_188_10 (dk_at dksX2_init_0 20 rfl rfl)
theorem dX2_init_22 : decode cX2_init 22 = .ok (.putfield 18, 3) := dk_181 0 18 (dk_at dksX2_init_1 0 rfl rfl)
theorem dX2_init_25 : decode cX2_init 25 = .ok (.aload_n 0, 1) := dk_42 (dk_at dksX2_init_1 3 rfl rfl)
theorem dX2_init_26 : decode cX2_init 26 = .ok (.iconst 4, 1) := dk_7 (dk_at dksX2_init_1 4 rfl rfl)
theorem dX2_init_27 : decode cX2_init 27 = .ok (.newarray .int, 2) := dk_188_10 (dk_at dksX2_init_1 5 rfl rfl)
theorem dX2_init_29 : decode cX2_init 29 = .ok (.putfield 21, 3) := dk_181 0 21 (dk_at dksX2_init_1 7 rfl rfl)
theorem dX2_init_32 : decode cX2_init 32 = .ok (.aload_n 0, 1) := dk_42 (dk_at dksX2_init_1 10 rfl rfl)
theorem dX2_init_33 : decode cX2_init 33 = .ok (.iconst 4, 1) := dk_7 (dk_at dksX2_init_1 11 rfl rfl)
theorem dX2_init_34 : decode cX2_init 34 = .ok (.newarray .int, 2) := dk_188_10 (dk_at dksX2_init_1 12 rfl rfl)
theorem dX2_init_36 : decode cX2_init 36 = .ok (.putfield 24, 3) := dk_181 0 24 (dk_at dksX2_init_1 14 rfl rfl)
theorem dX2_init_39 : decode cX2_init 39 = .ok (.aload_n 0, 1) := dk_42 (dk_at dksX2_init_1 17 rfl rfl)
theorem dX2_init_40 : decode cX2_init 40 = .ok (.bipush 7, 2) := dk_16 7 (dk_at dksX2_init_1 18 rfl rfl)
theorem dX2_init_42 : decode cX2_init 42 = .ok (.newarray .int, 2) := dk_188_10 (dk_at dksX2_init_1 20 rfl rfl)
theorem dX2_init_44 : decode cX2_init 44 = .ok (.putfield 27, 3) := dk_181 0 27 (dk_at dksX2_init_2 0 rfl rfl)
theorem dX2_init_47 : decode cX2_init 47 = .ok (.return_, 1) := dk_177 (dk_at dksX2_init_2 3 rfl rfl)
abbrev cX2_begin : ByteArray := prog_14_method_3_code
def yX2_begin : MethodName := ⟨RX2, "begin", "(LBoardCrossing$River;)V"⟩
def dkwX2_begin_4 : List UInt8 := [167, 255, 240, 42, 43, 180, 0, 61, 181, 0, 36, 177]
abbrev dktX2_begin_4 : List UInt8 := dkwX2_begin_4 ++ []
def dkwX2_begin_3 : List UInt8 := [132, 2, 1, 167, 255, 185, 3, 61, 28, 16, 7, 162, 0, 16, 42, 180, 0, 27, 28, 2, 79, 132, 2, 1]
abbrev dktX2_begin_3 : List UInt8 := dkwX2_begin_3 ++ dktX2_begin_4
def dkwX2_begin_2 : List UInt8 := [79, 42, 180, 0, 18, 28, 3, 79, 42, 180, 0, 21, 28, 3, 79, 42, 180, 0, 24, 28, 3, 79]
abbrev dktX2_begin_2 : List UInt8 := dkwX2_begin_2 ++ dktX2_begin_3
def dkwX2_begin_1 : List UInt8 := [180, 0, 40, 28, 182, 0, 52, 192, 0, 56, 180, 0, 58, 167, 0, 4, 3, 79, 42, 180, 0, 15, 28, 3]
abbrev dktX2_begin_1 : List UInt8 := dkwX2_begin_1 ++ dktX2_begin_2
def dkwX2_begin_0 : List UInt8 := [3, 61, 28, 7, 162, 0, 72, 42, 180, 0, 9, 28, 28, 43, 180, 0, 40, 182, 0, 46, 162, 0, 20, 43]
abbrev dktX2_begin_0 : List UInt8 := dkwX2_begin_0 ++ dktX2_begin_1
theorem dksX2_begin_0 : cX2_begin.data.toList.drop 0 = dktX2_begin_0 := by decide +kernel
theorem dksX2_begin_1 : cX2_begin.data.toList.drop 24 = dktX2_begin_1 := dk_seg dksX2_begin_0 24 rfl rfl
theorem dksX2_begin_2 : cX2_begin.data.toList.drop 48 = dktX2_begin_2 := dk_seg dksX2_begin_1 24 rfl rfl
theorem dksX2_begin_3 : cX2_begin.data.toList.drop 70 = dktX2_begin_3 := dk_seg dksX2_begin_2 22 rfl rfl
theorem dksX2_begin_4 : cX2_begin.data.toList.drop 94 = dktX2_begin_4 := dk_seg dksX2_begin_3 24 rfl rfl
theorem dX2_begin_0 : decode cX2_begin 0 = .ok (.iconst 0, 1) := dk_3 (dk_at dksX2_begin_0 0 rfl rfl)
theorem dX2_begin_1 : decode cX2_begin 1 = .ok (.istore_n 2, 1) := dk_61 (dk_at dksX2_begin_0 1 rfl rfl)
theorem dX2_begin_2 : decode cX2_begin 2 = .ok (.iload_n 2, 1) := dk_28 (dk_at dksX2_begin_0 2 rfl rfl)
theorem dX2_begin_3 : decode cX2_begin 3 = .ok (.iconst 4, 1) := dk_7 (dk_at dksX2_begin_0 3 rfl rfl)
theorem dX2_begin_4 : decode cX2_begin 4 = .ok (.if_icmp .ge 72, 3) := dk_162 0 72 (dk_at dksX2_begin_0 4 rfl rfl)
theorem dX2_begin_7 : decode cX2_begin 7 = .ok (.aload_n 0, 1) := dk_42 (dk_at dksX2_begin_0 7 rfl rfl)
theorem dX2_begin_8 : decode cX2_begin 8 = .ok (.getfield 9, 3) := dk_180 0 9 (dk_at dksX2_begin_0 8 rfl rfl)
theorem dX2_begin_11 : decode cX2_begin 11 = .ok (.iload_n 2, 1) := dk_28 (dk_at dksX2_begin_0 11 rfl rfl)
theorem dX2_begin_12 : decode cX2_begin 12 = .ok (.iload_n 2, 1) := dk_28 (dk_at dksX2_begin_0 12 rfl rfl)
theorem dX2_begin_13 : decode cX2_begin 13 = .ok (.aload_n 1, 1) := dk_43 (dk_at dksX2_begin_0 13 rfl rfl)
theorem dX2_begin_14 : decode cX2_begin 14 = .ok (.getfield 40, 3) := dk_180 0 40 (dk_at dksX2_begin_0 14 rfl rfl)
theorem dX2_begin_17 : decode cX2_begin 17 = .ok (.invokevirtual 46, 3) := dk_182 0 46 (dk_at dksX2_begin_0 17 rfl rfl)
theorem dX2_begin_20 : decode cX2_begin 20 = .ok (.if_icmp .ge 20, 3) := dk_162 0 20 (dk_at dksX2_begin_0 20 rfl rfl)
theorem dX2_begin_23 : decode cX2_begin 23 = .ok (.aload_n 1, 1) := dk_43 (dk_at dksX2_begin_0 23 rfl rfl)
theorem dX2_begin_24 : decode cX2_begin 24 = .ok (.getfield 40, 3) := dk_180 0 40 (dk_at dksX2_begin_1 0 rfl rfl)
theorem dX2_begin_27 : decode cX2_begin 27 = .ok (.iload_n 2, 1) := dk_28 (dk_at dksX2_begin_1 3 rfl rfl)
theorem dX2_begin_28 : decode cX2_begin 28 = .ok (.invokevirtual 52, 3) := dk_182 0 52 (dk_at dksX2_begin_1 4 rfl rfl)
theorem dX2_begin_31 : decode cX2_begin 31 = .ok (.checkcast 56, 3) := dk_192 0 56 (dk_at dksX2_begin_1 7 rfl rfl)
theorem dX2_begin_34 : decode cX2_begin 34 = .ok (.getfield 58, 3) := dk_180 0 58 (dk_at dksX2_begin_1 10 rfl rfl)
theorem dX2_begin_37 : decode cX2_begin 37 = .ok (.goto 4, 3) := dk_167 0 4 (dk_at dksX2_begin_1 13 rfl rfl)
theorem dX2_begin_40 : decode cX2_begin 40 = .ok (.iconst 0, 1) := dk_3 (dk_at dksX2_begin_1 16 rfl rfl)
theorem dX2_begin_41 : decode cX2_begin 41 = .ok (.iastore, 1) := dk_79 (dk_at dksX2_begin_1 17 rfl rfl)
theorem dX2_begin_42 : decode cX2_begin 42 = .ok (.aload_n 0, 1) := dk_42 (dk_at dksX2_begin_1 18 rfl rfl)
theorem dX2_begin_43 : decode cX2_begin 43 = .ok (.getfield 15, 3) := dk_180 0 15 (dk_at dksX2_begin_1 19 rfl rfl)
theorem dX2_begin_46 : decode cX2_begin 46 = .ok (.iload_n 2, 1) := dk_28 (dk_at dksX2_begin_1 22 rfl rfl)
theorem dX2_begin_47 : decode cX2_begin 47 = .ok (.iconst 0, 1) := dk_3 (dk_at dksX2_begin_1 23 rfl rfl)
theorem dX2_begin_48 : decode cX2_begin 48 = .ok (.iastore, 1) := dk_79 (dk_at dksX2_begin_2 0 rfl rfl)
theorem dX2_begin_49 : decode cX2_begin 49 = .ok (.aload_n 0, 1) := dk_42 (dk_at dksX2_begin_2 1 rfl rfl)
theorem dX2_begin_50 : decode cX2_begin 50 = .ok (.getfield 18, 3) := dk_180 0 18 (dk_at dksX2_begin_2 2 rfl rfl)
theorem dX2_begin_53 : decode cX2_begin 53 = .ok (.iload_n 2, 1) := dk_28 (dk_at dksX2_begin_2 5 rfl rfl)
theorem dX2_begin_54 : decode cX2_begin 54 = .ok (.iconst 0, 1) := dk_3 (dk_at dksX2_begin_2 6 rfl rfl)
theorem dX2_begin_55 : decode cX2_begin 55 = .ok (.iastore, 1) := dk_79 (dk_at dksX2_begin_2 7 rfl rfl)
theorem dX2_begin_56 : decode cX2_begin 56 = .ok (.aload_n 0, 1) := dk_42 (dk_at dksX2_begin_2 8 rfl rfl)
theorem dX2_begin_57 : decode cX2_begin 57 = .ok (.getfield 21, 3) := dk_180 0 21 (dk_at dksX2_begin_2 9 rfl rfl)
theorem dX2_begin_60 : decode cX2_begin 60 = .ok (.iload_n 2, 1) := dk_28 (dk_at dksX2_begin_2 12 rfl rfl)
theorem dX2_begin_61 : decode cX2_begin 61 = .ok (.iconst 0, 1) := dk_3 (dk_at dksX2_begin_2 13 rfl rfl)
theorem dX2_begin_62 : decode cX2_begin 62 = .ok (.iastore, 1) := dk_79 (dk_at dksX2_begin_2 14 rfl rfl)
theorem dX2_begin_63 : decode cX2_begin 63 = .ok (.aload_n 0, 1) := dk_42 (dk_at dksX2_begin_2 15 rfl rfl)
theorem dX2_begin_64 : decode cX2_begin 64 = .ok (.getfield 24, 3) := dk_180 0 24 (dk_at dksX2_begin_2 16 rfl rfl)
theorem dX2_begin_67 : decode cX2_begin 67 = .ok (.iload_n 2, 1) := dk_28 (dk_at dksX2_begin_2 19 rfl rfl)
theorem dX2_begin_68 : decode cX2_begin 68 = .ok (.iconst 0, 1) := dk_3 (dk_at dksX2_begin_2 20 rfl rfl)
theorem dX2_begin_69 : decode cX2_begin 69 = .ok (.iastore, 1) := dk_79 (dk_at dksX2_begin_2 21 rfl rfl)
theorem dX2_begin_70 : decode cX2_begin 70 = .ok (.iinc 2 1, 3) := dk_132 2 1 (dk_at dksX2_begin_3 0 rfl rfl)
theorem dX2_begin_73 : decode cX2_begin 73 = .ok (.goto (-71), 3) := dk_167 255 185 (dk_at dksX2_begin_3 3 rfl rfl)
theorem dX2_begin_76 : decode cX2_begin 76 = .ok (.iconst 0, 1) := dk_3 (dk_at dksX2_begin_3 6 rfl rfl)
theorem dX2_begin_77 : decode cX2_begin 77 = .ok (.istore_n 2, 1) := dk_61 (dk_at dksX2_begin_3 7 rfl rfl)
theorem dX2_begin_78 : decode cX2_begin 78 = .ok (.iload_n 2, 1) := dk_28 (dk_at dksX2_begin_3 8 rfl rfl)
theorem dX2_begin_79 : decode cX2_begin 79 = .ok (.bipush 7, 2) := dk_16 7 (dk_at dksX2_begin_3 9 rfl rfl)
theorem dX2_begin_81 : decode cX2_begin 81 = .ok (.if_icmp .ge 16, 3) := dk_162 0 16 (dk_at dksX2_begin_3 11 rfl rfl)
theorem dX2_begin_84 : decode cX2_begin 84 = .ok (.aload_n 0, 1) := dk_42 (dk_at dksX2_begin_3 14 rfl rfl)
theorem dX2_begin_85 : decode cX2_begin 85 = .ok (.getfield 27, 3) := dk_180 0 27 (dk_at dksX2_begin_3 15 rfl rfl)
theorem dX2_begin_88 : decode cX2_begin 88 = .ok (.iload_n 2, 1) := dk_28 (dk_at dksX2_begin_3 18 rfl rfl)
theorem dX2_begin_89 : decode cX2_begin 89 = .ok (.iconst (-1), 1) := dk_2 (dk_at dksX2_begin_3 19 rfl rfl)
theorem dX2_begin_90 : decode cX2_begin 90 = .ok (.iastore, 1) := dk_79 (dk_at dksX2_begin_3 20 rfl rfl)
theorem dX2_begin_91 : decode cX2_begin 91 = .ok (.iinc 2 1, 3) := dk_132 2 1 (dk_at dksX2_begin_3 21 rfl rfl)
theorem dX2_begin_94 : decode cX2_begin 94 = .ok (.goto (-16), 3) := dk_167 255 240 (dk_at dksX2_begin_4 0 rfl rfl)
theorem dX2_begin_97 : decode cX2_begin 97 = .ok (.aload_n 0, 1) := dk_42 (dk_at dksX2_begin_4 3 rfl rfl)
theorem dX2_begin_98 : decode cX2_begin 98 = .ok (.aload_n 1, 1) := dk_43 (dk_at dksX2_begin_4 4 rfl rfl)
theorem dX2_begin_99 : decode cX2_begin 99 = .ok (.getfield 61, 3) := dk_180 0 61 (dk_at dksX2_begin_4 5 rfl rfl)
theorem dX2_begin_102 : decode cX2_begin 102 = .ok (.putfield 36, 3) := dk_181 0 36 (dk_at dksX2_begin_4 8 rfl rfl)
theorem dX2_begin_105 : decode cX2_begin 105 = .ok (.return_, 1) := dk_177 (dk_at dksX2_begin_4 11 rfl rfl)
abbrev cX2_burden : ByteArray := prog_14_method_5_code
def yX2_burden : MethodName := ⟨RX2, "burden", "(LBoardCrossing$River;I)I"⟩
def dkwX2_burden_0 : List UInt8 := [43, 42, 43, 28, 182, 0, 67, 182, 0, 71, 172]
abbrev dktX2_burden_0 : List UInt8 := dkwX2_burden_0 ++ []
theorem dksX2_burden_0 : cX2_burden.data.toList.drop 0 = dktX2_burden_0 := by decide +kernel
theorem dX2_burden_0 : decode cX2_burden 0 = .ok (.aload_n 1, 1) := dk_43 (dk_at dksX2_burden_0 0 rfl rfl)
theorem dX2_burden_1 : decode cX2_burden 1 = .ok (.aload_n 0, 1) := dk_42 (dk_at dksX2_burden_0 1 rfl rfl)
theorem dX2_burden_2 : decode cX2_burden 2 = .ok (.aload_n 1, 1) := dk_43 (dk_at dksX2_burden_0 2 rfl rfl)
theorem dX2_burden_3 : decode cX2_burden 3 = .ok (.iload_n 2, 1) := dk_28 (dk_at dksX2_burden_0 3 rfl rfl)
theorem dX2_burden_4 : decode cX2_burden 4 = .ok (.invokevirtual 67, 3) := dk_182 0 67 (dk_at dksX2_burden_0 4 rfl rfl)
theorem dX2_burden_7 : decode cX2_burden 7 = .ok (.invokevirtual 71, 3) := dk_182 0 71 (dk_at dksX2_burden_0 7 rfl rfl)
theorem dX2_burden_10 : decode cX2_burden 10 = .ok (.ireturn, 1) := dk_172 (dk_at dksX2_burden_0 10 rfl rfl)
abbrev cX2_loadsAt : ByteArray := prog_14_method_4_code
def yX2_loadsAt : MethodName := ⟨RX2, "loadsAt", "(LBoardCrossing$River;I)I"⟩
def dkwX2_loadsAt_1 : List UInt8 := [28, 160, 0, 10, 29, 4, 21, 4, 120, 128, 62, 132, 4, 1, 167, 255, 223, 29, 172]
abbrev dktX2_loadsAt_1 : List UInt8 := dkwX2_loadsAt_1 ++ []
def dkwX2_loadsAt_0 : List UInt8 := [3, 62, 3, 54, 4, 21, 4, 43, 180, 0, 64, 182, 0, 46, 162, 0, 27, 42, 180, 0, 27, 21, 4, 46]
abbrev dktX2_loadsAt_0 : List UInt8 := dkwX2_loadsAt_0 ++ dktX2_loadsAt_1
theorem dksX2_loadsAt_0 : cX2_loadsAt.data.toList.drop 0 = dktX2_loadsAt_0 := by decide +kernel
theorem dksX2_loadsAt_1 : cX2_loadsAt.data.toList.drop 24 = dktX2_loadsAt_1 := dk_seg dksX2_loadsAt_0 24 rfl rfl
theorem dX2_loadsAt_0 : decode cX2_loadsAt 0 = .ok (.iconst 0, 1) := dk_3 (dk_at dksX2_loadsAt_0 0 rfl rfl)
theorem dX2_loadsAt_1 : decode cX2_loadsAt 1 = .ok (.istore_n 3, 1) := dk_62 (dk_at dksX2_loadsAt_0 1 rfl rfl)
theorem dX2_loadsAt_2 : decode cX2_loadsAt 2 = .ok (.iconst 0, 1) := dk_3 (dk_at dksX2_loadsAt_0 2 rfl rfl)
theorem dX2_loadsAt_3 : decode cX2_loadsAt 3 = .ok (.istore 4, 2) := dk_54 4 (dk_at dksX2_loadsAt_0 3 rfl rfl)
theorem dX2_loadsAt_5 : decode cX2_loadsAt 5 = .ok (.iload 4, 2) := dk_21 4 (dk_at dksX2_loadsAt_0 5 rfl rfl)
theorem dX2_loadsAt_7 : decode cX2_loadsAt 7 = .ok (.aload_n 1, 1) := dk_43 (dk_at dksX2_loadsAt_0 7 rfl rfl)
theorem dX2_loadsAt_8 : decode cX2_loadsAt 8 = .ok (.getfield 64, 3) := dk_180 0 64 (dk_at dksX2_loadsAt_0 8 rfl rfl)
theorem dX2_loadsAt_11 : decode cX2_loadsAt 11 = .ok (.invokevirtual 46, 3) := dk_182 0 46 (dk_at dksX2_loadsAt_0 11 rfl rfl)
theorem dX2_loadsAt_14 : decode cX2_loadsAt 14 = .ok (.if_icmp .ge 27, 3) := dk_162 0 27 (dk_at dksX2_loadsAt_0 14 rfl rfl)
theorem dX2_loadsAt_17 : decode cX2_loadsAt 17 = .ok (.aload_n 0, 1) := dk_42 (dk_at dksX2_loadsAt_0 17 rfl rfl)
theorem dX2_loadsAt_18 : decode cX2_loadsAt 18 = .ok (.getfield 27, 3) := dk_180 0 27 (dk_at dksX2_loadsAt_0 18 rfl rfl)
theorem dX2_loadsAt_21 : decode cX2_loadsAt 21 = .ok (.iload 4, 2) := dk_21 4 (dk_at dksX2_loadsAt_0 21 rfl rfl)
theorem dX2_loadsAt_23 : decode cX2_loadsAt 23 = .ok (.iaload, 1) := dk_46 (dk_at dksX2_loadsAt_0 23 rfl rfl)
theorem dX2_loadsAt_24 : decode cX2_loadsAt 24 = .ok (.iload_n 2, 1) := dk_28 (dk_at dksX2_loadsAt_1 0 rfl rfl)
theorem dX2_loadsAt_25 : decode cX2_loadsAt 25 = .ok (.if_icmp .ne 10, 3) := dk_160 0 10 (dk_at dksX2_loadsAt_1 1 rfl rfl)
theorem dX2_loadsAt_28 : decode cX2_loadsAt 28 = .ok (.iload_n 3, 1) := dk_29 (dk_at dksX2_loadsAt_1 4 rfl rfl)
theorem dX2_loadsAt_29 : decode cX2_loadsAt 29 = .ok (.iconst 1, 1) := dk_4 (dk_at dksX2_loadsAt_1 5 rfl rfl)
theorem dX2_loadsAt_30 : decode cX2_loadsAt 30 = .ok (.iload 4, 2) := dk_21 4 (dk_at dksX2_loadsAt_1 6 rfl rfl)
theorem dX2_loadsAt_32 : decode cX2_loadsAt 32 = .ok (.ishl, 1) := dk_120 (dk_at dksX2_loadsAt_1 8 rfl rfl)
theorem dX2_loadsAt_33 : decode cX2_loadsAt 33 = .ok (.ior, 1) := dk_128 (dk_at dksX2_loadsAt_1 9 rfl rfl)
theorem dX2_loadsAt_34 : decode cX2_loadsAt 34 = .ok (.istore_n 3, 1) := dk_62 (dk_at dksX2_loadsAt_1 10 rfl rfl)
theorem dX2_loadsAt_35 : decode cX2_loadsAt 35 = .ok (.iinc 4 1, 3) := dk_132 4 1 (dk_at dksX2_loadsAt_1 11 rfl rfl)
theorem dX2_loadsAt_38 : decode cX2_loadsAt 38 = .ok (.goto (-33), 3) := dk_167 255 223 (dk_at dksX2_loadsAt_1 14 rfl rfl)
theorem dX2_loadsAt_41 : decode cX2_loadsAt 41 = .ok (.iload_n 3, 1) := dk_29 (dk_at dksX2_loadsAt_1 17 rfl rfl)
theorem dX2_loadsAt_42 : decode cX2_loadsAt 42 = .ok (.ireturn, 1) := dk_172 (dk_at dksX2_loadsAt_1 18 rfl rfl)
abbrev cX2_of : ByteArray := prog_14_method_2_code
def yX2_of : MethodName := ⟨RX2, "of", "(LBoardCrossing$State;)V"⟩
def dkwX2_of_3 : List UInt8 := [180, 0, 27, 3, 42, 180, 0, 27, 3, 16, 7, 184, 0, 30, 42, 43, 180, 0, 36, 181, 0, 36, 177]
abbrev dktX2_of_3 : List UInt8 := dkwX2_of_3 ++ []
def dkwX2_of_2 : List UInt8 := [180, 0, 21, 3, 7, 184, 0, 30, 43, 180, 0, 24, 3, 42, 180, 0, 24, 3, 7, 184, 0, 30, 43]
abbrev dktX2_of_2 : List UInt8 := dkwX2_of_2 ++ dktX2_of_3
def dkwX2_of_1 : List UInt8 := [7, 184, 0, 30, 43, 180, 0, 18, 3, 42, 180, 0, 18, 3, 7, 184, 0, 30, 43, 180, 0, 21, 3, 42]
abbrev dktX2_of_1 : List UInt8 := dkwX2_of_1 ++ dktX2_of_2
def dkwX2_of_0 : List UInt8 := [43, 180, 0, 9, 3, 42, 180, 0, 9, 3, 7, 184, 0, 30, 43, 180, 0, 15, 3, 42, 180, 0, 15, 3]
abbrev dktX2_of_0 : List UInt8 := dkwX2_of_0 ++ dktX2_of_1
theorem dksX2_of_0 : cX2_of.data.toList.drop 0 = dktX2_of_0 := by decide +kernel
theorem dksX2_of_1 : cX2_of.data.toList.drop 24 = dktX2_of_1 := dk_seg dksX2_of_0 24 rfl rfl
theorem dksX2_of_2 : cX2_of.data.toList.drop 48 = dktX2_of_2 := dk_seg dksX2_of_1 24 rfl rfl
theorem dksX2_of_3 : cX2_of.data.toList.drop 71 = dktX2_of_3 := dk_seg dksX2_of_2 23 rfl rfl
theorem dX2_of_0 : decode cX2_of 0 = .ok (.aload_n 1, 1) := dk_43 (dk_at dksX2_of_0 0 rfl rfl)
theorem dX2_of_1 : decode cX2_of 1 = .ok (.getfield 9, 3) := dk_180 0 9 (dk_at dksX2_of_0 1 rfl rfl)
theorem dX2_of_4 : decode cX2_of 4 = .ok (.iconst 0, 1) := dk_3 (dk_at dksX2_of_0 4 rfl rfl)
theorem dX2_of_5 : decode cX2_of 5 = .ok (.aload_n 0, 1) := dk_42 (dk_at dksX2_of_0 5 rfl rfl)
theorem dX2_of_6 : decode cX2_of 6 = .ok (.getfield 9, 3) := dk_180 0 9 (dk_at dksX2_of_0 6 rfl rfl)
theorem dX2_of_9 : decode cX2_of 9 = .ok (.iconst 0, 1) := dk_3 (dk_at dksX2_of_0 9 rfl rfl)
theorem dX2_of_10 : decode cX2_of 10 = .ok (.iconst 4, 1) := dk_7 (dk_at dksX2_of_0 10 rfl rfl)
theorem dX2_of_11 : decode cX2_of 11 = .ok (.invokestatic 30, 3) := dk_184 0 30 (dk_at dksX2_of_0 11 rfl rfl)
theorem dX2_of_14 : decode cX2_of 14 = .ok (.aload_n 1, 1) := dk_43 (dk_at dksX2_of_0 14 rfl rfl)
theorem dX2_of_15 : decode cX2_of 15 = .ok (.getfield 15, 3) := dk_180 0 15 (dk_at dksX2_of_0 15 rfl rfl)
theorem dX2_of_18 : decode cX2_of 18 = .ok (.iconst 0, 1) := dk_3 (dk_at dksX2_of_0 18 rfl rfl)
theorem dX2_of_19 : decode cX2_of 19 = .ok (.aload_n 0, 1) := dk_42 (dk_at dksX2_of_0 19 rfl rfl)
theorem dX2_of_20 : decode cX2_of 20 = .ok (.getfield 15, 3) := dk_180 0 15 (dk_at dksX2_of_0 20 rfl rfl)
theorem dX2_of_23 : decode cX2_of 23 = .ok (.iconst 0, 1) := dk_3 (dk_at dksX2_of_0 23 rfl rfl)
theorem dX2_of_24 : decode cX2_of 24 = .ok (.iconst 4, 1) := dk_7 (dk_at dksX2_of_1 0 rfl rfl)
theorem dX2_of_25 : decode cX2_of 25 = .ok (.invokestatic 30, 3) := dk_184 0 30 (dk_at dksX2_of_1 1 rfl rfl)
theorem dX2_of_28 : decode cX2_of 28 = .ok (.aload_n 1, 1) := dk_43 (dk_at dksX2_of_1 4 rfl rfl)
theorem dX2_of_29 : decode cX2_of 29 = .ok (.getfield 18, 3) := dk_180 0 18 (dk_at dksX2_of_1 5 rfl rfl)
theorem dX2_of_32 : decode cX2_of 32 = .ok (.iconst 0, 1) := dk_3 (dk_at dksX2_of_1 8 rfl rfl)
theorem dX2_of_33 : decode cX2_of 33 = .ok (.aload_n 0, 1) := dk_42 (dk_at dksX2_of_1 9 rfl rfl)
theorem dX2_of_34 : decode cX2_of 34 = .ok (.getfield 18, 3) := dk_180 0 18 (dk_at dksX2_of_1 10 rfl rfl)
theorem dX2_of_37 : decode cX2_of 37 = .ok (.iconst 0, 1) := dk_3 (dk_at dksX2_of_1 13 rfl rfl)
theorem dX2_of_38 : decode cX2_of 38 = .ok (.iconst 4, 1) := dk_7 (dk_at dksX2_of_1 14 rfl rfl)
theorem dX2_of_39 : decode cX2_of 39 = .ok (.invokestatic 30, 3) := dk_184 0 30 (dk_at dksX2_of_1 15 rfl rfl)
theorem dX2_of_42 : decode cX2_of 42 = .ok (.aload_n 1, 1) := dk_43 (dk_at dksX2_of_1 18 rfl rfl)
theorem dX2_of_43 : decode cX2_of 43 = .ok (.getfield 21, 3) := dk_180 0 21 (dk_at dksX2_of_1 19 rfl rfl)
theorem dX2_of_46 : decode cX2_of 46 = .ok (.iconst 0, 1) := dk_3 (dk_at dksX2_of_1 22 rfl rfl)
theorem dX2_of_47 : decode cX2_of 47 = .ok (.aload_n 0, 1) := dk_42 (dk_at dksX2_of_1 23 rfl rfl)
theorem dX2_of_48 : decode cX2_of 48 = .ok (.getfield 21, 3) := dk_180 0 21 (dk_at dksX2_of_2 0 rfl rfl)
theorem dX2_of_51 : decode cX2_of 51 = .ok (.iconst 0, 1) := dk_3 (dk_at dksX2_of_2 3 rfl rfl)
theorem dX2_of_52 : decode cX2_of 52 = .ok (.iconst 4, 1) := dk_7 (dk_at dksX2_of_2 4 rfl rfl)
theorem dX2_of_53 : decode cX2_of 53 = .ok (.invokestatic 30, 3) := dk_184 0 30 (dk_at dksX2_of_2 5 rfl rfl)
theorem dX2_of_56 : decode cX2_of 56 = .ok (.aload_n 1, 1) := dk_43 (dk_at dksX2_of_2 8 rfl rfl)
theorem dX2_of_57 : decode cX2_of 57 = .ok (.getfield 24, 3) := dk_180 0 24 (dk_at dksX2_of_2 9 rfl rfl)
theorem dX2_of_60 : decode cX2_of 60 = .ok (.iconst 0, 1) := dk_3 (dk_at dksX2_of_2 12 rfl rfl)
theorem dX2_of_61 : decode cX2_of 61 = .ok (.aload_n 0, 1) := dk_42 (dk_at dksX2_of_2 13 rfl rfl)
theorem dX2_of_62 : decode cX2_of 62 = .ok (.getfield 24, 3) := dk_180 0 24 (dk_at dksX2_of_2 14 rfl rfl)
theorem dX2_of_65 : decode cX2_of 65 = .ok (.iconst 0, 1) := dk_3 (dk_at dksX2_of_2 17 rfl rfl)
theorem dX2_of_66 : decode cX2_of 66 = .ok (.iconst 4, 1) := dk_7 (dk_at dksX2_of_2 18 rfl rfl)
theorem dX2_of_67 : decode cX2_of 67 = .ok (.invokestatic 30, 3) := dk_184 0 30 (dk_at dksX2_of_2 19 rfl rfl)
theorem dX2_of_70 : decode cX2_of 70 = .ok (.aload_n 1, 1) := dk_43 (dk_at dksX2_of_2 22 rfl rfl)
theorem dX2_of_71 : decode cX2_of 71 = .ok (.getfield 27, 3) := dk_180 0 27 (dk_at dksX2_of_3 0 rfl rfl)
theorem dX2_of_74 : decode cX2_of 74 = .ok (.iconst 0, 1) := dk_3 (dk_at dksX2_of_3 3 rfl rfl)
theorem dX2_of_75 : decode cX2_of 75 = .ok (.aload_n 0, 1) := dk_42 (dk_at dksX2_of_3 4 rfl rfl)
theorem dX2_of_76 : decode cX2_of 76 = .ok (.getfield 27, 3) := dk_180 0 27 (dk_at dksX2_of_3 5 rfl rfl)
theorem dX2_of_79 : decode cX2_of 79 = .ok (.iconst 0, 1) := dk_3 (dk_at dksX2_of_3 8 rfl rfl)
theorem dX2_of_80 : decode cX2_of 80 = .ok (.bipush 7, 2) := dk_16 7 (dk_at dksX2_of_3 9 rfl rfl)
theorem dX2_of_82 : decode cX2_of 82 = .ok (.invokestatic 30, 3) := dk_184 0 30 (dk_at dksX2_of_3 11 rfl rfl)
theorem dX2_of_85 : decode cX2_of 85 = .ok (.aload_n 0, 1) := dk_42 (dk_at dksX2_of_3 14 rfl rfl)
theorem dX2_of_86 : decode cX2_of 86 = .ok (.aload_n 1, 1) := dk_43 (dk_at dksX2_of_3 15 rfl rfl)
theorem dX2_of_87 : decode cX2_of 87 = .ok (.getfield 36, 3) := dk_180 0 36 (dk_at dksX2_of_3 16 rfl rfl)
theorem dX2_of_90 : decode cX2_of 90 = .ok (.putfield 36, 3) := dk_181 0 36 (dk_at dksX2_of_3 19 rfl rfl)
theorem dX2_of_93 : decode cX2_of 93 = .ok (.return_, 1) := dk_177 (dk_at dksX2_of_3 22 rfl rfl)
abbrev cX2_stroke : ByteArray := prog_14_method_7_code
def yX2_stroke : MethodName := ⟨RX2, "stroke", "(LBoardCrossing$River;IIZZ)I"⟩
def dkwX2_stroke_10 : List UInt8 := [6, 167, 0, 4, 5, 172]
abbrev dktX2_stroke_10 : List UInt8 := dkwX2_stroke_10 ++ []
def dkwX2_stroke_9 : List UInt8 := [180, 0, 21, 28, 17, 3, 231, 42, 180, 0, 21, 28, 46, 4, 96, 184, 0, 98, 79, 21, 10, 153, 0, 7]
abbrev dktX2_stroke_9 : List UInt8 := dkwX2_stroke_9 ++ dktX2_stroke_10
def dkwX2_stroke_8 : List UInt8 := [163, 0, 14, 21, 10, 153, 0, 7, 4, 167, 0, 4, 3, 172, 42, 180, 0, 18, 28, 3, 79, 42]
abbrev dktX2_stroke_8 : List UInt8 := dkwX2_stroke_8 ++ dktX2_stroke_9
def dkwX2_stroke_7 : List UInt8 := [184, 0, 98, 79, 42, 180, 0, 18, 28, 46, 43, 180, 0, 40, 28, 182, 0, 52, 192, 0, 56, 180, 0, 103]
abbrev dktX2_stroke_7 : List UInt8 := dkwX2_stroke_7 ++ dktX2_stroke_8
def dkwX2_stroke_6 : List UInt8 := [180, 0, 15, 28, 21, 9, 79, 42, 180, 0, 18, 28, 16, 99, 42, 180, 0, 18, 28, 46, 21, 6, 96]
abbrev dktX2_stroke_6 : List UInt8 := dkwX2_stroke_6 ++ dktX2_stroke_7
def dkwX2_stroke_5 : List UInt8 := [180, 0, 24, 28, 92, 46, 4, 96, 79, 21, 10, 154, 0, 19, 42, 180, 0, 9, 28, 21, 8, 79, 42]
abbrev dktX2_stroke_5 : List UInt8 := dkwX2_stroke_5 ++ dktX2_stroke_6
def dkwX2_stroke_4 : List UInt8 := [167, 0, 4, 2, 96, 54, 9, 43, 180, 0, 94, 43, 21, 8, 21, 9, 182, 0, 84, 51, 54, 10, 42]
abbrev dktX2_stroke_4 : List UInt8 := dkwX2_stroke_4 ++ dktX2_stroke_5
def dkwX2_stroke_3 : List UInt8 := [96, 43, 180, 0, 88, 4, 100, 184, 0, 91, 54, 8, 42, 180, 0, 15, 28, 46, 21, 4, 153, 0, 7, 4]
abbrev dktX2_stroke_3 : List UInt8 := dkwX2_stroke_3 ++ dktX2_stroke_4
def dkwX2_stroke_2 : List UInt8 := [54, 7, 42, 180, 0, 9, 28, 46, 29, 96, 21, 5, 153, 0, 10, 5, 21, 7, 104, 167, 0, 5, 21, 7]
abbrev dktX2_stroke_2 : List UInt8 := dkwX2_stroke_2 ++ dktX2_stroke_3
def dkwX2_stroke_1 : List UInt8 := [180, 0, 81, 43, 42, 180, 0, 9, 28, 46, 42, 180, 0, 15, 28, 46, 182, 0, 84, 46, 167, 0, 4, 3]
abbrev dktX2_stroke_1 : List UInt8 := dkwX2_stroke_1 ++ dktX2_stroke_2
def dkwX2_stroke_0 : List UInt8 := [43, 42, 28, 182, 0, 77, 54, 6, 42, 180, 0, 15, 28, 46, 43, 180, 0, 75, 162, 0, 27, 43]
abbrev dktX2_stroke_0 : List UInt8 := dkwX2_stroke_0 ++ dktX2_stroke_1
theorem dksX2_stroke_0 : cX2_stroke.data.toList.drop 0 = dktX2_stroke_0 := by decide +kernel
theorem dksX2_stroke_1 : cX2_stroke.data.toList.drop 22 = dktX2_stroke_1 := dk_seg dksX2_stroke_0 22 rfl rfl
theorem dksX2_stroke_2 : cX2_stroke.data.toList.drop 46 = dktX2_stroke_2 := dk_seg dksX2_stroke_1 24 rfl rfl
theorem dksX2_stroke_3 : cX2_stroke.data.toList.drop 70 = dktX2_stroke_3 := dk_seg dksX2_stroke_2 24 rfl rfl
theorem dksX2_stroke_4 : cX2_stroke.data.toList.drop 94 = dktX2_stroke_4 := dk_seg dksX2_stroke_3 24 rfl rfl
theorem dksX2_stroke_5 : cX2_stroke.data.toList.drop 117 = dktX2_stroke_5 := dk_seg dksX2_stroke_4 23 rfl rfl
theorem dksX2_stroke_6 : cX2_stroke.data.toList.drop 140 = dktX2_stroke_6 := dk_seg dksX2_stroke_5 23 rfl rfl
theorem dksX2_stroke_7 : cX2_stroke.data.toList.drop 163 = dktX2_stroke_7 := dk_seg dksX2_stroke_6 23 rfl rfl
theorem dksX2_stroke_8 : cX2_stroke.data.toList.drop 187 = dktX2_stroke_8 := dk_seg dksX2_stroke_7 24 rfl rfl
theorem dksX2_stroke_9 : cX2_stroke.data.toList.drop 209 = dktX2_stroke_9 := dk_seg dksX2_stroke_8 22 rfl rfl
theorem dksX2_stroke_10 : cX2_stroke.data.toList.drop 233 = dktX2_stroke_10 := dk_seg dksX2_stroke_9 24 rfl rfl
theorem dX2_stroke_0 : decode cX2_stroke 0 = .ok (.aload_n 1, 1) := dk_43 (dk_at dksX2_stroke_0 0 rfl rfl)
theorem dX2_stroke_1 : decode cX2_stroke 1 = .ok (.aload_n 0, 1) := dk_42 (dk_at dksX2_stroke_0 1 rfl rfl)
theorem dX2_stroke_2 : decode cX2_stroke 2 = .ok (.iload_n 2, 1) := dk_28 (dk_at dksX2_stroke_0 2 rfl rfl)
theorem dX2_stroke_3 : decode cX2_stroke 3 = .ok (.invokevirtual 77, 3) := dk_182 0 77 (dk_at dksX2_stroke_0 3 rfl rfl)
theorem dX2_stroke_6 : decode cX2_stroke 6 = .ok (.istore 6, 2) := dk_54 6 (dk_at dksX2_stroke_0 6 rfl rfl)
theorem dX2_stroke_8 : decode cX2_stroke 8 = .ok (.aload_n 0, 1) := dk_42 (dk_at dksX2_stroke_0 8 rfl rfl)
theorem dX2_stroke_9 : decode cX2_stroke 9 = .ok (.getfield 15, 3) := dk_180 0 15 (dk_at dksX2_stroke_0 9 rfl rfl)
theorem dX2_stroke_12 : decode cX2_stroke 12 = .ok (.iload_n 2, 1) := dk_28 (dk_at dksX2_stroke_0 12 rfl rfl)
theorem dX2_stroke_13 : decode cX2_stroke 13 = .ok (.iaload, 1) := dk_46 (dk_at dksX2_stroke_0 13 rfl rfl)
theorem dX2_stroke_14 : decode cX2_stroke 14 = .ok (.aload_n 1, 1) := dk_43 (dk_at dksX2_stroke_0 14 rfl rfl)
theorem dX2_stroke_15 : decode cX2_stroke 15 = .ok (.getfield 75, 3) := dk_180 0 75 (dk_at dksX2_stroke_0 15 rfl rfl)
theorem dX2_stroke_18 : decode cX2_stroke 18 = .ok (.if_icmp .ge 27, 3) := dk_162 0 27 (dk_at dksX2_stroke_0 18 rfl rfl)
theorem dX2_stroke_21 : decode cX2_stroke 21 = .ok (.aload_n 1, 1) := dk_43 (dk_at dksX2_stroke_0 21 rfl rfl)
theorem dX2_stroke_22 : decode cX2_stroke 22 = .ok (.getfield 81, 3) := dk_180 0 81 (dk_at dksX2_stroke_1 0 rfl rfl)
theorem dX2_stroke_25 : decode cX2_stroke 25 = .ok (.aload_n 1, 1) := dk_43 (dk_at dksX2_stroke_1 3 rfl rfl)
theorem dX2_stroke_26 : decode cX2_stroke 26 = .ok (.aload_n 0, 1) := dk_42 (dk_at dksX2_stroke_1 4 rfl rfl)
theorem dX2_stroke_27 : decode cX2_stroke 27 = .ok (.getfield 9, 3) := dk_180 0 9 (dk_at dksX2_stroke_1 5 rfl rfl)
theorem dX2_stroke_30 : decode cX2_stroke 30 = .ok (.iload_n 2, 1) := dk_28 (dk_at dksX2_stroke_1 8 rfl rfl)
theorem dX2_stroke_31 : decode cX2_stroke 31 = .ok (.iaload, 1) := dk_46 (dk_at dksX2_stroke_1 9 rfl rfl)
theorem dX2_stroke_32 : decode cX2_stroke 32 = .ok (.aload_n 0, 1) := dk_42 (dk_at dksX2_stroke_1 10 rfl rfl)
theorem dX2_stroke_33 : decode cX2_stroke 33 = .ok (.getfield 15, 3) := dk_180 0 15 (dk_at dksX2_stroke_1 11 rfl rfl)
theorem dX2_stroke_36 : decode cX2_stroke 36 = .ok (.iload_n 2, 1) := dk_28 (dk_at dksX2_stroke_1 14 rfl rfl)
theorem dX2_stroke_37 : decode cX2_stroke 37 = .ok (.iaload, 1) := dk_46 (dk_at dksX2_stroke_1 15 rfl rfl)
theorem dX2_stroke_38 : decode cX2_stroke 38 = .ok (.invokevirtual 84, 3) := dk_182 0 84 (dk_at dksX2_stroke_1 16 rfl rfl)
theorem dX2_stroke_41 : decode cX2_stroke 41 = .ok (.iaload, 1) := dk_46 (dk_at dksX2_stroke_1 19 rfl rfl)
theorem dX2_stroke_42 : decode cX2_stroke 42 = .ok (.goto 4, 3) := dk_167 0 4 (dk_at dksX2_stroke_1 20 rfl rfl)
theorem dX2_stroke_45 : decode cX2_stroke 45 = .ok (.iconst 0, 1) := dk_3 (dk_at dksX2_stroke_1 23 rfl rfl)
theorem dX2_stroke_46 : decode cX2_stroke 46 = .ok (.istore 7, 2) := dk_54 7 (dk_at dksX2_stroke_2 0 rfl rfl)
theorem dX2_stroke_48 : decode cX2_stroke 48 = .ok (.aload_n 0, 1) := dk_42 (dk_at dksX2_stroke_2 2 rfl rfl)
theorem dX2_stroke_49 : decode cX2_stroke 49 = .ok (.getfield 9, 3) := dk_180 0 9 (dk_at dksX2_stroke_2 3 rfl rfl)
theorem dX2_stroke_52 : decode cX2_stroke 52 = .ok (.iload_n 2, 1) := dk_28 (dk_at dksX2_stroke_2 6 rfl rfl)
theorem dX2_stroke_53 : decode cX2_stroke 53 = .ok (.iaload, 1) := dk_46 (dk_at dksX2_stroke_2 7 rfl rfl)
theorem dX2_stroke_54 : decode cX2_stroke 54 = .ok (.iload_n 3, 1) := dk_29 (dk_at dksX2_stroke_2 8 rfl rfl)
theorem dX2_stroke_55 : decode cX2_stroke 55 = .ok (.iadd, 1) := dk_96 (dk_at dksX2_stroke_2 9 rfl rfl)
theorem dX2_stroke_56 : decode cX2_stroke 56 = .ok (.iload 5, 2) := dk_21 5 (dk_at dksX2_stroke_2 10 rfl rfl)
theorem dX2_stroke_58 : decode cX2_stroke 58 = .ok (.ifCond .eq 10, 3) := dk_153 0 10 (dk_at dksX2_stroke_2 12 rfl rfl)
theorem dX2_stroke_61 : decode cX2_stroke 61 = .ok (.iconst 2, 1) := dk_5 (dk_at dksX2_stroke_2 15 rfl rfl)
theorem dX2_stroke_62 : decode cX2_stroke 62 = .ok (.iload 7, 2) := dk_21 7 (dk_at dksX2_stroke_2 16 rfl rfl)
theorem dX2_stroke_64 : decode cX2_stroke 64 = .ok (.imul, 1) := dk_104 (dk_at dksX2_stroke_2 18 rfl rfl)
theorem dX2_stroke_65 : decode cX2_stroke 65 = .ok (.goto 5, 3) := dk_167 0 5 (dk_at dksX2_stroke_2 19 rfl rfl)
theorem dX2_stroke_68 : decode cX2_stroke 68 = .ok (.iload 7, 2) := dk_21 7 (dk_at dksX2_stroke_2 22 rfl rfl)
theorem dX2_stroke_70 : decode cX2_stroke 70 = .ok (.iadd, 1) := dk_96 (dk_at dksX2_stroke_3 0 rfl rfl)
theorem dX2_stroke_71 : decode cX2_stroke 71 = .ok (.aload_n 1, 1) := dk_43 (dk_at dksX2_stroke_3 1 rfl rfl)
theorem dX2_stroke_72 : decode cX2_stroke 72 = .ok (.getfield 88, 3) := dk_180 0 88 (dk_at dksX2_stroke_3 2 rfl rfl)
theorem dX2_stroke_75 : decode cX2_stroke 75 = .ok (.iconst 1, 1) := dk_4 (dk_at dksX2_stroke_3 5 rfl rfl)
theorem dX2_stroke_76 : decode cX2_stroke 76 = .ok (.isub, 1) := dk_100 (dk_at dksX2_stroke_3 6 rfl rfl)
theorem dX2_stroke_77 : decode cX2_stroke 77 = .ok (.invokestatic 91, 3) := dk_184 0 91 (dk_at dksX2_stroke_3 7 rfl rfl)
theorem dX2_stroke_80 : decode cX2_stroke 80 = .ok (.istore 8, 2) := dk_54 8 (dk_at dksX2_stroke_3 10 rfl rfl)
theorem dX2_stroke_82 : decode cX2_stroke 82 = .ok (.aload_n 0, 1) := dk_42 (dk_at dksX2_stroke_3 12 rfl rfl)
theorem dX2_stroke_83 : decode cX2_stroke 83 = .ok (.getfield 15, 3) := dk_180 0 15 (dk_at dksX2_stroke_3 13 rfl rfl)
theorem dX2_stroke_86 : decode cX2_stroke 86 = .ok (.iload_n 2, 1) := dk_28 (dk_at dksX2_stroke_3 16 rfl rfl)
theorem dX2_stroke_87 : decode cX2_stroke 87 = .ok (.iaload, 1) := dk_46 (dk_at dksX2_stroke_3 17 rfl rfl)
theorem dX2_stroke_88 : decode cX2_stroke 88 = .ok (.iload 4, 2) := dk_21 4 (dk_at dksX2_stroke_3 18 rfl rfl)
theorem dX2_stroke_90 : decode cX2_stroke 90 = .ok (.ifCond .eq 7, 3) := dk_153 0 7 (dk_at dksX2_stroke_3 20 rfl rfl)
theorem dX2_stroke_93 : decode cX2_stroke 93 = .ok (.iconst 1, 1) := dk_4 (dk_at dksX2_stroke_3 23 rfl rfl)
theorem dX2_stroke_94 : decode cX2_stroke 94 = .ok (.goto 4, 3) := dk_167 0 4 (dk_at dksX2_stroke_4 0 rfl rfl)
theorem dX2_stroke_97 : decode cX2_stroke 97 = .ok (.iconst (-1), 1) := dk_2 (dk_at dksX2_stroke_4 3 rfl rfl)
theorem dX2_stroke_98 : decode cX2_stroke 98 = .ok (.iadd, 1) := dk_96 (dk_at dksX2_stroke_4 4 rfl rfl)
theorem dX2_stroke_99 : decode cX2_stroke 99 = .ok (.istore 9, 2) := dk_54 9 (dk_at dksX2_stroke_4 5 rfl rfl)
theorem dX2_stroke_101 : decode cX2_stroke 101 = .ok (.aload_n 1, 1) := dk_43 (dk_at dksX2_stroke_4 7 rfl rfl)
theorem dX2_stroke_102 : decode cX2_stroke 102 = .ok (.getfield 94, 3) := dk_180 0 94 (dk_at dksX2_stroke_4 8 rfl rfl)
theorem dX2_stroke_105 : decode cX2_stroke 105 = .ok (.aload_n 1, 1) := dk_43 (dk_at dksX2_stroke_4 11 rfl rfl)
theorem dX2_stroke_106 : decode cX2_stroke 106 = .ok (.iload 8, 2) := dk_21 8 (dk_at dksX2_stroke_4 12 rfl rfl)
theorem dX2_stroke_108 : decode cX2_stroke 108 = .ok (.iload 9, 2) := dk_21 9 (dk_at dksX2_stroke_4 14 rfl rfl)
theorem dX2_stroke_110 : decode cX2_stroke 110 = .ok (.invokevirtual 84, 3) := dk_182 0 84 (dk_at dksX2_stroke_4 16 rfl rfl)
theorem dX2_stroke_113 : decode cX2_stroke 113 = .ok (.baload, 1) := dk_51 (dk_at dksX2_stroke_4 19 rfl rfl)
theorem dX2_stroke_114 : decode cX2_stroke 114 = .ok (.istore 10, 2) := dk_54 10 (dk_at dksX2_stroke_4 20 rfl rfl)
theorem dX2_stroke_116 : decode cX2_stroke 116 = .ok (.aload_n 0, 1) := dk_42 (dk_at dksX2_stroke_4 22 rfl rfl)
theorem dX2_stroke_117 : decode cX2_stroke 117 = .ok (.getfield 24, 3) := dk_180 0 24 (dk_at dksX2_stroke_5 0 rfl rfl)
theorem dX2_stroke_120 : decode cX2_stroke 120 = .ok (.iload_n 2, 1) := dk_28 (dk_at dksX2_stroke_5 3 rfl rfl)
theorem dX2_stroke_121 : decode cX2_stroke 121 = .ok (.dup2, 1) := dk_92 (dk_at dksX2_stroke_5 4 rfl rfl)
theorem dX2_stroke_122 : decode cX2_stroke 122 = .ok (.iaload, 1) := dk_46 (dk_at dksX2_stroke_5 5 rfl rfl)
theorem dX2_stroke_123 : decode cX2_stroke 123 = .ok (.iconst 1, 1) := dk_4 (dk_at dksX2_stroke_5 6 rfl rfl)
theorem dX2_stroke_124 : decode cX2_stroke 124 = .ok (.iadd, 1) := dk_96 (dk_at dksX2_stroke_5 7 rfl rfl)
theorem dX2_stroke_125 : decode cX2_stroke 125 = .ok (.iastore, 1) := dk_79 (dk_at dksX2_stroke_5 8 rfl rfl)
theorem dX2_stroke_126 : decode cX2_stroke 126 = .ok (.iload 10, 2) := dk_21 10 (dk_at dksX2_stroke_5 9 rfl rfl)
theorem dX2_stroke_128 : decode cX2_stroke 128 = .ok (.ifCond .ne 19, 3) := dk_154 0 19 (dk_at dksX2_stroke_5 11 rfl rfl)
theorem dX2_stroke_131 : decode cX2_stroke 131 = .ok (.aload_n 0, 1) := dk_42 (dk_at dksX2_stroke_5 14 rfl rfl)
theorem dX2_stroke_132 : decode cX2_stroke 132 = .ok (.getfield 9, 3) := dk_180 0 9 (dk_at dksX2_stroke_5 15 rfl rfl)
theorem dX2_stroke_135 : decode cX2_stroke 135 = .ok (.iload_n 2, 1) := dk_28 (dk_at dksX2_stroke_5 18 rfl rfl)
theorem dX2_stroke_136 : decode cX2_stroke 136 = .ok (.iload 8, 2) := dk_21 8 (dk_at dksX2_stroke_5 19 rfl rfl)
theorem dX2_stroke_138 : decode cX2_stroke 138 = .ok (.iastore, 1) := dk_79 (dk_at dksX2_stroke_5 21 rfl rfl)
theorem dX2_stroke_139 : decode cX2_stroke 139 = .ok (.aload_n 0, 1) := dk_42 (dk_at dksX2_stroke_5 22 rfl rfl)
theorem dX2_stroke_140 : decode cX2_stroke 140 = .ok (.getfield 15, 3) := dk_180 0 15 (dk_at dksX2_stroke_6 0 rfl rfl)
theorem dX2_stroke_143 : decode cX2_stroke 143 = .ok (.iload_n 2, 1) := dk_28 (dk_at dksX2_stroke_6 3 rfl rfl)
theorem dX2_stroke_144 : decode cX2_stroke 144 = .ok (.iload 9, 2) := dk_21 9 (dk_at dksX2_stroke_6 4 rfl rfl)
theorem dX2_stroke_146 : decode cX2_stroke 146 = .ok (.iastore, 1) := dk_79 (dk_at dksX2_stroke_6 6 rfl rfl)
theorem dX2_stroke_147 : decode cX2_stroke 147 = .ok (.aload_n 0, 1) := dk_42 (dk_at dksX2_stroke_6 7 rfl rfl)
theorem dX2_stroke_148 : decode cX2_stroke 148 = .ok (.getfield 18, 3) := dk_180 0 18 (dk_at dksX2_stroke_6 8 rfl rfl)
theorem dX2_stroke_151 : decode cX2_stroke 151 = .ok (.iload_n 2, 1) := dk_28 (dk_at dksX2_stroke_6 11 rfl rfl)
theorem dX2_stroke_152 : decode cX2_stroke 152 = .ok (.bipush 99, 2) := dk_16 99 (dk_at dksX2_stroke_6 12 rfl rfl)
theorem dX2_stroke_154 : decode cX2_stroke 154 = .ok (.aload_n 0, 1) := dk_42 (dk_at dksX2_stroke_6 14 rfl rfl)
theorem dX2_stroke_155 : decode cX2_stroke 155 = .ok (.getfield 18, 3) := dk_180 0 18 (dk_at dksX2_stroke_6 15 rfl rfl)
theorem dX2_stroke_158 : decode cX2_stroke 158 = .ok (.iload_n 2, 1) := dk_28 (dk_at dksX2_stroke_6 18 rfl rfl)
theorem dX2_stroke_159 : decode cX2_stroke 159 = .ok (.iaload, 1) := dk_46 (dk_at dksX2_stroke_6 19 rfl rfl)
theorem dX2_stroke_160 : decode cX2_stroke 160 = .ok (.iload 6, 2) := dk_21 6 (dk_at dksX2_stroke_6 20 rfl rfl)
theorem dX2_stroke_162 : decode cX2_stroke 162 = .ok (.iadd, 1) := dk_96 (dk_at dksX2_stroke_6 22 rfl rfl)
theorem dX2_stroke_163 : decode cX2_stroke 163 = .ok (.invokestatic 98, 3) := dk_184 0 98 (dk_at dksX2_stroke_7 0 rfl rfl)
theorem dX2_stroke_166 : decode cX2_stroke 166 = .ok (.iastore, 1) := dk_79 (dk_at dksX2_stroke_7 3 rfl rfl)
theorem dX2_stroke_167 : decode cX2_stroke 167 = .ok (.aload_n 0, 1) := dk_42 (dk_at dksX2_stroke_7 4 rfl rfl)
theorem dX2_stroke_168 : decode cX2_stroke 168 = .ok (.getfield 18, 3) := dk_180 0 18 (dk_at dksX2_stroke_7 5 rfl rfl)
theorem dX2_stroke_171 : decode cX2_stroke 171 = .ok (.iload_n 2, 1) := dk_28 (dk_at dksX2_stroke_7 8 rfl rfl)
theorem dX2_stroke_172 : decode cX2_stroke 172 = .ok (.iaload, 1) := dk_46 (dk_at dksX2_stroke_7 9 rfl rfl)
theorem dX2_stroke_173 : decode cX2_stroke 173 = .ok (.aload_n 1, 1) := dk_43 (dk_at dksX2_stroke_7 10 rfl rfl)
theorem dX2_stroke_174 : decode cX2_stroke 174 = .ok (.getfield 40, 3) := dk_180 0 40 (dk_at dksX2_stroke_7 11 rfl rfl)
theorem dX2_stroke_177 : decode cX2_stroke 177 = .ok (.iload_n 2, 1) := dk_28 (dk_at dksX2_stroke_7 14 rfl rfl)
theorem dX2_stroke_178 : decode cX2_stroke 178 = .ok (.invokevirtual 52, 3) := dk_182 0 52 (dk_at dksX2_stroke_7 15 rfl rfl)
theorem dX2_stroke_181 : decode cX2_stroke 181 = .ok (.checkcast 56, 3) := dk_192 0 56 (dk_at dksX2_stroke_7 18 rfl rfl)
theorem dX2_stroke_184 : decode cX2_stroke 184 = .ok (.getfield 103, 3) := dk_180 0 103 (dk_at dksX2_stroke_7 21 rfl rfl)
theorem dX2_stroke_187 : decode cX2_stroke 187 = .ok (.if_icmp .gt 14, 3) := dk_163 0 14 (dk_at dksX2_stroke_8 0 rfl rfl)
theorem dX2_stroke_190 : decode cX2_stroke 190 = .ok (.iload 10, 2) := dk_21 10 (dk_at dksX2_stroke_8 3 rfl rfl)
theorem dX2_stroke_192 : decode cX2_stroke 192 = .ok (.ifCond .eq 7, 3) := dk_153 0 7 (dk_at dksX2_stroke_8 5 rfl rfl)
theorem dX2_stroke_195 : decode cX2_stroke 195 = .ok (.iconst 1, 1) := dk_4 (dk_at dksX2_stroke_8 8 rfl rfl)
theorem dX2_stroke_196 : decode cX2_stroke 196 = .ok (.goto 4, 3) := dk_167 0 4 (dk_at dksX2_stroke_8 9 rfl rfl)
theorem dX2_stroke_199 : decode cX2_stroke 199 = .ok (.iconst 0, 1) := dk_3 (dk_at dksX2_stroke_8 12 rfl rfl)
theorem dX2_stroke_200 : decode cX2_stroke 200 = .ok (.ireturn, 1) := dk_172 (dk_at dksX2_stroke_8 13 rfl rfl)
theorem dX2_stroke_201 : decode cX2_stroke 201 = .ok (.aload_n 0, 1) := dk_42 (dk_at dksX2_stroke_8 14 rfl rfl)
theorem dX2_stroke_202 : decode cX2_stroke 202 = .ok (.getfield 18, 3) := dk_180 0 18 (dk_at dksX2_stroke_8 15 rfl rfl)
theorem dX2_stroke_205 : decode cX2_stroke 205 = .ok (.iload_n 2, 1) := dk_28 (dk_at dksX2_stroke_8 18 rfl rfl)
theorem dX2_stroke_206 : decode cX2_stroke 206 = .ok (.iconst 0, 1) := dk_3 (dk_at dksX2_stroke_8 19 rfl rfl)
theorem dX2_stroke_207 : decode cX2_stroke 207 = .ok (.iastore, 1) := dk_79 (dk_at dksX2_stroke_8 20 rfl rfl)
theorem dX2_stroke_208 : decode cX2_stroke 208 = .ok (.aload_n 0, 1) := dk_42 (dk_at dksX2_stroke_8 21 rfl rfl)
theorem dX2_stroke_209 : decode cX2_stroke 209 = .ok (.getfield 21, 3) := dk_180 0 21 (dk_at dksX2_stroke_9 0 rfl rfl)
theorem dX2_stroke_212 : decode cX2_stroke 212 = .ok (.iload_n 2, 1) := dk_28 (dk_at dksX2_stroke_9 3 rfl rfl)
theorem dX2_stroke_213 : decode cX2_stroke 213 = .ok (.sipush 999, 3) := dk_17 3 231 (dk_at dksX2_stroke_9 4 rfl rfl)
theorem dX2_stroke_216 : decode cX2_stroke 216 = .ok (.aload_n 0, 1) := dk_42 (dk_at dksX2_stroke_9 7 rfl rfl)
theorem dX2_stroke_217 : decode cX2_stroke 217 = .ok (.getfield 21, 3) := dk_180 0 21 (dk_at dksX2_stroke_9 8 rfl rfl)
theorem dX2_stroke_220 : decode cX2_stroke 220 = .ok (.iload_n 2, 1) := dk_28 (dk_at dksX2_stroke_9 11 rfl rfl)
theorem dX2_stroke_221 : decode cX2_stroke 221 = .ok (.iaload, 1) := dk_46 (dk_at dksX2_stroke_9 12 rfl rfl)
theorem dX2_stroke_222 : decode cX2_stroke 222 = .ok (.iconst 1, 1) := dk_4 (dk_at dksX2_stroke_9 13 rfl rfl)
theorem dX2_stroke_223 : decode cX2_stroke 223 = .ok (.iadd, 1) := dk_96 (dk_at dksX2_stroke_9 14 rfl rfl)
theorem dX2_stroke_224 : decode cX2_stroke 224 = .ok (.invokestatic 98, 3) := dk_184 0 98 (dk_at dksX2_stroke_9 15 rfl rfl)
theorem dX2_stroke_227 : decode cX2_stroke 227 = .ok (.iastore, 1) := dk_79 (dk_at dksX2_stroke_9 18 rfl rfl)
theorem dX2_stroke_228 : decode cX2_stroke 228 = .ok (.iload 10, 2) := dk_21 10 (dk_at dksX2_stroke_9 19 rfl rfl)
theorem dX2_stroke_230 : decode cX2_stroke 230 = .ok (.ifCond .eq 7, 3) := dk_153 0 7 (dk_at dksX2_stroke_9 21 rfl rfl)
theorem dX2_stroke_233 : decode cX2_stroke 233 = .ok (.iconst 3, 1) := dk_6 (dk_at dksX2_stroke_10 0 rfl rfl)
theorem dX2_stroke_234 : decode cX2_stroke 234 = .ok (.goto 4, 3) := dk_167 0 4 (dk_at dksX2_stroke_10 1 rfl rfl)
theorem dX2_stroke_237 : decode cX2_stroke 237 = .ok (.iconst 2, 1) := dk_5 (dk_at dksX2_stroke_10 4 rfl rfl)
theorem dX2_stroke_238 : decode cX2_stroke 238 = .ok (.ireturn, 1) := dk_172 (dk_at dksX2_stroke_10 5 rfl rfl)
abbrev cX2_bankOf : ByteArray := prog_14_method_6_code
def yX2_bankOf : MethodName := ⟨RX2, "bankOf", "(LBoardCrossing$River;I)I"⟩
def dkwX2_bankOf_1 : List UInt8 := [160, 0, 8, 16, 254, 167, 0, 4, 3, 172]
abbrev dktX2_bankOf_1 : List UInt8 := dkwX2_bankOf_1 ++ []
def dkwX2_bankOf_0 : List UInt8 := [42, 180, 0, 15, 28, 46, 154, 0, 7, 2, 167, 0, 22, 42, 180, 0, 15, 28, 46, 43, 180, 0, 75]
abbrev dktX2_bankOf_0 : List UInt8 := dkwX2_bankOf_0 ++ dktX2_bankOf_1
theorem dksX2_bankOf_0 : cX2_bankOf.data.toList.drop 0 = dktX2_bankOf_0 := by decide +kernel
theorem dksX2_bankOf_1 : cX2_bankOf.data.toList.drop 23 = dktX2_bankOf_1 := dk_seg dksX2_bankOf_0 23 rfl rfl
theorem dX2_bankOf_0 : decode cX2_bankOf 0 = .ok (.aload_n 0, 1) := dk_42 (dk_at dksX2_bankOf_0 0 rfl rfl)
theorem dX2_bankOf_1 : decode cX2_bankOf 1 = .ok (.getfield 15, 3) := dk_180 0 15 (dk_at dksX2_bankOf_0 1 rfl rfl)
theorem dX2_bankOf_4 : decode cX2_bankOf 4 = .ok (.iload_n 2, 1) := dk_28 (dk_at dksX2_bankOf_0 4 rfl rfl)
theorem dX2_bankOf_5 : decode cX2_bankOf 5 = .ok (.iaload, 1) := dk_46 (dk_at dksX2_bankOf_0 5 rfl rfl)
theorem dX2_bankOf_6 : decode cX2_bankOf 6 = .ok (.ifCond .ne 7, 3) := dk_154 0 7 (dk_at dksX2_bankOf_0 6 rfl rfl)
theorem dX2_bankOf_9 : decode cX2_bankOf 9 = .ok (.iconst (-1), 1) := dk_2 (dk_at dksX2_bankOf_0 9 rfl rfl)
theorem dX2_bankOf_10 : decode cX2_bankOf 10 = .ok (.goto 22, 3) := dk_167 0 22 (dk_at dksX2_bankOf_0 10 rfl rfl)
theorem dX2_bankOf_13 : decode cX2_bankOf 13 = .ok (.aload_n 0, 1) := dk_42 (dk_at dksX2_bankOf_0 13 rfl rfl)
theorem dX2_bankOf_14 : decode cX2_bankOf 14 = .ok (.getfield 15, 3) := dk_180 0 15 (dk_at dksX2_bankOf_0 14 rfl rfl)
theorem dX2_bankOf_17 : decode cX2_bankOf 17 = .ok (.iload_n 2, 1) := dk_28 (dk_at dksX2_bankOf_0 17 rfl rfl)
theorem dX2_bankOf_18 : decode cX2_bankOf 18 = .ok (.iaload, 1) := dk_46 (dk_at dksX2_bankOf_0 18 rfl rfl)
theorem dX2_bankOf_19 : decode cX2_bankOf 19 = .ok (.aload_n 1, 1) := dk_43 (dk_at dksX2_bankOf_0 19 rfl rfl)
theorem dX2_bankOf_20 : decode cX2_bankOf 20 = .ok (.getfield 75, 3) := dk_180 0 75 (dk_at dksX2_bankOf_0 20 rfl rfl)
theorem dX2_bankOf_23 : decode cX2_bankOf 23 = .ok (.if_icmp .ne 8, 3) := dk_160 0 8 (dk_at dksX2_bankOf_1 0 rfl rfl)
theorem dX2_bankOf_26 : decode cX2_bankOf 26 = .ok (.bipush (-2), 2) := dk_16 254 (dk_at dksX2_bankOf_1 3 rfl rfl)
theorem dX2_bankOf_28 : decode cX2_bankOf 28 = .ok (.goto 4, 3) := dk_167 0 4 (dk_at dksX2_bankOf_1 5 rfl rfl)
theorem dX2_bankOf_31 : decode cX2_bankOf 31 = .ok (.iconst 0, 1) := dk_3 (dk_at dksX2_bankOf_1 8 rfl rfl)
theorem dX2_bankOf_32 : decode cX2_bankOf 32 = .ok (.ireturn, 1) := dk_172 (dk_at dksX2_bankOf_1 9 rfl rfl)
theorem q134 : (Jvm.Cond.initialized "BoardCrossing$State") ∈ lw_all := lw_g (lw_at lw_m1 6 rfl) rfl
theorem q208 : (Jvm.Cond.fieldLinkNest "BoardCrossing$State" (40 : Nat) "BoardCrossing$Rive\x72" "boards" "Ljava/util/ArrayList;" "BoardCrossing") ∈ lw_tbl := lw_at lw_m1 80 rfl
theorem q212 : (Jvm.Cond.fieldLinkNest "BoardCrossing$State" (64 : Nat) "BoardCrossing$Rive\x72" "loads" "Ljava/util/ArrayList;" "BoardCrossing") ∈ lw_tbl := lw_at lw_m1 84 rfl
theorem q216 : (Jvm.Cond.fieldLinkNest "BoardCrossing$State" (81 : Nat) "BoardCrossing$Rive\x72" "current" "[I" "BoardCrossing") ∈ lw_tbl := lw_at lw_m1 88 rfl
theorem q222 : (Jvm.Cond.fieldLinkNest "BoardCrossing$State" (94 : Nat) "BoardCrossing$Rive\x72" "isIron" "[Z" "BoardCrossing") ∈ lw_tbl := lw_at lw_m1 94 rfl
theorem q230 : (Jvm.Cond.fieldLinkNest "BoardCrossing$State" (88 : Nat) "BoardCrossing$Rive\x72" "columns" "I" "BoardCrossing") ∈ lw_tbl := lw_at lw_m1 102 rfl
theorem q235 : (Jvm.Cond.fieldLinkNest "BoardCrossing$State" (75 : Nat) "BoardCrossing$Rive\x72" "strokes" "I" "BoardCrossing") ∈ lw_tbl := lw_at lw_m1 107 rfl
theorem q245 : (Jvm.Cond.fieldLinkNest "BoardCrossing$State" (61 : Nat) "BoardCrossing$Rive\x72" "draw" "I" "BoardCrossing") ∈ lw_tbl := lw_at lw_m1 117 rfl
theorem q286 : (Jvm.Cond.instantiable "BoardCrossing$State" (7 : Nat)) ∈ lw_all := lw_g (lw_at lw_m1 158 rfl) rfl
theorem q288 : (Jvm.Cond.instanceMethod ({ cls := "BoardCrossing$State", name := "<init>", desc := "()V" } : Jvm.MethodName)) ∈ lw_all := lw_g (lw_at lw_m1 160 rfl) rfl
theorem q289 : (Jvm.Cond.code ({ cls := "BoardCrossing$State", name := "<init>", desc := "()V" } : Jvm.MethodName) prog_14_method_1_code (1 : Nat) (Option.none : Option Jvm.ClassFile.FieldType)) ∈ lw_all := lw_g (lw_at lw_m1 161 rfl) rfl
theorem q290 : (Jvm.Cond.methodLink "BoardCrossing$State" (3 : Nat) ({ cls := "java/lang/Object", name := "<init>", desc := "()V" } : Jvm.MethodName)) ∈ lw_all := lw_g (lw_at lw_m1 162 rfl) rfl
theorem q291 : (Jvm.Cond.fieldLink "BoardCrossing$State" (9 : Nat) "BoardCrossing$State" "column" "[I") ∈ lw_all := lw_g (lw_at lw_m1 163 rfl) rfl
theorem q295 : (Jvm.Cond.fieldLink "BoardCrossing$State" (15 : Nat) "BoardCrossing$State" "row" "[I") ∈ lw_all := lw_g (lw_at lw_m1 167 rfl) rfl
theorem q299 : (Jvm.Cond.fieldLink "BoardCrossing$State" (18 : Nat) "BoardCrossing$State" "heat" "[I") ∈ lw_all := lw_g (lw_at lw_m1 171 rfl) rfl
theorem q303 : (Jvm.Cond.fieldLink "BoardCrossing$State" (21 : Nat) "BoardCrossing$State" "scorches" "[I") ∈ lw_all := lw_g (lw_at lw_m1 175 rfl) rfl
theorem q306 : (Jvm.Cond.fieldLink "BoardCrossing$State" (24 : Nat) "BoardCrossing$State" "strokes" "[I") ∈ lw_all := lw_g (lw_at lw_m1 178 rfl) rfl
theorem q309 : (Jvm.Cond.fieldLink "BoardCrossing$State" (27 : Nat) "BoardCrossing$State" "where" "[I") ∈ lw_all := lw_g (lw_at lw_m1 181 rfl) rfl
theorem q311 : (Jvm.Cond.fieldLink "BoardCrossing$State" (36 : Nat) "BoardCrossing$State" "seed" "I") ∈ lw_all := lw_g (lw_at lw_m1 183 rfl) rfl
theorem q313 : (Jvm.Cond.laysFinal "BoardCrossing$State" "BoardCrossing$State" "column" "[I") ∈ lw_all := lw_g (lw_at lw_m1 185 rfl) rfl
theorem q314 : (Jvm.Cond.soleField "BoardCrossing$State" "column") ∈ lw_all := lw_g (lw_at lw_m1 186 rfl) rfl
theorem q315 : (Jvm.Cond.laysFinal "BoardCrossing$State" "BoardCrossing$State" "row" "[I") ∈ lw_all := lw_g (lw_at lw_m1 187 rfl) rfl
theorem q316 : (Jvm.Cond.soleField "BoardCrossing$State" "row") ∈ lw_all := lw_g (lw_at lw_m1 188 rfl) rfl
theorem q317 : (Jvm.Cond.laysFinal "BoardCrossing$State" "BoardCrossing$State" "heat" "[I") ∈ lw_all := lw_g (lw_at lw_m1 189 rfl) rfl
theorem q318 : (Jvm.Cond.soleField "BoardCrossing$State" "heat") ∈ lw_all := lw_g (lw_at lw_m1 190 rfl) rfl
theorem q319 : (Jvm.Cond.laysFinal "BoardCrossing$State" "BoardCrossing$State" "scorches" "[I") ∈ lw_all := lw_g (lw_at lw_m1 191 rfl) rfl
theorem q320 : (Jvm.Cond.soleField "BoardCrossing$State" "scorches") ∈ lw_all := lw_g (lw_at lw_m1 192 rfl) rfl
theorem q321 : (Jvm.Cond.laysFinal "BoardCrossing$State" "BoardCrossing$State" "strokes" "[I") ∈ lw_all := lw_g (lw_at lw_m1 193 rfl) rfl
theorem q322 : (Jvm.Cond.soleField "BoardCrossing$State" "strokes") ∈ lw_all := lw_g (lw_at lw_m1 194 rfl) rfl
theorem q323 : (Jvm.Cond.laysFinal "BoardCrossing$State" "BoardCrossing$State" "where" "[I") ∈ lw_all := lw_g (lw_at lw_m1 195 rfl) rfl
theorem q324 : (Jvm.Cond.soleField "BoardCrossing$State" "where") ∈ lw_all := lw_g (lw_at lw_m1 196 rfl) rfl
theorem q325 : (Jvm.Cond.lays "BoardCrossing$State" "BoardCrossing$State" "seed" "I") ∈ lw_all := lw_g (lw_at lw_m1 197 rfl) rfl
theorem q326 : (Jvm.Cond.soleField "BoardCrossing$State" "seed") ∈ lw_all := lw_g (lw_at lw_m1 198 rfl) rfl
theorem q327 : (Jvm.Cond.superclass "BoardCrossing$State" "java/lang/Object") ∈ lw_all := lw_g (lw_at lw_m1 199 rfl) rfl
theorem q453 : (Jvm.Cond.instanceMethod ({ cls := "BoardCrossing$State", name := "begin", desc := "(LBoardCrossing$River;)V" } : Jvm.MethodName)) ∈ lw_all := lw_g (lw_at lw_m2 85 rfl) rfl
theorem q454 : (Jvm.Cond.selects "BoardCrossing$State" ({ cls := "BoardCrossing$State", name := "begin", desc := "(LBoardCrossing$River;)V" } : Jvm.MethodName) ({ cls := "BoardCrossing$State", name := "begin", desc := "(LBoardCrossing$River;)V" } : Jvm.MethodName)) ∈ lw_all := lw_g (lw_at lw_m2 86 rfl) rfl
theorem q455 : (Jvm.Cond.code ({ cls := "BoardCrossing$State", name := "begin", desc := "(LBoardCrossing$River;)V" } : Jvm.MethodName) prog_14_method_3_code (3 : Nat) (Option.none : Option Jvm.ClassFile.FieldType)) ∈ lw_all := lw_g (lw_at lw_m2 87 rfl) rfl
theorem q456 : (Jvm.Cond.methodLink "BoardCrossing$State" (46 : Nat) ({ cls := "java/util/ArrayList", name := "size", desc := "()I" } : Jvm.MethodName)) ∈ lw_all := lw_g (lw_at lw_m2 88 rfl) rfl
theorem q460 : (Jvm.Cond.methodLink "BoardCrossing$State" (52 : Nat) ({ cls := "java/util/ArrayList", name := "get", desc := "(I)Ljava/lang/Object;" } : Jvm.MethodName)) ∈ lw_all := lw_g (lw_at lw_m2 92 rfl) rfl
theorem q474 : (Jvm.Cond.classLink "BoardCrossing$State" (56 : Nat) "BoardCrossing$Board") ∈ lw_all := lw_g (lw_at lw_m2 106 rfl) rfl
theorem q839 : (Jvm.Cond.fieldLinkNest "BoardCrossing$State" (58 : Nat) "BoardCrossing$Board" "at" "I" "BoardCrossing") ∈ lw_tbl := lw_at lw_m3 231 rfl
theorem q842 : (Jvm.Cond.fieldLinkNest "BoardCrossing$State" (103 : Nat) "BoardCrossing$Board" "bears" "I" "BoardCrossing") ∈ lw_tbl := lw_at lw_m3 234 rfl
theorem q909 : (Jvm.Cond.selects "BoardCrossing$State" ({ cls := "java/lang/Object", name := "getClass", desc := "()Ljava/lang/Class;" } : Jvm.MethodName) ({ cls := "java/lang/Object", name := "getClass", desc := "()Ljava/lang/Class;" } : Jvm.MethodName)) ∈ lw_all := lw_g (lw_at lw_m4 61 rfl) rfl
theorem q1057 : (Jvm.Cond.instanceMethod ({ cls := "BoardCrossing$State", name := "burden", desc := "(LBoardCrossing$River;I)I" } : Jvm.MethodName)) ∈ lw_all := lw_g (lw_at lw_m4 209 rfl) rfl
theorem q1058 : (Jvm.Cond.selects "BoardCrossing$State" ({ cls := "BoardCrossing$State", name := "burden", desc := "(LBoardCrossing$River;I)I" } : Jvm.MethodName) ({ cls := "BoardCrossing$State", name := "burden", desc := "(LBoardCrossing$River;I)I" } : Jvm.MethodName)) ∈ lw_all := lw_g (lw_at lw_m4 210 rfl) rfl
theorem q1059 : (Jvm.Cond.code ({ cls := "BoardCrossing$State", name := "burden", desc := "(LBoardCrossing$River;I)I" } : Jvm.MethodName) prog_14_method_5_code (3 : Nat) (Option.some Jvm.ClassFile.FieldType.int)) ∈ lw_all := lw_g (lw_at lw_m4 211 rfl) rfl
theorem q1060 : (Jvm.Cond.methodLink "BoardCrossing$State" (67 : Nat) ({ cls := "BoardCrossing$State", name := "loadsAt", desc := "(LBoardCrossing$River;I)I" } : Jvm.MethodName)) ∈ lw_all := lw_g (lw_at lw_m4 212 rfl) rfl
theorem q1061 : (Jvm.Cond.instanceMethod ({ cls := "BoardCrossing$State", name := "loadsAt", desc := "(LBoardCrossing$River;I)I" } : Jvm.MethodName)) ∈ lw_all := lw_g (lw_at lw_m4 213 rfl) rfl
theorem q1062 : (Jvm.Cond.selects "BoardCrossing$State" ({ cls := "BoardCrossing$State", name := "loadsAt", desc := "(LBoardCrossing$River;I)I" } : Jvm.MethodName) ({ cls := "BoardCrossing$State", name := "loadsAt", desc := "(LBoardCrossing$River;I)I" } : Jvm.MethodName)) ∈ lw_all := lw_g (lw_at lw_m4 214 rfl) rfl
theorem q1063 : (Jvm.Cond.code ({ cls := "BoardCrossing$State", name := "loadsAt", desc := "(LBoardCrossing$River;I)I" } : Jvm.MethodName) prog_14_method_4_code (5 : Nat) (Option.some Jvm.ClassFile.FieldType.int)) ∈ lw_all := lw_g (lw_at lw_m4 215 rfl) rfl
theorem q1064 : (Jvm.Cond.methodLink "BoardCrossing$State" (71 : Nat) ({ cls := "BoardCrossing$Rive\x72", name := "widthOf", desc := "(I)I" } : Jvm.MethodName)) ∈ lw_all := lw_g (lw_at lw_m4 216 rfl) rfl
theorem q1149 : (Jvm.Cond.instanceMethod ({ cls := "BoardCrossing$State", name := "of", desc := "(LBoardCrossing$State;)V" } : Jvm.MethodName)) ∈ lw_all := lw_g (lw_at lw_m5 61 rfl) rfl
theorem q1150 : (Jvm.Cond.selects "BoardCrossing$State" ({ cls := "BoardCrossing$State", name := "of", desc := "(LBoardCrossing$State;)V" } : Jvm.MethodName) ({ cls := "BoardCrossing$State", name := "of", desc := "(LBoardCrossing$State;)V" } : Jvm.MethodName)) ∈ lw_all := lw_g (lw_at lw_m5 62 rfl) rfl
theorem q1151 : (Jvm.Cond.code ({ cls := "BoardCrossing$State", name := "of", desc := "(LBoardCrossing$State;)V" } : Jvm.MethodName) prog_14_method_2_code (2 : Nat) (Option.none : Option Jvm.ClassFile.FieldType)) ∈ lw_all := lw_g (lw_at lw_m5 63 rfl) rfl
theorem q1152 : (Jvm.Cond.methodLink "BoardCrossing$State" (30 : Nat) ({ cls := "java/lang/System", name := "arraycopy", desc := "(Ljava/lang/Object;ILjava/lang/Object;II)V" } : Jvm.MethodName)) ∈ lw_all := lw_g (lw_at lw_m5 64 rfl) rfl
theorem q1155 : (Jvm.Cond.instanceMethod ({ cls := "BoardCrossing$State", name := "stroke", desc := "(LBoardCrossing$River;IIZZ)I" } : Jvm.MethodName)) ∈ lw_all := lw_g (lw_at lw_m5 67 rfl) rfl
theorem q1156 : (Jvm.Cond.selects "BoardCrossing$State" ({ cls := "BoardCrossing$State", name := "stroke", desc := "(LBoardCrossing$River;IIZZ)I" } : Jvm.MethodName) ({ cls := "BoardCrossing$State", name := "stroke", desc := "(LBoardCrossing$River;IIZZ)I" } : Jvm.MethodName)) ∈ lw_all := lw_g (lw_at lw_m5 68 rfl) rfl
theorem q1157 : (Jvm.Cond.code ({ cls := "BoardCrossing$State", name := "stroke", desc := "(LBoardCrossing$River;IIZZ)I" } : Jvm.MethodName) prog_14_method_7_code (11 : Nat) (Option.some Jvm.ClassFile.FieldType.int)) ∈ lw_all := lw_g (lw_at lw_m5 69 rfl) rfl
theorem q1158 : (Jvm.Cond.methodLink "BoardCrossing$State" (77 : Nat) ({ cls := "BoardCrossing$Rive\x72", name := "hotte\x72", desc := "(LBoardCrossing$State;I)I" } : Jvm.MethodName)) ∈ lw_all := lw_g (lw_at lw_m5 70 rfl) rfl
theorem q1159 : (Jvm.Cond.methodLink "BoardCrossing$State" (84 : Nat) ({ cls := "BoardCrossing$Rive\x72", name := "cell", desc := "(II)I" } : Jvm.MethodName)) ∈ lw_all := lw_g (lw_at lw_m5 71 rfl) rfl
theorem q1160 : (Jvm.Cond.methodLinkNest "BoardCrossing$State" (91 : Nat) ({ cls := "BoardCrossing", name := "within", desc := "(II)I" } : Jvm.MethodName) "BoardCrossing") ∈ lw_tbl := lw_at lw_m5 72 rfl
theorem q1161 : (Jvm.Cond.methodLink "BoardCrossing$State" (98 : Nat) ({ cls := "java/lang/Math", name := "min", desc := "(II)I" } : Jvm.MethodName)) ∈ lw_all := lw_g (lw_at lw_m5 73 rfl) rfl
theorem q1167 : (Jvm.Cond.instanceMethod ({ cls := "BoardCrossing$State", name := "bankOf", desc := "(LBoardCrossing$River;I)I" } : Jvm.MethodName)) ∈ lw_all := lw_g (lw_at lw_m5 79 rfl) rfl
theorem q1168 : (Jvm.Cond.selects "BoardCrossing$State" ({ cls := "BoardCrossing$State", name := "bankOf", desc := "(LBoardCrossing$River;I)I" } : Jvm.MethodName) ({ cls := "BoardCrossing$State", name := "bankOf", desc := "(LBoardCrossing$River;I)I" } : Jvm.MethodName)) ∈ lw_all := lw_g (lw_at lw_m5 80 rfl) rfl
theorem q1169 : (Jvm.Cond.code ({ cls := "BoardCrossing$State", name := "bankOf", desc := "(LBoardCrossing$River;I)I" } : Jvm.MethodName) prog_14_method_6_code (3 : Nat) (Option.some Jvm.ClassFile.FieldType.int)) ∈ lw_all := lw_g (lw_at lw_m5 81 rfl) rfl
theorem q2244 : (Jvm.Cond.castable "BoardCrossing$State" "java/lang/Object") ∈ lw_tbl := lw_at lw_m9 196 rfl
theorem in_X2 : ∀ w ∈ wsX20, w ∈ lw_all := lw_in wsX20 [313, 315, 317, 319, 321, 323, 325] (by decide +kernel) (by decide +kernel)
/-! BoardCrossing$Wrong -/
set_option maxRecDepth 100000
def RX3 : String := "BoardCrossing$Wrong"
def TX3 : u_T := fun k => match k with
  | 0 => ("java/lang/Throwable", "cause", "Ljava/lang/Throwable;", false)
  | 1 => ("java/lang/Throwable", "stackTrace", "[Ljava/lang/StackTraceElement;", false)
  | 2 => ("java/lang/Throwable", "suppressedExceptions", "Ljava/util/List;", false)
  | 3 => ("java/lang/Throwable", "detailMessage", "Ljava/lang/String;", false)
  | 4 => ("java/lang/Throwable", "backtrace", "Ljava/lang/Object;", false)
  | 5 => ("java/lang/Throwable", "depth", "I", false)
  | 6 => ("BoardCrossing$Wrong", "kind", "I", false)
  | _ => ("BoardCrossing$Wrong", "place", "I", false)
def tyX3 : Nat → FieldType := fun k => match k with
  | 0 => .object "java/lang/Throwable"
  | 1 => .array (.object "java/lang/StackTraceElement")
  | 2 => .object "java/util/List"
  | 3 => .object "java/lang/String"
  | 4 => .object "java/lang/Object"
  | 5 => .int
  | 6 => .int
  | _ => .int
abbrev wsX30 : List Cond := u_ws RX3 TX3 8
theorem nmX3 : ∀ a, a < 8 → ∀ b, b < 8 → a ≠ b → (TX3 a).2.1 ≠ (TX3 b).2.1 := by decide +kernel
theorem tyX3_ok : ∀ k, k < 8 → parseFieldDescriptor (TX3 k).2.2.1 = some (tyX3 k) := by decide +kernel
abbrev cX3_init : ByteArray := prog_18_method_1_code
def yX3_init : MethodName := ⟨RX3, "<init>", "()V"⟩
theorem dX3_init_0 : decode cX3_init 0 = .ok (.aload_n 0, 1) := by decide +kernel
theorem dX3_init_1 : decode cX3_init 1 = .ok (.invokespecial 1, 3) := by decide +kernel
theorem dX3_init_4 : decode cX3_init 4 = .ok (.return_, 1) := by decide +kernel
abbrev cX3_by : ByteArray := prog_18_method_2_code
def yX3_by : MethodName := ⟨RX3, "by", "(II)LBoardCrossing$Wrong;"⟩
def dkwX3_by_0 : List UInt8 := [42, 27, 181, 0, 7, 42, 28, 181, 0, 13, 42, 176]
abbrev dktX3_by_0 : List UInt8 := dkwX3_by_0 ++ []
theorem dksX3_by_0 : cX3_by.data.toList.drop 0 = dktX3_by_0 := by decide +kernel
theorem dX3_by_0 : decode cX3_by 0 = .ok (.aload_n 0, 1) := dk_42 (dk_at dksX3_by_0 0 rfl rfl)
theorem dX3_by_1 : decode cX3_by 1 = .ok (.iload_n 1, 1) := dk_27 (dk_at dksX3_by_0 1 rfl rfl)
theorem dX3_by_2 : decode cX3_by 2 = .ok (.putfield 7, 3) := dk_181 0 7 (dk_at dksX3_by_0 2 rfl rfl)
theorem dX3_by_5 : decode cX3_by 5 = .ok (.aload_n 0, 1) := dk_42 (dk_at dksX3_by_0 5 rfl rfl)
theorem dX3_by_6 : decode cX3_by 6 = .ok (.iload_n 2, 1) := dk_28 (dk_at dksX3_by_0 6 rfl rfl)
theorem dX3_by_7 : decode cX3_by 7 = .ok (.putfield 13, 3) := dk_181 0 13 (dk_at dksX3_by_0 7 rfl rfl)
theorem dX3_by_10 : decode cX3_by 10 = .ok (.aload_n 0, 1) := dk_42 (dk_at dksX3_by_0 10 rfl rfl)
theorem dX3_by_11 : decode cX3_by 11 = .ok (.areturn, 1) := dk_176 (dk_at dksX3_by_0 11 rfl rfl)
theorem q137 : (Jvm.Cond.initialized "BoardCrossing$Wrong") ∈ lw_all := lw_g (lw_at lw_m1 9 rfl) rfl
theorem q329 : (Jvm.Cond.instantiable "BoardCrossing$Wrong" (8 : Nat)) ∈ lw_all := lw_g (lw_at lw_m1 201 rfl) rfl
theorem q330 : (Jvm.Cond.castable "BoardCrossing$Wrong" "BoardCrossing$Wrong") ∈ lw_tbl := lw_at lw_m1 202 rfl
theorem q335 : (Jvm.Cond.selects "BoardCrossing$Wrong" ({ cls := "java/lang/Throwable", name := "fillInStackTrace", desc := "(I)Ljava/lang/Throwable;" } : Jvm.MethodName) ({ cls := "java/lang/Throwable", name := "fillInStackTrace", desc := "(I)Ljava/lang/Throwable;" } : Jvm.MethodName)) ∈ lw_all := lw_g (lw_at lw_m1 207 rfl) rfl
theorem q336 : (Jvm.Cond.selects "BoardCrossing$Wrong" ({ cls := "java/lang/Throwable", name := "fillInStackTrace", desc := "()Ljava/lang/Throwable;" } : Jvm.MethodName) ({ cls := "java/lang/Throwable", name := "fillInStackTrace", desc := "()Ljava/lang/Throwable;" } : Jvm.MethodName)) ∈ lw_all := lw_g (lw_at lw_m1 208 rfl) rfl
theorem q337 : (Jvm.Cond.lays "BoardCrossing$Wrong" "java/lang/Throwable" "cause" "Ljava/lang/Throwable;") ∈ lw_all := lw_g (lw_at lw_m1 209 rfl) rfl
theorem q339 : (Jvm.Cond.lays "BoardCrossing$Wrong" "java/lang/Throwable" "stackTrace" "[Ljava/lang/StackTraceElement;") ∈ lw_all := lw_g (lw_at lw_m1 211 rfl) rfl
theorem q341 : (Jvm.Cond.lays "BoardCrossing$Wrong" "java/lang/Throwable" "suppressedExceptions" "Ljava/util/List;") ∈ lw_all := lw_g (lw_at lw_m1 213 rfl) rfl
theorem q343 : (Jvm.Cond.lays "BoardCrossing$Wrong" "java/lang/Throwable" "detailMessage" "Ljava/lang/String;") ∈ lw_all := lw_g (lw_at lw_m1 215 rfl) rfl
theorem q345 : (Jvm.Cond.lays "BoardCrossing$Wrong" "java/lang/Throwable" "backtrace" "Ljava/lang/Object;") ∈ lw_all := lw_g (lw_at lw_m1 217 rfl) rfl
theorem q366 : (Jvm.Cond.instanceMethod ({ cls := "BoardCrossing$Wrong", name := "<init>", desc := "()V" } : Jvm.MethodName)) ∈ lw_all := lw_g (lw_at lw_m1 238 rfl) rfl
theorem q367 : (Jvm.Cond.code ({ cls := "BoardCrossing$Wrong", name := "<init>", desc := "()V" } : Jvm.MethodName) prog_18_method_1_code (1 : Nat) (Option.none : Option Jvm.ClassFile.FieldType)) ∈ lw_all := lw_g (lw_at lw_m1 239 rfl) rfl
theorem q368 : (Jvm.Cond.methodLink "BoardCrossing$Wrong" (1 : Nat) ({ cls := "java/lang/Exception", name := "<init>", desc := "()V" } : Jvm.MethodName)) ∈ lw_all := lw_g (lw_at lw_m2 0 rfl) rfl
theorem q372 : (Jvm.Cond.fieldLink "BoardCrossing$Wrong" (7 : Nat) "BoardCrossing$Wrong" "kind" "I") ∈ lw_all := lw_g (lw_at lw_m2 4 rfl) rfl
theorem q374 : (Jvm.Cond.fieldLink "BoardCrossing$Wrong" (13 : Nat) "BoardCrossing$Wrong" "place" "I") ∈ lw_all := lw_g (lw_at lw_m2 6 rfl) rfl
theorem q380 : (Jvm.Cond.lays "BoardCrossing$Wrong" "BoardCrossing$Wrong" "kind" "I") ∈ lw_all := lw_g (lw_at lw_m2 12 rfl) rfl
theorem q381 : (Jvm.Cond.soleField "BoardCrossing$Wrong" "kind") ∈ lw_all := lw_g (lw_at lw_m2 13 rfl) rfl
theorem q382 : (Jvm.Cond.lays "BoardCrossing$Wrong" "BoardCrossing$Wrong" "place" "I") ∈ lw_all := lw_g (lw_at lw_m2 14 rfl) rfl
theorem q383 : (Jvm.Cond.soleField "BoardCrossing$Wrong" "place") ∈ lw_all := lw_g (lw_at lw_m2 15 rfl) rfl
theorem q388 : (Jvm.Cond.lays "BoardCrossing$Wrong" "java/lang/Throwable" "depth" "I") ∈ lw_all := lw_g (lw_at lw_m2 20 rfl) rfl
theorem q391 : (Jvm.Cond.superclass "BoardCrossing$Wrong" "java/lang/Exception") ∈ lw_all := lw_g (lw_at lw_m2 23 rfl) rfl
theorem q732 : (Jvm.Cond.instanceMethod ({ cls := "BoardCrossing$Wrong", name := "by", desc := "(II)LBoardCrossing$Wrong;" } : Jvm.MethodName)) ∈ lw_all := lw_g (lw_at lw_m3 124 rfl) rfl
theorem q733 : (Jvm.Cond.selects "BoardCrossing$Wrong" ({ cls := "BoardCrossing$Wrong", name := "by", desc := "(II)LBoardCrossing$Wrong;" } : Jvm.MethodName) ({ cls := "BoardCrossing$Wrong", name := "by", desc := "(II)LBoardCrossing$Wrong;" } : Jvm.MethodName)) ∈ lw_all := lw_g (lw_at lw_m3 125 rfl) rfl
theorem q734 : (Jvm.Cond.code ({ cls := "BoardCrossing$Wrong", name := "by", desc := "(II)LBoardCrossing$Wrong;" } : Jvm.MethodName) prog_18_method_2_code (3 : Nat) (Option.some (Jvm.ClassFile.FieldType.object "BoardCrossing$Wrong"))) ∈ lw_all := lw_g (lw_at lw_m3 126 rfl) rfl
theorem q912 : (Jvm.Cond.selects "BoardCrossing$Wrong" ({ cls := "java/lang/Object", name := "getClass", desc := "()Ljava/lang/Class;" } : Jvm.MethodName) ({ cls := "java/lang/Object", name := "getClass", desc := "()Ljava/lang/Class;" } : Jvm.MethodName)) ∈ lw_all := lw_g (lw_at lw_m4 64 rfl) rfl
theorem q2245 : (Jvm.Cond.castable "BoardCrossing$Wrong" "java/lang/Object") ∈ lw_tbl := lw_at lw_m9 197 rfl
theorem in_X3 : ∀ w ∈ wsX30, w ∈ lw_all := lw_in wsX30 [337, 339, 341, 343, 345, 388, 380, 382] (by decide +kernel) (by decide +kernel)
/-! BoardCrossing$Wish -/
set_option maxRecDepth 100000
def RX4 : String := "BoardCrossing$Wish"
abbrev cX4_init : ByteArray := prog_17_method_1_code
def yX4_init : MethodName := ⟨RX4, "<init>", "(LBoardCrossing;)V"⟩
def dkwX4_init_0 : List UInt8 := [42, 43, 181, 0, 3, 42, 183, 0, 9, 177]
abbrev dktX4_init_0 : List UInt8 := dkwX4_init_0 ++ []
theorem dksX4_init_0 : cX4_init.data.toList.drop 0 = dktX4_init_0 := by decide +kernel
theorem dX4_init_0 : decode cX4_init 0 = .ok (.aload_n 0, 1) := dk_42 (dk_at dksX4_init_0 0 rfl rfl)
theorem dX4_init_1 : decode cX4_init 1 = .ok (.aload_n 1, 1) := dk_43 (dk_at dksX4_init_0 1 rfl rfl)
theorem dX4_init_2 : decode cX4_init 2 = .ok (.putfield 3, 3) := dk_181 0 3 (dk_at dksX4_init_0 2 rfl rfl)
theorem dX4_init_5 : decode cX4_init 5 = .ok (.aload_n 0, 1) := dk_42 (dk_at dksX4_init_0 5 rfl rfl)
theorem dX4_init_6 : decode cX4_init 6 = .ok (.invokespecial 9, 3) := dk_183 0 9 (dk_at dksX4_init_0 6 rfl rfl)
theorem dX4_init_9 : decode cX4_init 9 = .ok (.return_, 1) := dk_177 (dk_at dksX4_init_0 9 rfl rfl)
abbrev cX4_seek : ByteArray := prog_17_method_3_code
def yX4_seek : MethodName := ⟨RX4, "seek", "(I)Z"⟩
def dkwX4_seek_7 : List UInt8 := [29, 184, 0, 62, 79, 132, 3, 1, 167, 255, 224, 42, 180, 0, 15, 155, 0, 7, 4, 167, 0, 4, 3, 172]
abbrev dktX4_seek_7 : List UInt8 := dkwX4_seek_7 ++ []
def dkwX4_seek_6 : List UInt8 := [29, 42, 180, 0, 3, 180, 0, 56, 162, 0, 27, 42, 180, 0, 3, 180, 0, 59, 29, 42, 180, 0, 15, 28]
abbrev dktX4_seek_6 : List UInt8 := dkwX4_seek_6 ++ dktX4_seek_7
def dkwX4_seek_5 : List UInt8 := [167, 255, 172, 42, 180, 0, 3, 42, 180, 0, 15, 156, 0, 7, 3, 167, 0, 4, 28, 181, 0, 56, 3, 62]
abbrev dktX4_seek_5 : List UInt8 := dkwX4_seek_5 ++ dktX4_seek_6
def dkwX4_seek_4 : List UInt8 := [180, 0, 53, 161, 0, 6, 167, 0, 14, 42, 29, 181, 0, 15, 42, 21, 5, 181, 0, 53, 132, 3, 1]
abbrev dktX4_seek_4 : List UInt8 := dkwX4_seek_4 ++ dktX4_seek_5
def dkwX4_seek_3 : List UInt8 := [21, 4, 182, 0, 49, 54, 5, 21, 5, 155, 0, 33, 42, 180, 0, 15, 155, 0, 15, 21, 5, 42]
abbrev dktX4_seek_3 : List UInt8 := dkwX4_seek_3 ++ dktX4_seek_4
def dkwX4_seek_2 : List UInt8 := [28, 182, 0, 42, 54, 4, 21, 4, 156, 0, 7, 2, 167, 0, 17, 42, 42, 180, 0, 3, 180, 0, 46, 27]
abbrev dktX4_seek_2 : List UInt8 := dkwX4_seek_2 ++ dktX4_seek_3
def dkwX4_seek_1 : List UInt8 := [180, 0, 32, 27, 46, 100, 61, 3, 62, 29, 6, 28, 184, 0, 38, 162, 0, 81, 42, 180, 0, 3, 27, 29]
abbrev dktX4_seek_1 : List UInt8 := dkwX4_seek_1 ++ dktX4_seek_2
def dkwX4_seek_0 : List UInt8 := [42, 2, 181, 0, 15, 42, 180, 0, 3, 180, 0, 19, 180, 0, 23, 42, 180, 0, 3, 180, 0, 28]
abbrev dktX4_seek_0 : List UInt8 := dkwX4_seek_0 ++ dktX4_seek_1
theorem dksX4_seek_0 : cX4_seek.data.toList.drop 0 = dktX4_seek_0 := by decide +kernel
theorem dksX4_seek_1 : cX4_seek.data.toList.drop 22 = dktX4_seek_1 := dk_seg dksX4_seek_0 22 rfl rfl
theorem dksX4_seek_2 : cX4_seek.data.toList.drop 46 = dktX4_seek_2 := dk_seg dksX4_seek_1 24 rfl rfl
theorem dksX4_seek_3 : cX4_seek.data.toList.drop 70 = dktX4_seek_3 := dk_seg dksX4_seek_2 24 rfl rfl
theorem dksX4_seek_4 : cX4_seek.data.toList.drop 92 = dktX4_seek_4 := dk_seg dksX4_seek_3 22 rfl rfl
theorem dksX4_seek_5 : cX4_seek.data.toList.drop 115 = dktX4_seek_5 := dk_seg dksX4_seek_4 23 rfl rfl
theorem dksX4_seek_6 : cX4_seek.data.toList.drop 139 = dktX4_seek_6 := dk_seg dksX4_seek_5 24 rfl rfl
theorem dksX4_seek_7 : cX4_seek.data.toList.drop 163 = dktX4_seek_7 := dk_seg dksX4_seek_6 24 rfl rfl
theorem dX4_seek_0 : decode cX4_seek 0 = .ok (.aload_n 0, 1) := dk_42 (dk_at dksX4_seek_0 0 rfl rfl)
theorem dX4_seek_1 : decode cX4_seek 1 = .ok (.iconst (-1), 1) := dk_2 (dk_at dksX4_seek_0 1 rfl rfl)
theorem dX4_seek_2 : decode cX4_seek 2 = .ok (.putfield 15, 3) := dk_181 0 15 (dk_at dksX4_seek_0 2 rfl rfl)
theorem dX4_seek_5 : decode cX4_seek 5 = .ok (.aload_n 0, 1) := dk_42 (dk_at dksX4_seek_0 5 rfl rfl)
theorem dX4_seek_6 : decode cX4_seek 6 = .ok (.getfield 3, 3) := dk_180 0 3 (dk_at dksX4_seek_0 6 rfl rfl)
theorem dX4_seek_9 : decode cX4_seek 9 = .ok (.getfield 19, 3) := dk_180 0 19 (dk_at dksX4_seek_0 9 rfl rfl)
theorem dX4_seek_12 : decode cX4_seek 12 = .ok (.getfield 23, 3) := dk_180 0 23 (dk_at dksX4_seek_0 12 rfl rfl)
theorem dX4_seek_15 : decode cX4_seek 15 = .ok (.aload_n 0, 1) := dk_42 (dk_at dksX4_seek_0 15 rfl rfl)
theorem dX4_seek_16 : decode cX4_seek 16 = .ok (.getfield 3, 3) := dk_180 0 3 (dk_at dksX4_seek_0 16 rfl rfl)
theorem dX4_seek_19 : decode cX4_seek 19 = .ok (.getfield 28, 3) := dk_180 0 28 (dk_at dksX4_seek_0 19 rfl rfl)
theorem dX4_seek_22 : decode cX4_seek 22 = .ok (.getfield 32, 3) := dk_180 0 32 (dk_at dksX4_seek_1 0 rfl rfl)
theorem dX4_seek_25 : decode cX4_seek 25 = .ok (.iload_n 1, 1) := dk_27 (dk_at dksX4_seek_1 3 rfl rfl)
theorem dX4_seek_26 : decode cX4_seek 26 = .ok (.iaload, 1) := dk_46 (dk_at dksX4_seek_1 4 rfl rfl)
theorem dX4_seek_27 : decode cX4_seek 27 = .ok (.isub, 1) := dk_100 (dk_at dksX4_seek_1 5 rfl rfl)
theorem dX4_seek_28 : decode cX4_seek 28 = .ok (.istore_n 2, 1) := dk_61 (dk_at dksX4_seek_1 6 rfl rfl)
theorem dX4_seek_29 : decode cX4_seek 29 = .ok (.iconst 0, 1) := dk_3 (dk_at dksX4_seek_1 7 rfl rfl)
theorem dX4_seek_30 : decode cX4_seek 30 = .ok (.istore_n 3, 1) := dk_62 (dk_at dksX4_seek_1 8 rfl rfl)
theorem dX4_seek_31 : decode cX4_seek 31 = .ok (.iload_n 3, 1) := dk_29 (dk_at dksX4_seek_1 9 rfl rfl)
theorem dX4_seek_32 : decode cX4_seek 32 = .ok (.iconst 3, 1) := dk_6 (dk_at dksX4_seek_1 10 rfl rfl)
theorem dX4_seek_33 : decode cX4_seek 33 = .ok (.iload_n 2, 1) := dk_28 (dk_at dksX4_seek_1 11 rfl rfl)
theorem dX4_seek_34 : decode cX4_seek 34 = .ok (.invokestatic 38, 3) := dk_184 0 38 (dk_at dksX4_seek_1 12 rfl rfl)
theorem dX4_seek_37 : decode cX4_seek 37 = .ok (.if_icmp .ge 81, 3) := dk_162 0 81 (dk_at dksX4_seek_1 15 rfl rfl)
theorem dX4_seek_40 : decode cX4_seek 40 = .ok (.aload_n 0, 1) := dk_42 (dk_at dksX4_seek_1 18 rfl rfl)
theorem dX4_seek_41 : decode cX4_seek 41 = .ok (.getfield 3, 3) := dk_180 0 3 (dk_at dksX4_seek_1 19 rfl rfl)
theorem dX4_seek_44 : decode cX4_seek 44 = .ok (.iload_n 1, 1) := dk_27 (dk_at dksX4_seek_1 22 rfl rfl)
theorem dX4_seek_45 : decode cX4_seek 45 = .ok (.iload_n 3, 1) := dk_29 (dk_at dksX4_seek_1 23 rfl rfl)
theorem dX4_seek_46 : decode cX4_seek 46 = .ok (.iload_n 2, 1) := dk_28 (dk_at dksX4_seek_2 0 rfl rfl)
theorem dX4_seek_47 : decode cX4_seek 47 = .ok (.invokevirtual 42, 3) := dk_182 0 42 (dk_at dksX4_seek_2 1 rfl rfl)
theorem dX4_seek_50 : decode cX4_seek 50 = .ok (.istore 4, 2) := dk_54 4 (dk_at dksX4_seek_2 4 rfl rfl)
theorem dX4_seek_52 : decode cX4_seek 52 = .ok (.iload 4, 2) := dk_21 4 (dk_at dksX4_seek_2 6 rfl rfl)
theorem dX4_seek_54 : decode cX4_seek 54 = .ok (.ifCond .ge 7, 3) := dk_156 0 7 (dk_at dksX4_seek_2 8 rfl rfl)
theorem dX4_seek_57 : decode cX4_seek 57 = .ok (.iconst (-1), 1) := dk_2 (dk_at dksX4_seek_2 11 rfl rfl)
theorem dX4_seek_58 : decode cX4_seek 58 = .ok (.goto 17, 3) := dk_167 0 17 (dk_at dksX4_seek_2 12 rfl rfl)
theorem dX4_seek_61 : decode cX4_seek 61 = .ok (.aload_n 0, 1) := dk_42 (dk_at dksX4_seek_2 15 rfl rfl)
theorem dX4_seek_62 : decode cX4_seek 62 = .ok (.aload_n 0, 1) := dk_42 (dk_at dksX4_seek_2 16 rfl rfl)
theorem dX4_seek_63 : decode cX4_seek 63 = .ok (.getfield 3, 3) := dk_180 0 3 (dk_at dksX4_seek_2 17 rfl rfl)
theorem dX4_seek_66 : decode cX4_seek 66 = .ok (.getfield 46, 3) := dk_180 0 46 (dk_at dksX4_seek_2 20 rfl rfl)
theorem dX4_seek_69 : decode cX4_seek 69 = .ok (.iload_n 1, 1) := dk_27 (dk_at dksX4_seek_2 23 rfl rfl)
theorem dX4_seek_70 : decode cX4_seek 70 = .ok (.iload 4, 2) := dk_21 4 (dk_at dksX4_seek_3 0 rfl rfl)
theorem dX4_seek_72 : decode cX4_seek 72 = .ok (.invokevirtual 49, 3) := dk_182 0 49 (dk_at dksX4_seek_3 2 rfl rfl)
theorem dX4_seek_75 : decode cX4_seek 75 = .ok (.istore 5, 2) := dk_54 5 (dk_at dksX4_seek_3 5 rfl rfl)
theorem dX4_seek_77 : decode cX4_seek 77 = .ok (.iload 5, 2) := dk_21 5 (dk_at dksX4_seek_3 7 rfl rfl)
theorem dX4_seek_79 : decode cX4_seek 79 = .ok (.ifCond .lt 33, 3) := dk_155 0 33 (dk_at dksX4_seek_3 9 rfl rfl)
theorem dX4_seek_82 : decode cX4_seek 82 = .ok (.aload_n 0, 1) := dk_42 (dk_at dksX4_seek_3 12 rfl rfl)
theorem dX4_seek_83 : decode cX4_seek 83 = .ok (.getfield 15, 3) := dk_180 0 15 (dk_at dksX4_seek_3 13 rfl rfl)
theorem dX4_seek_86 : decode cX4_seek 86 = .ok (.ifCond .lt 15, 3) := dk_155 0 15 (dk_at dksX4_seek_3 16 rfl rfl)
theorem dX4_seek_89 : decode cX4_seek 89 = .ok (.iload 5, 2) := dk_21 5 (dk_at dksX4_seek_3 19 rfl rfl)
theorem dX4_seek_91 : decode cX4_seek 91 = .ok (.aload_n 0, 1) := dk_42 (dk_at dksX4_seek_3 21 rfl rfl)
theorem dX4_seek_92 : decode cX4_seek 92 = .ok (.getfield 53, 3) := dk_180 0 53 (dk_at dksX4_seek_4 0 rfl rfl)
theorem dX4_seek_95 : decode cX4_seek 95 = .ok (.if_icmp .lt 6, 3) := dk_161 0 6 (dk_at dksX4_seek_4 3 rfl rfl)
theorem dX4_seek_98 : decode cX4_seek 98 = .ok (.goto 14, 3) := dk_167 0 14 (dk_at dksX4_seek_4 6 rfl rfl)
theorem dX4_seek_101 : decode cX4_seek 101 = .ok (.aload_n 0, 1) := dk_42 (dk_at dksX4_seek_4 9 rfl rfl)
theorem dX4_seek_102 : decode cX4_seek 102 = .ok (.iload_n 3, 1) := dk_29 (dk_at dksX4_seek_4 10 rfl rfl)
theorem dX4_seek_103 : decode cX4_seek 103 = .ok (.putfield 15, 3) := dk_181 0 15 (dk_at dksX4_seek_4 11 rfl rfl)
theorem dX4_seek_106 : decode cX4_seek 106 = .ok (.aload_n 0, 1) := dk_42 (dk_at dksX4_seek_4 14 rfl rfl)
theorem dX4_seek_107 : decode cX4_seek 107 = .ok (.iload 5, 2) := dk_21 5 (dk_at dksX4_seek_4 15 rfl rfl)
theorem dX4_seek_109 : decode cX4_seek 109 = .ok (.putfield 53, 3) := dk_181 0 53 (dk_at dksX4_seek_4 17 rfl rfl)
theorem dX4_seek_112 : decode cX4_seek 112 = .ok (.iinc 3 1, 3) := dk_132 3 1 (dk_at dksX4_seek_4 20 rfl rfl)
theorem dX4_seek_115 : decode cX4_seek 115 = .ok (.goto (-84), 3) := dk_167 255 172 (dk_at dksX4_seek_5 0 rfl rfl)
theorem dX4_seek_118 : decode cX4_seek 118 = .ok (.aload_n 0, 1) := dk_42 (dk_at dksX4_seek_5 3 rfl rfl)
theorem dX4_seek_119 : decode cX4_seek 119 = .ok (.getfield 3, 3) := dk_180 0 3 (dk_at dksX4_seek_5 4 rfl rfl)
theorem dX4_seek_122 : decode cX4_seek 122 = .ok (.aload_n 0, 1) := dk_42 (dk_at dksX4_seek_5 7 rfl rfl)
theorem dX4_seek_123 : decode cX4_seek 123 = .ok (.getfield 15, 3) := dk_180 0 15 (dk_at dksX4_seek_5 8 rfl rfl)
theorem dX4_seek_126 : decode cX4_seek 126 = .ok (.ifCond .ge 7, 3) := dk_156 0 7 (dk_at dksX4_seek_5 11 rfl rfl)
theorem dX4_seek_129 : decode cX4_seek 129 = .ok (.iconst 0, 1) := dk_3 (dk_at dksX4_seek_5 14 rfl rfl)
theorem dX4_seek_130 : decode cX4_seek 130 = .ok (.goto 4, 3) := dk_167 0 4 (dk_at dksX4_seek_5 15 rfl rfl)
theorem dX4_seek_133 : decode cX4_seek 133 = .ok (.iload_n 2, 1) := dk_28 (dk_at dksX4_seek_5 18 rfl rfl)
theorem dX4_seek_134 : decode cX4_seek 134 = .ok (.putfield 56, 3) := dk_181 0 56 (dk_at dksX4_seek_5 19 rfl rfl)
theorem dX4_seek_137 : decode cX4_seek 137 = .ok (.iconst 0, 1) := dk_3 (dk_at dksX4_seek_5 22 rfl rfl)
theorem dX4_seek_138 : decode cX4_seek 138 = .ok (.istore_n 3, 1) := dk_62 (dk_at dksX4_seek_5 23 rfl rfl)
theorem dX4_seek_139 : decode cX4_seek 139 = .ok (.iload_n 3, 1) := dk_29 (dk_at dksX4_seek_6 0 rfl rfl)
theorem dX4_seek_140 : decode cX4_seek 140 = .ok (.aload_n 0, 1) := dk_42 (dk_at dksX4_seek_6 1 rfl rfl)
theorem dX4_seek_141 : decode cX4_seek 141 = .ok (.getfield 3, 3) := dk_180 0 3 (dk_at dksX4_seek_6 2 rfl rfl)
theorem dX4_seek_144 : decode cX4_seek 144 = .ok (.getfield 56, 3) := dk_180 0 56 (dk_at dksX4_seek_6 5 rfl rfl)
theorem dX4_seek_147 : decode cX4_seek 147 = .ok (.if_icmp .ge 27, 3) := dk_162 0 27 (dk_at dksX4_seek_6 8 rfl rfl)
theorem dX4_seek_150 : decode cX4_seek 150 = .ok (.aload_n 0, 1) := dk_42 (dk_at dksX4_seek_6 11 rfl rfl)
theorem dX4_seek_151 : decode cX4_seek 151 = .ok (.getfield 3, 3) := dk_180 0 3 (dk_at dksX4_seek_6 12 rfl rfl)
theorem dX4_seek_154 : decode cX4_seek 154 = .ok (.getfield 59, 3) := dk_180 0 59 (dk_at dksX4_seek_6 15 rfl rfl)
theorem dX4_seek_157 : decode cX4_seek 157 = .ok (.iload_n 3, 1) := dk_29 (dk_at dksX4_seek_6 18 rfl rfl)
theorem dX4_seek_158 : decode cX4_seek 158 = .ok (.aload_n 0, 1) := dk_42 (dk_at dksX4_seek_6 19 rfl rfl)
theorem dX4_seek_159 : decode cX4_seek 159 = .ok (.getfield 15, 3) := dk_180 0 15 (dk_at dksX4_seek_6 20 rfl rfl)
theorem dX4_seek_162 : decode cX4_seek 162 = .ok (.iload_n 2, 1) := dk_28 (dk_at dksX4_seek_6 23 rfl rfl)
theorem dX4_seek_163 : decode cX4_seek 163 = .ok (.iload_n 3, 1) := dk_29 (dk_at dksX4_seek_7 0 rfl rfl)
theorem dX4_seek_164 : decode cX4_seek 164 = .ok (.invokestatic 62, 3) := dk_184 0 62 (dk_at dksX4_seek_7 1 rfl rfl)
theorem dX4_seek_167 : decode cX4_seek 167 = .ok (.iastore, 1) := dk_79 (dk_at dksX4_seek_7 4 rfl rfl)
theorem dX4_seek_168 : decode cX4_seek 168 = .ok (.iinc 3 1, 3) := dk_132 3 1 (dk_at dksX4_seek_7 5 rfl rfl)
theorem dX4_seek_171 : decode cX4_seek 171 = .ok (.goto (-32), 3) := dk_167 255 224 (dk_at dksX4_seek_7 8 rfl rfl)
theorem dX4_seek_174 : decode cX4_seek 174 = .ok (.aload_n 0, 1) := dk_42 (dk_at dksX4_seek_7 11 rfl rfl)
theorem dX4_seek_175 : decode cX4_seek 175 = .ok (.getfield 15, 3) := dk_180 0 15 (dk_at dksX4_seek_7 12 rfl rfl)
theorem dX4_seek_178 : decode cX4_seek 178 = .ok (.ifCond .lt 7, 3) := dk_155 0 7 (dk_at dksX4_seek_7 15 rfl rfl)
theorem dX4_seek_181 : decode cX4_seek 181 = .ok (.iconst 1, 1) := dk_4 (dk_at dksX4_seek_7 18 rfl rfl)
theorem dX4_seek_182 : decode cX4_seek 182 = .ok (.goto 4, 3) := dk_167 0 4 (dk_at dksX4_seek_7 19 rfl rfl)
theorem dX4_seek_185 : decode cX4_seek 185 = .ok (.iconst 0, 1) := dk_3 (dk_at dksX4_seek_7 22 rfl rfl)
theorem dX4_seek_186 : decode cX4_seek 186 = .ok (.ireturn, 1) := dk_172 (dk_at dksX4_seek_7 23 rfl rfl)
theorem q138 : (Jvm.Cond.initialized "BoardCrossing$Wish") ∈ lw_all := lw_g (lw_at lw_m1 10 rfl) rfl
theorem q234 : (Jvm.Cond.fieldLinkNest "BoardCrossing$Wish" (23 : Nat) "BoardCrossing$Rive\x72" "strokes" "I" "BoardCrossing") ∈ lw_tbl := lw_at lw_m1 106 rfl
theorem q297 : (Jvm.Cond.fieldLinkNest "BoardCrossing$Wish" (32 : Nat) "BoardCrossing$State" "row" "[I" "BoardCrossing") ∈ lw_tbl := lw_at lw_m1 169 rfl
theorem q401 : (Jvm.Cond.instanceMethod ({ cls := "BoardCrossing$Wish", name := "<init>", desc := "(LBoardCrossing;)V" } : Jvm.MethodName)) ∈ lw_all := lw_g (lw_at lw_m2 33 rfl) rfl
theorem q402 : (Jvm.Cond.code ({ cls := "BoardCrossing$Wish", name := "<init>", desc := "(LBoardCrossing;)V" } : Jvm.MethodName) prog_17_method_1_code (2 : Nat) (Option.none : Option Jvm.ClassFile.FieldType)) ∈ lw_all := lw_g (lw_at lw_m2 34 rfl) rfl
theorem q403 : (Jvm.Cond.methodLink "BoardCrossing$Wish" (9 : Nat) ({ cls := "java/lang/Object", name := "<init>", desc := "()V" } : Jvm.MethodName)) ∈ lw_all := lw_g (lw_at lw_m2 35 rfl) rfl
theorem q405 : (Jvm.Cond.fieldLink "BoardCrossing$Wish" (15 : Nat) "BoardCrossing$Wish" "best" "I") ∈ lw_all := lw_g (lw_at lw_m2 37 rfl) rfl
theorem q407 : (Jvm.Cond.fieldLink "BoardCrossing$Wish" (53 : Nat) "BoardCrossing$Wish" "cost" "I") ∈ lw_all := lw_g (lw_at lw_m2 39 rfl) rfl
theorem q409 : (Jvm.Cond.fieldLink "BoardCrossing$Wish" (3 : Nat) "BoardCrossing$Wish" "this$0" "LBoardCrossing;") ∈ lw_all := lw_g (lw_at lw_m2 41 rfl) rfl
theorem q413 : (Jvm.Cond.soleField "BoardCrossing$Wish" "best") ∈ lw_all := lw_g (lw_at lw_m2 45 rfl) rfl
theorem q415 : (Jvm.Cond.soleField "BoardCrossing$Wish" "cost") ∈ lw_all := lw_g (lw_at lw_m2 47 rfl) rfl
theorem q417 : (Jvm.Cond.soleField "BoardCrossing$Wish" "this$0") ∈ lw_all := lw_g (lw_at lw_m2 49 rfl) rfl
theorem q479 : (Jvm.Cond.fieldLinkNest "BoardCrossing$Wish" (19 : Nat) "BoardCrossing" "rive\x72" "LBoardCrossing$River;" "BoardCrossing") ∈ lw_tbl := lw_at lw_m2 111 rfl
theorem q482 : (Jvm.Cond.fieldLinkNest "BoardCrossing$Wish" (28 : Nat) "BoardCrossing" "now" "LBoardCrossing$State;" "BoardCrossing") ∈ lw_tbl := lw_at lw_m2 114 rfl
theorem q484 : (Jvm.Cond.fieldLinkNest "BoardCrossing$Wish" (46 : Nat) "BoardCrossing" "then" "LBoardCrossing$State;" "BoardCrossing") ∈ lw_tbl := lw_at lw_m2 116 rfl
theorem q494 : (Jvm.Cond.fieldLinkNest "BoardCrossing$Wish" (59 : Nat) "BoardCrossing" "laidRow" "[I" "BoardCrossing") ∈ lw_tbl := lw_at lw_m2 126 rfl
theorem q497 : (Jvm.Cond.fieldLinkNest "BoardCrossing$Wish" (56 : Nat) "BoardCrossing" "laid" "I" "BoardCrossing") ∈ lw_tbl := lw_at lw_m2 129 rfl
theorem q1244 : (Jvm.Cond.instanceMethod ({ cls := "BoardCrossing$Wish", name := "seek", desc := "(I)Z" } : Jvm.MethodName)) ∈ lw_all := lw_g (lw_at lw_m5 156 rfl) rfl
theorem q1245 : (Jvm.Cond.sameMethod "BoardCrossing$Wish" "BoardCrossing$Wish" "seek" "(I)Z") ∈ lw_all := lw_g (lw_at lw_m5 157 rfl) rfl
theorem q1248 : (Jvm.Cond.code ({ cls := "BoardCrossing$Wish", name := "seek", desc := "(I)Z" } : Jvm.MethodName) prog_17_method_3_code (6 : Nat) (Option.some Jvm.ClassFile.FieldType.boolean)) ∈ lw_all := lw_g (lw_at lw_m5 160 rfl) rfl
theorem q1249 : (Jvm.Cond.methodLinkNest "BoardCrossing$Wish" (38 : Nat) ({ cls := "BoardCrossing", name := "powe\x72", desc := "(II)I" } : Jvm.MethodName) "BoardCrossing") ∈ lw_tbl := lw_at lw_m5 161 rfl
theorem q1250 : (Jvm.Cond.methodLinkNest "BoardCrossing$Wish" (42 : Nat) ({ cls := "BoardCrossing", name := "goRow", desc := "(III)I" } : Jvm.MethodName) "BoardCrossing") ∈ lw_tbl := lw_at lw_m5 162 rfl
theorem q1251 : (Jvm.Cond.methodLink "BoardCrossing$Wish" (49 : Nat) ({ cls := "BoardCrossing$Wish", name := "costOf", desc := "(LBoardCrossing$State;II)I" } : Jvm.MethodName)) ∈ lw_all := lw_g (lw_at lw_m5 163 rfl) rfl
theorem q1252 : (Jvm.Cond.declares ({ cls := "BoardCrossing$Wish", name := "costOf", desc := "(LBoardCrossing$State;II)I" } : Jvm.MethodName)) ∈ lw_tbl := lw_at lw_m5 164 rfl
theorem q1253 : (Jvm.Cond.sameMethod "BoardCrossing$Wish" "BoardCrossing$Wish" "costOf" "(LBoardCrossing$State;II)I") ∈ lw_all := lw_g (lw_at lw_m5 165 rfl) rfl
theorem q1260 : (Jvm.Cond.methodLinkNest "BoardCrossing$Wish" (62 : Nat) ({ cls := "BoardCrossing", name := "steerOf", desc := "(III)I" } : Jvm.MethodName) "BoardCrossing") ∈ lw_tbl := lw_at lw_m5 172 rfl
theorem q1267 : (Jvm.Cond.declares ({ cls := "BoardCrossing$Wish", name := "seek", desc := "(I)Z" } : Jvm.MethodName)) ∈ lw_tbl := lw_at lw_m5 179 rfl
/-! BoardCrossing$Coolest -/
set_option maxRecDepth 100000
def RX5 : String := "BoardCrossing$Coolest"
def TX5 : u_T := fun k => match k with
  | 0 => ("BoardCrossing$Wish", "best", "I", false)
  | 1 => ("BoardCrossing$Wish", "cost", "I", false)
  | 2 => ("BoardCrossing$Wish", "this$0", "LBoardCrossing;", true)
  | _ => ("BoardCrossing$Coolest", "this$0", "LBoardCrossing;", true)
def tyX5 : Nat → FieldType := fun k => match k with
  | 0 => .int
  | 1 => .int
  | 2 => .object "BoardCrossing"
  | _ => .object "BoardCrossing"
abbrev wsX50 : List Cond := u_ws RX5 TX5 4
-- two fields of one name: no nmX5
theorem tyX5_ok : ∀ k, k < 4 → parseFieldDescriptor (TX5 k).2.2.1 = some (tyX5 k) := by decide +kernel
abbrev cX5_init : ByteArray := prog_4_method_1_code
def yX5_init : MethodName := ⟨RX5, "<init>", "(LBoardCrossing;)V"⟩
def dkwX5_init_0 : List UInt8 := [42, 43, 181, 0, 3, 42, 43, 183, 0, 9, 177]
abbrev dktX5_init_0 : List UInt8 := dkwX5_init_0 ++ []
theorem dksX5_init_0 : cX5_init.data.toList.drop 0 = dktX5_init_0 := by decide +kernel
theorem dX5_init_0 : decode cX5_init 0 = .ok (.aload_n 0, 1) := dk_42 (dk_at dksX5_init_0 0 rfl rfl)
theorem dX5_init_1 : decode cX5_init 1 = .ok (.aload_n 1, 1) := dk_43 (dk_at dksX5_init_0 1 rfl rfl)
theorem dX5_init_2 : decode cX5_init 2 = .ok (.putfield 3, 3) := dk_181 0 3 (dk_at dksX5_init_0 2 rfl rfl)
theorem dX5_init_5 : decode cX5_init 5 = .ok (.aload_n 0, 1) := dk_42 (dk_at dksX5_init_0 5 rfl rfl)
theorem dX5_init_6 : decode cX5_init 6 = .ok (.aload_n 1, 1) := dk_43 (dk_at dksX5_init_0 6 rfl rfl)
theorem dX5_init_7 : decode cX5_init 7 = .ok (.invokespecial 9, 3) := dk_183 0 9 (dk_at dksX5_init_0 7 rfl rfl)
theorem dX5_init_10 : decode cX5_init 10 = .ok (.return_, 1) := dk_177 (dk_at dksX5_init_0 10 rfl rfl)
abbrev cX5_costOf : ByteArray := prog_4_method_2_code
def yX5_costOf : MethodName := ⟨RX5, "costOf", "(LBoardCrossing$State;II)I"⟩
def dkwX5_costOf_1 : List UInt8 := [180, 0, 25, 28, 46, 96, 172]
abbrev dktX5_costOf_1 : List UInt8 := dkwX5_costOf_1 ++ []
def dkwX5_costOf_0 : List UInt8 := [43, 180, 0, 15, 28, 46, 42, 180, 0, 3, 180, 0, 21, 180, 0, 15, 28, 46, 100, 16, 100, 104, 43]
abbrev dktX5_costOf_0 : List UInt8 := dkwX5_costOf_0 ++ dktX5_costOf_1
theorem dksX5_costOf_0 : cX5_costOf.data.toList.drop 0 = dktX5_costOf_0 := by decide +kernel
theorem dksX5_costOf_1 : cX5_costOf.data.toList.drop 23 = dktX5_costOf_1 := dk_seg dksX5_costOf_0 23 rfl rfl
theorem dX5_costOf_0 : decode cX5_costOf 0 = .ok (.aload_n 1, 1) := dk_43 (dk_at dksX5_costOf_0 0 rfl rfl)
theorem dX5_costOf_1 : decode cX5_costOf 1 = .ok (.getfield 15, 3) := dk_180 0 15 (dk_at dksX5_costOf_0 1 rfl rfl)
theorem dX5_costOf_4 : decode cX5_costOf 4 = .ok (.iload_n 2, 1) := dk_28 (dk_at dksX5_costOf_0 4 rfl rfl)
theorem dX5_costOf_5 : decode cX5_costOf 5 = .ok (.iaload, 1) := dk_46 (dk_at dksX5_costOf_0 5 rfl rfl)
theorem dX5_costOf_6 : decode cX5_costOf 6 = .ok (.aload_n 0, 1) := dk_42 (dk_at dksX5_costOf_0 6 rfl rfl)
theorem dX5_costOf_7 : decode cX5_costOf 7 = .ok (.getfield 3, 3) := dk_180 0 3 (dk_at dksX5_costOf_0 7 rfl rfl)
theorem dX5_costOf_10 : decode cX5_costOf 10 = .ok (.getfield 21, 3) := dk_180 0 21 (dk_at dksX5_costOf_0 10 rfl rfl)
theorem dX5_costOf_13 : decode cX5_costOf 13 = .ok (.getfield 15, 3) := dk_180 0 15 (dk_at dksX5_costOf_0 13 rfl rfl)
theorem dX5_costOf_16 : decode cX5_costOf 16 = .ok (.iload_n 2, 1) := dk_28 (dk_at dksX5_costOf_0 16 rfl rfl)
theorem dX5_costOf_17 : decode cX5_costOf 17 = .ok (.iaload, 1) := dk_46 (dk_at dksX5_costOf_0 17 rfl rfl)
theorem dX5_costOf_18 : decode cX5_costOf 18 = .ok (.isub, 1) := dk_100 (dk_at dksX5_costOf_0 18 rfl rfl)
theorem dX5_costOf_19 : decode cX5_costOf 19 = .ok (.bipush 100, 2) := dk_16 100 (dk_at dksX5_costOf_0 19 rfl rfl)
theorem dX5_costOf_21 : decode cX5_costOf 21 = .ok (.imul, 1) := dk_104 (dk_at dksX5_costOf_0 21 rfl rfl)
theorem dX5_costOf_22 : decode cX5_costOf 22 = .ok (.aload_n 1, 1) := dk_43 (dk_at dksX5_costOf_0 22 rfl rfl)
theorem dX5_costOf_23 : decode cX5_costOf 23 = .ok (.getfield 25, 3) := dk_180 0 25 (dk_at dksX5_costOf_1 0 rfl rfl)
theorem dX5_costOf_26 : decode cX5_costOf 26 = .ok (.iload_n 2, 1) := dk_28 (dk_at dksX5_costOf_1 3 rfl rfl)
theorem dX5_costOf_27 : decode cX5_costOf 27 = .ok (.iaload, 1) := dk_46 (dk_at dksX5_costOf_1 4 rfl rfl)
theorem dX5_costOf_28 : decode cX5_costOf 28 = .ok (.iadd, 1) := dk_96 (dk_at dksX5_costOf_1 5 rfl rfl)
theorem dX5_costOf_29 : decode cX5_costOf 29 = .ok (.ireturn, 1) := dk_172 (dk_at dksX5_costOf_1 6 rfl rfl)
theorem q139 : (Jvm.Cond.initialized "BoardCrossing$Coolest") ∈ lw_all := lw_g (lw_at lw_m1 11 rfl) rfl
theorem q300 : (Jvm.Cond.fieldLinkNest "BoardCrossing$Coolest" (25 : Nat) "BoardCrossing$State" "heat" "[I" "BoardCrossing") ∈ lw_tbl := lw_at lw_m1 172 rfl
theorem q304 : (Jvm.Cond.fieldLinkNest "BoardCrossing$Coolest" (15 : Nat) "BoardCrossing$State" "scorches" "[I" "BoardCrossing") ∈ lw_tbl := lw_at lw_m1 176 rfl
theorem q396 : (Jvm.Cond.instantiable "BoardCrossing$Coolest" (4 : Nat)) ∈ lw_all := lw_g (lw_at lw_m2 28 rfl) rfl
theorem q398 : (Jvm.Cond.instanceMethod ({ cls := "BoardCrossing$Coolest", name := "<init>", desc := "(LBoardCrossing;)V" } : Jvm.MethodName)) ∈ lw_all := lw_g (lw_at lw_m2 30 rfl) rfl
theorem q399 : (Jvm.Cond.code ({ cls := "BoardCrossing$Coolest", name := "<init>", desc := "(LBoardCrossing;)V" } : Jvm.MethodName) prog_4_method_1_code (2 : Nat) (Option.none : Option Jvm.ClassFile.FieldType)) ∈ lw_all := lw_g (lw_at lw_m2 31 rfl) rfl
theorem q400 : (Jvm.Cond.methodLinkNest "BoardCrossing$Coolest" (9 : Nat) ({ cls := "BoardCrossing$Wish", name := "<init>", desc := "(LBoardCrossing;)V" } : Jvm.MethodName) "BoardCrossing") ∈ lw_tbl := lw_at lw_m2 32 rfl
theorem q404 : (Jvm.Cond.fieldLink "BoardCrossing$Coolest" (3 : Nat) "BoardCrossing$Coolest" "this$0" "LBoardCrossing;") ∈ lw_all := lw_g (lw_at lw_m2 36 rfl) rfl
theorem q410 : (Jvm.Cond.laysFinal "BoardCrossing$Coolest" "BoardCrossing$Coolest" "this$0" "LBoardCrossing;") ∈ lw_all := lw_g (lw_at lw_m2 42 rfl) rfl
theorem q411 : (Jvm.Cond.soleField "BoardCrossing$Coolest" "this$0") ∈ lw_all := lw_g (lw_at lw_m2 43 rfl) rfl
theorem q412 : (Jvm.Cond.lays "BoardCrossing$Coolest" "BoardCrossing$Wish" "best" "I") ∈ lw_all := lw_g (lw_at lw_m2 44 rfl) rfl
theorem q414 : (Jvm.Cond.lays "BoardCrossing$Coolest" "BoardCrossing$Wish" "cost" "I") ∈ lw_all := lw_g (lw_at lw_m2 46 rfl) rfl
theorem q416 : (Jvm.Cond.laysFinal "BoardCrossing$Coolest" "BoardCrossing$Wish" "this$0" "LBoardCrossing;") ∈ lw_all := lw_g (lw_at lw_m2 48 rfl) rfl
theorem q418 : (Jvm.Cond.superclass "BoardCrossing$Coolest" "BoardCrossing$Wish") ∈ lw_all := lw_g (lw_at lw_m2 50 rfl) rfl
theorem q481 : (Jvm.Cond.fieldLinkNest "BoardCrossing$Coolest" (21 : Nat) "BoardCrossing" "now" "LBoardCrossing$State;" "BoardCrossing") ∈ lw_tbl := lw_at lw_m2 113 rfl
theorem q900 : (Jvm.Cond.selects "BoardCrossing$Coolest" ({ cls := "java/lang/Object", name := "getClass", desc := "()Ljava/lang/Class;" } : Jvm.MethodName) ({ cls := "java/lang/Object", name := "getClass", desc := "()Ljava/lang/Class;" } : Jvm.MethodName)) ∈ lw_all := lw_g (lw_at lw_m4 52 rfl) rfl
theorem q1246 : (Jvm.Cond.selects "BoardCrossing$Coolest" ({ cls := "BoardCrossing$Wish", name := "seek", desc := "(I)Z" } : Jvm.MethodName) ({ cls := "BoardCrossing$Wish", name := "seek", desc := "(I)Z" } : Jvm.MethodName)) ∈ lw_all := lw_g (lw_at lw_m5 158 rfl) rfl
theorem q1254 : (Jvm.Cond.selects "BoardCrossing$Coolest" ({ cls := "BoardCrossing$Wish", name := "costOf", desc := "(LBoardCrossing$State;II)I" } : Jvm.MethodName) ({ cls := "BoardCrossing$Coolest", name := "costOf", desc := "(LBoardCrossing$State;II)I" } : Jvm.MethodName)) ∈ lw_all := lw_g (lw_at lw_m5 166 rfl) rfl
theorem q1255 : (Jvm.Cond.instanceMethod ({ cls := "BoardCrossing$Coolest", name := "costOf", desc := "(LBoardCrossing$State;II)I" } : Jvm.MethodName)) ∈ lw_all := lw_g (lw_at lw_m5 167 rfl) rfl
theorem q1256 : (Jvm.Cond.code ({ cls := "BoardCrossing$Coolest", name := "costOf", desc := "(LBoardCrossing$State;II)I" } : Jvm.MethodName) prog_4_method_2_code (4 : Nat) (Option.some Jvm.ClassFile.FieldType.int)) ∈ lw_all := lw_g (lw_at lw_m5 168 rfl) rfl
theorem q2246 : (Jvm.Cond.castable "BoardCrossing$Coolest" "java/lang/Object") ∈ lw_tbl := lw_at lw_m9 198 rfl
theorem in_X5 : ∀ w ∈ wsX50, w ∈ lw_all := lw_in wsX50 [412, 414, 416, 410] (by decide +kernel) (by decide +kernel)
/-! BoardCrossing$Straightest -/
set_option maxRecDepth 100000
def RX6 : String := "BoardCrossing$Straightest"
def TX6 : u_T := fun k => match k with
  | 0 => ("BoardCrossing$Wish", "best", "I", false)
  | 1 => ("BoardCrossing$Wish", "cost", "I", false)
  | 2 => ("BoardCrossing$Wish", "this$0", "LBoardCrossing;", true)
  | 3 => ("BoardCrossing$Straightest", "to", "I", false)
  | _ => ("BoardCrossing$Straightest", "this$0", "LBoardCrossing;", true)
def tyX6 : Nat → FieldType := fun k => match k with
  | 0 => .int
  | 1 => .int
  | 2 => .object "BoardCrossing"
  | 3 => .int
  | _ => .object "BoardCrossing"
abbrev wsX60 : List Cond := u_ws RX6 TX6 5
-- two fields of one name: no nmX6
theorem tyX6_ok : ∀ k, k < 5 → parseFieldDescriptor (TX6 k).2.2.1 = some (tyX6 k) := by decide +kernel
abbrev cX6_init : ByteArray := prog_15_method_1_code
def yX6_init : MethodName := ⟨RX6, "<init>", "(LBoardCrossing;)V"⟩
def dkwX6_init_0 : List UInt8 := [42, 43, 181, 0, 3, 42, 43, 183, 0, 9, 177]
abbrev dktX6_init_0 : List UInt8 := dkwX6_init_0 ++ []
theorem dksX6_init_0 : cX6_init.data.toList.drop 0 = dktX6_init_0 := by decide +kernel
theorem dX6_init_0 : decode cX6_init 0 = .ok (.aload_n 0, 1) := dk_42 (dk_at dksX6_init_0 0 rfl rfl)
theorem dX6_init_1 : decode cX6_init 1 = .ok (.aload_n 1, 1) := dk_43 (dk_at dksX6_init_0 1 rfl rfl)
theorem dX6_init_2 : decode cX6_init 2 = .ok (.putfield 3, 3) := dk_181 0 3 (dk_at dksX6_init_0 2 rfl rfl)
theorem dX6_init_5 : decode cX6_init 5 = .ok (.aload_n 0, 1) := dk_42 (dk_at dksX6_init_0 5 rfl rfl)
theorem dX6_init_6 : decode cX6_init 6 = .ok (.aload_n 1, 1) := dk_43 (dk_at dksX6_init_0 6 rfl rfl)
theorem dX6_init_7 : decode cX6_init 7 = .ok (.invokespecial 9, 3) := dk_183 0 9 (dk_at dksX6_init_0 7 rfl rfl)
theorem dX6_init_10 : decode cX6_init 10 = .ok (.return_, 1) := dk_177 (dk_at dksX6_init_0 10 rfl rfl)
abbrev cX6_costOf : ByteArray := prog_15_method_2_code
def yX6_costOf : MethodName := ⟨RX6, "costOf", "(LBoardCrossing$State;II)I"⟩
def dkwX6_costOf_0 : List UInt8 := [43, 180, 0, 15, 28, 46, 42, 180, 0, 21, 160, 0, 7, 29, 167, 0, 4, 2, 172]
abbrev dktX6_costOf_0 : List UInt8 := dkwX6_costOf_0 ++ []
theorem dksX6_costOf_0 : cX6_costOf.data.toList.drop 0 = dktX6_costOf_0 := by decide +kernel
theorem dX6_costOf_0 : decode cX6_costOf 0 = .ok (.aload_n 1, 1) := dk_43 (dk_at dksX6_costOf_0 0 rfl rfl)
theorem dX6_costOf_1 : decode cX6_costOf 1 = .ok (.getfield 15, 3) := dk_180 0 15 (dk_at dksX6_costOf_0 1 rfl rfl)
theorem dX6_costOf_4 : decode cX6_costOf 4 = .ok (.iload_n 2, 1) := dk_28 (dk_at dksX6_costOf_0 4 rfl rfl)
theorem dX6_costOf_5 : decode cX6_costOf 5 = .ok (.iaload, 1) := dk_46 (dk_at dksX6_costOf_0 5 rfl rfl)
theorem dX6_costOf_6 : decode cX6_costOf 6 = .ok (.aload_n 0, 1) := dk_42 (dk_at dksX6_costOf_0 6 rfl rfl)
theorem dX6_costOf_7 : decode cX6_costOf 7 = .ok (.getfield 21, 3) := dk_180 0 21 (dk_at dksX6_costOf_0 7 rfl rfl)
theorem dX6_costOf_10 : decode cX6_costOf 10 = .ok (.if_icmp .ne 7, 3) := dk_160 0 7 (dk_at dksX6_costOf_0 10 rfl rfl)
theorem dX6_costOf_13 : decode cX6_costOf 13 = .ok (.iload_n 3, 1) := dk_29 (dk_at dksX6_costOf_0 13 rfl rfl)
theorem dX6_costOf_14 : decode cX6_costOf 14 = .ok (.goto 4, 3) := dk_167 0 4 (dk_at dksX6_costOf_0 14 rfl rfl)
theorem dX6_costOf_17 : decode cX6_costOf 17 = .ok (.iconst (-1), 1) := dk_2 (dk_at dksX6_costOf_0 17 rfl rfl)
theorem dX6_costOf_18 : decode cX6_costOf 18 = .ok (.ireturn, 1) := dk_172 (dk_at dksX6_costOf_0 18 rfl rfl)
theorem q140 : (Jvm.Cond.initialized "BoardCrossing$Straightest") ∈ lw_all := lw_g (lw_at lw_m1 12 rfl) rfl
theorem q292 : (Jvm.Cond.fieldLinkNest "BoardCrossing$Straightest" (15 : Nat) "BoardCrossing$State" "column" "[I" "BoardCrossing") ∈ lw_tbl := lw_at lw_m1 164 rfl
theorem q420 : (Jvm.Cond.instantiable "BoardCrossing$Straightest" (5 : Nat)) ∈ lw_all := lw_g (lw_at lw_m2 52 rfl) rfl
theorem q422 : (Jvm.Cond.instanceMethod ({ cls := "BoardCrossing$Straightest", name := "<init>", desc := "(LBoardCrossing;)V" } : Jvm.MethodName)) ∈ lw_all := lw_g (lw_at lw_m2 54 rfl) rfl
theorem q423 : (Jvm.Cond.code ({ cls := "BoardCrossing$Straightest", name := "<init>", desc := "(LBoardCrossing;)V" } : Jvm.MethodName) prog_15_method_1_code (2 : Nat) (Option.none : Option Jvm.ClassFile.FieldType)) ∈ lw_all := lw_g (lw_at lw_m2 55 rfl) rfl
theorem q424 : (Jvm.Cond.methodLinkNest "BoardCrossing$Straightest" (9 : Nat) ({ cls := "BoardCrossing$Wish", name := "<init>", desc := "(LBoardCrossing;)V" } : Jvm.MethodName) "BoardCrossing") ∈ lw_tbl := lw_at lw_m2 56 rfl
theorem q425 : (Jvm.Cond.fieldLink "BoardCrossing$Straightest" (21 : Nat) "BoardCrossing$Straightest" "to" "I") ∈ lw_all := lw_g (lw_at lw_m2 57 rfl) rfl
theorem q427 : (Jvm.Cond.fieldLink "BoardCrossing$Straightest" (3 : Nat) "BoardCrossing$Straightest" "this$0" "LBoardCrossing;") ∈ lw_all := lw_g (lw_at lw_m2 59 rfl) rfl
theorem q428 : (Jvm.Cond.lays "BoardCrossing$Straightest" "BoardCrossing$Straightest" "to" "I") ∈ lw_all := lw_g (lw_at lw_m2 60 rfl) rfl
theorem q429 : (Jvm.Cond.soleField "BoardCrossing$Straightest" "to") ∈ lw_all := lw_g (lw_at lw_m2 61 rfl) rfl
theorem q430 : (Jvm.Cond.laysFinal "BoardCrossing$Straightest" "BoardCrossing$Straightest" "this$0" "LBoardCrossing;") ∈ lw_all := lw_g (lw_at lw_m2 62 rfl) rfl
theorem q431 : (Jvm.Cond.soleField "BoardCrossing$Straightest" "this$0") ∈ lw_all := lw_g (lw_at lw_m2 63 rfl) rfl
theorem q432 : (Jvm.Cond.lays "BoardCrossing$Straightest" "BoardCrossing$Wish" "best" "I") ∈ lw_all := lw_g (lw_at lw_m2 64 rfl) rfl
theorem q433 : (Jvm.Cond.lays "BoardCrossing$Straightest" "BoardCrossing$Wish" "cost" "I") ∈ lw_all := lw_g (lw_at lw_m2 65 rfl) rfl
theorem q434 : (Jvm.Cond.laysFinal "BoardCrossing$Straightest" "BoardCrossing$Wish" "this$0" "LBoardCrossing;") ∈ lw_all := lw_g (lw_at lw_m2 66 rfl) rfl
theorem q435 : (Jvm.Cond.superclass "BoardCrossing$Straightest" "BoardCrossing$Wish") ∈ lw_all := lw_g (lw_at lw_m2 67 rfl) rfl
theorem q910 : (Jvm.Cond.selects "BoardCrossing$Straightest" ({ cls := "java/lang/Object", name := "getClass", desc := "()Ljava/lang/Class;" } : Jvm.MethodName) ({ cls := "java/lang/Object", name := "getClass", desc := "()Ljava/lang/Class;" } : Jvm.MethodName)) ∈ lw_all := lw_g (lw_at lw_m4 62 rfl) rfl
theorem q1247 : (Jvm.Cond.selects "BoardCrossing$Straightest" ({ cls := "BoardCrossing$Wish", name := "seek", desc := "(I)Z" } : Jvm.MethodName) ({ cls := "BoardCrossing$Wish", name := "seek", desc := "(I)Z" } : Jvm.MethodName)) ∈ lw_all := lw_g (lw_at lw_m5 159 rfl) rfl
theorem q1257 : (Jvm.Cond.selects "BoardCrossing$Straightest" ({ cls := "BoardCrossing$Wish", name := "costOf", desc := "(LBoardCrossing$State;II)I" } : Jvm.MethodName) ({ cls := "BoardCrossing$Straightest", name := "costOf", desc := "(LBoardCrossing$State;II)I" } : Jvm.MethodName)) ∈ lw_all := lw_g (lw_at lw_m5 169 rfl) rfl
theorem q1258 : (Jvm.Cond.instanceMethod ({ cls := "BoardCrossing$Straightest", name := "costOf", desc := "(LBoardCrossing$State;II)I" } : Jvm.MethodName)) ∈ lw_all := lw_g (lw_at lw_m5 170 rfl) rfl
theorem q1259 : (Jvm.Cond.code ({ cls := "BoardCrossing$Straightest", name := "costOf", desc := "(LBoardCrossing$State;II)I" } : Jvm.MethodName) prog_15_method_2_code (4 : Nat) (Option.some Jvm.ClassFile.FieldType.int)) ∈ lw_all := lw_g (lw_at lw_m5 171 rfl) rfl
theorem q1266 : (Jvm.Cond.sameMethod "BoardCrossing$Straightest" "BoardCrossing$Wish" "seek" "(I)Z") ∈ lw_all := lw_g (lw_at lw_m5 178 rfl) rfl
theorem q1268 : (Jvm.Cond.selects "BoardCrossing$Straightest" ({ cls := "BoardCrossing$Straightest", name := "seek", desc := "(I)Z" } : Jvm.MethodName) ({ cls := "BoardCrossing$Wish", name := "seek", desc := "(I)Z" } : Jvm.MethodName)) ∈ lw_all := lw_g (lw_at lw_m5 180 rfl) rfl
theorem q2247 : (Jvm.Cond.castable "BoardCrossing$Straightest" "java/lang/Object") ∈ lw_tbl := lw_at lw_m9 199 rfl
theorem in_X6 : ∀ w ∈ wsX60, w ∈ lw_all := lw_in wsX60 [432, 433, 434, 428, 430] (by decide +kernel) (by decide +kernel)
/-! BoardCrossing$Kept -/
set_option maxRecDepth 100000
def RX7 : String := "BoardCrossing$Kept"
def TX7 : u_T := fun k => match k with
  | _ => ("BoardCrossing$Kept", "state", "LBoardCrossing$State;", false)
def tyX7 : Nat → FieldType := fun k => match k with
  | _ => .object "BoardCrossing$State"
abbrev wsX70 : List Cond := u_ws RX7 TX7 1
theorem nmX7 : ∀ a, a < 1 → ∀ b, b < 1 → a ≠ b → (TX7 a).2.1 ≠ (TX7 b).2.1 := by decide +kernel
theorem tyX7_ok : ∀ k, k < 1 → parseFieldDescriptor (TX7 k).2.2.1 = some (tyX7 k) := by decide +kernel
abbrev cX7_init : ByteArray := prog_5_method_1_code
def yX7_init : MethodName := ⟨RX7, "<init>", "(LBoardCrossing$State;)V"⟩
def dkwX7_init_0 : List UInt8 := [42, 183, 0, 1, 42, 43, 181, 0, 7, 177]
abbrev dktX7_init_0 : List UInt8 := dkwX7_init_0 ++ []
theorem dksX7_init_0 : cX7_init.data.toList.drop 0 = dktX7_init_0 := by decide +kernel
theorem dX7_init_0 : decode cX7_init 0 = .ok (.aload_n 0, 1) := dk_42 (dk_at dksX7_init_0 0 rfl rfl)
theorem dX7_init_1 : decode cX7_init 1 = .ok (.invokespecial 1, 3) := dk_183 0 1 (dk_at dksX7_init_0 1 rfl rfl)
theorem dX7_init_4 : decode cX7_init 4 = .ok (.aload_n 0, 1) := dk_42 (dk_at dksX7_init_0 4 rfl rfl)
theorem dX7_init_5 : decode cX7_init 5 = .ok (.aload_n 1, 1) := dk_43 (dk_at dksX7_init_0 5 rfl rfl)
theorem dX7_init_6 : decode cX7_init 6 = .ok (.putfield 7, 3) := dk_181 0 7 (dk_at dksX7_init_0 6 rfl rfl)
theorem dX7_init_9 : decode cX7_init 9 = .ok (.return_, 1) := dk_177 (dk_at dksX7_init_0 9 rfl rfl)
theorem q141 : (Jvm.Cond.initialized "BoardCrossing$Kept") ∈ lw_all := lw_g (lw_at lw_m1 13 rfl) rfl
theorem q438 : (Jvm.Cond.instantiable "BoardCrossing$Kept" (1 : Nat)) ∈ lw_all := lw_g (lw_at lw_m2 70 rfl) rfl
theorem q440 : (Jvm.Cond.instanceMethod ({ cls := "BoardCrossing$Kept", name := "<init>", desc := "(LBoardCrossing$State;)V" } : Jvm.MethodName)) ∈ lw_all := lw_g (lw_at lw_m2 72 rfl) rfl
theorem q441 : (Jvm.Cond.code ({ cls := "BoardCrossing$Kept", name := "<init>", desc := "(LBoardCrossing$State;)V" } : Jvm.MethodName) prog_5_method_1_code (2 : Nat) (Option.none : Option Jvm.ClassFile.FieldType)) ∈ lw_all := lw_g (lw_at lw_m2 73 rfl) rfl
theorem q442 : (Jvm.Cond.methodLink "BoardCrossing$Kept" (1 : Nat) ({ cls := "java/lang/Object", name := "<init>", desc := "()V" } : Jvm.MethodName)) ∈ lw_all := lw_g (lw_at lw_m2 74 rfl) rfl
theorem q443 : (Jvm.Cond.fieldLink "BoardCrossing$Kept" (7 : Nat) "BoardCrossing$Kept" "state" "LBoardCrossing$State;") ∈ lw_all := lw_g (lw_at lw_m2 75 rfl) rfl
theorem q445 : (Jvm.Cond.lays "BoardCrossing$Kept" "BoardCrossing$Kept" "state" "LBoardCrossing$State;") ∈ lw_all := lw_g (lw_at lw_m2 77 rfl) rfl
theorem q446 : (Jvm.Cond.soleField "BoardCrossing$Kept" "state") ∈ lw_all := lw_g (lw_at lw_m2 78 rfl) rfl
theorem q447 : (Jvm.Cond.superclass "BoardCrossing$Kept" "java/lang/Object") ∈ lw_all := lw_g (lw_at lw_m2 79 rfl) rfl
theorem q901 : (Jvm.Cond.selects "BoardCrossing$Kept" ({ cls := "java/lang/Object", name := "getClass", desc := "()Ljava/lang/Class;" } : Jvm.MethodName) ({ cls := "java/lang/Object", name := "getClass", desc := "()Ljava/lang/Class;" } : Jvm.MethodName)) ∈ lw_all := lw_g (lw_at lw_m4 53 rfl) rfl
theorem q2239 : (Jvm.Cond.castable "BoardCrossing$Kept" "java/lang/Object") ∈ lw_tbl := lw_at lw_m9 191 rfl
theorem in_X7 : ∀ w ∈ wsX70, w ∈ lw_all := lw_in wsX70 [445] (by decide +kernel) (by decide +kernel)
/-! BoardCrossing$Called -/
set_option maxRecDepth 100000
def RX10 : String := "BoardCrossing$Called"
abbrev cX10_init : ByteArray := prog_3_method_1_code
def yX10_init : MethodName := ⟨RX10, "<init>", "(J)V"⟩
def dkwX10_init_0 : List UInt8 := [42, 183, 0, 1, 42, 31, 181, 0, 7, 177]
abbrev dktX10_init_0 : List UInt8 := dkwX10_init_0 ++ []
theorem dksX10_init_0 : cX10_init.data.toList.drop 0 = dktX10_init_0 := by decide +kernel
theorem dX10_init_0 : decode cX10_init 0 = .ok (.aload_n 0, 1) := dk_42 (dk_at dksX10_init_0 0 rfl rfl)
theorem dX10_init_1 : decode cX10_init 1 = .ok (.invokespecial 1, 3) := dk_183 0 1 (dk_at dksX10_init_0 1 rfl rfl)
theorem dX10_init_4 : decode cX10_init 4 = .ok (.aload_n 0, 1) := dk_42 (dk_at dksX10_init_0 4 rfl rfl)
theorem dX10_init_5 : decode cX10_init 5 = .ok (.lload_n 1, 1) := dk_31 (dk_at dksX10_init_0 5 rfl rfl)
theorem dX10_init_6 : decode cX10_init 6 = .ok (.putfield 7, 3) := dk_181 0 7 (dk_at dksX10_init_0 6 rfl rfl)
theorem dX10_init_9 : decode cX10_init 9 = .ok (.return_, 1) := dk_177 (dk_at dksX10_init_0 9 rfl rfl)
theorem q149 : (Jvm.Cond.initialized "BoardCrossing$Called") ∈ lw_all := lw_g (lw_at lw_m1 21 rfl) rfl
theorem q836 : (Jvm.Cond.instanceMethod ({ cls := "BoardCrossing$Called", name := "<init>", desc := "(J)V" } : Jvm.MethodName)) ∈ lw_all := lw_g (lw_at lw_m3 228 rfl) rfl
theorem q837 : (Jvm.Cond.code ({ cls := "BoardCrossing$Called", name := "<init>", desc := "(J)V" } : Jvm.MethodName) prog_3_method_1_code (3 : Nat) (Option.none : Option Jvm.ClassFile.FieldType)) ∈ lw_all := lw_g (lw_at lw_m3 229 rfl) rfl
theorem q838 : (Jvm.Cond.methodLink "BoardCrossing$Called" (1 : Nat) ({ cls := "java/lang/Object", name := "<init>", desc := "()V" } : Jvm.MethodName)) ∈ lw_all := lw_g (lw_at lw_m3 230 rfl) rfl
theorem q845 : (Jvm.Cond.fieldLink "BoardCrossing$Called" (7 : Nat) "BoardCrossing$Called" "name" "J") ∈ lw_all := lw_g (lw_at lw_m3 237 rfl) rfl
theorem q860 : (Jvm.Cond.soleField "BoardCrossing$Called" "name") ∈ lw_all := lw_g (lw_at lw_m4 12 rfl) rfl
theorem q862 : (Jvm.Cond.soleField "BoardCrossing$Called" "wide") ∈ lw_all := lw_g (lw_at lw_m4 14 rfl) rfl
/-! BoardCrossing$Board -/
set_option maxRecDepth 100000
def RX11 : String := "BoardCrossing$Board"
def TX11 : u_T := fun k => match k with
  | 0 => ("BoardCrossing$Called", "name", "J", true)
  | 1 => ("BoardCrossing$Called", "wide", "I", false)
  | 2 => ("BoardCrossing$Board", "at", "I", false)
  | _ => ("BoardCrossing$Board", "bears", "I", false)
def tyX11 : Nat → FieldType := fun k => match k with
  | 0 => .long
  | 1 => .int
  | 2 => .int
  | _ => .int
abbrev wsX110 : List Cond := u_ws RX11 TX11 4
theorem nmX11 : ∀ a, a < 4 → ∀ b, b < 4 → a ≠ b → (TX11 a).2.1 ≠ (TX11 b).2.1 := by decide +kernel
theorem tyX11_ok : ∀ k, k < 4 → parseFieldDescriptor (TX11 k).2.2.1 = some (tyX11 k) := by decide +kernel
abbrev cX11_init : ByteArray := prog_2_method_1_code
def yX11_init : MethodName := ⟨RX11, "<init>", "(J)V"⟩
def dkwX11_init_0 : List UInt8 := [42, 31, 183, 0, 3, 42, 16, 20, 181, 0, 9, 177]
abbrev dktX11_init_0 : List UInt8 := dkwX11_init_0 ++ []
theorem dksX11_init_0 : cX11_init.data.toList.drop 0 = dktX11_init_0 := by decide +kernel
theorem dX11_init_0 : decode cX11_init 0 = .ok (.aload_n 0, 1) := dk_42 (dk_at dksX11_init_0 0 rfl rfl)
theorem dX11_init_1 : decode cX11_init 1 = .ok (.lload_n 1, 1) := dk_31 (dk_at dksX11_init_0 1 rfl rfl)
theorem dX11_init_2 : decode cX11_init 2 = .ok (.invokespecial 3, 3) := dk_183 0 3 (dk_at dksX11_init_0 2 rfl rfl)
theorem dX11_init_5 : decode cX11_init 5 = .ok (.aload_n 0, 1) := dk_42 (dk_at dksX11_init_0 5 rfl rfl)
theorem dX11_init_6 : decode cX11_init 6 = .ok (.bipush 20, 2) := dk_16 20 (dk_at dksX11_init_0 6 rfl rfl)
theorem dX11_init_8 : decode cX11_init 8 = .ok (.putfield 9, 3) := dk_181 0 9 (dk_at dksX11_init_0 8 rfl rfl)
theorem dX11_init_11 : decode cX11_init 11 = .ok (.return_, 1) := dk_177 (dk_at dksX11_init_0 11 rfl rfl)
theorem q150 : (Jvm.Cond.initialized "BoardCrossing$Board") ∈ lw_all := lw_g (lw_at lw_m1 22 rfl) rfl
theorem q774 : (Jvm.Cond.instantiable "BoardCrossing$Board" (4 : Nat)) ∈ lw_all := lw_g (lw_at lw_m3 166 rfl) rfl
theorem q833 : (Jvm.Cond.instanceMethod ({ cls := "BoardCrossing$Board", name := "<init>", desc := "(J)V" } : Jvm.MethodName)) ∈ lw_all := lw_g (lw_at lw_m3 225 rfl) rfl
theorem q834 : (Jvm.Cond.code ({ cls := "BoardCrossing$Board", name := "<init>", desc := "(J)V" } : Jvm.MethodName) prog_2_method_1_code (3 : Nat) (Option.none : Option Jvm.ClassFile.FieldType)) ∈ lw_all := lw_g (lw_at lw_m3 226 rfl) rfl
theorem q835 : (Jvm.Cond.methodLink "BoardCrossing$Board" (3 : Nat) ({ cls := "BoardCrossing$Called", name := "<init>", desc := "(J)V" } : Jvm.MethodName)) ∈ lw_all := lw_g (lw_at lw_m3 227 rfl) rfl
theorem q841 : (Jvm.Cond.fieldLink "BoardCrossing$Board" (9 : Nat) "BoardCrossing$Board" "bears" "I") ∈ lw_all := lw_g (lw_at lw_m3 233 rfl) rfl
theorem q848 : (Jvm.Cond.sameField "BoardCrossing$Board" "BoardCrossing$Called" "wide" "I") ∈ lw_all := lw_g (lw_at lw_m4 0 rfl) rfl
theorem q855 : (Jvm.Cond.lays "BoardCrossing$Board" "BoardCrossing$Board" "at" "I") ∈ lw_all := lw_g (lw_at lw_m4 7 rfl) rfl
theorem q856 : (Jvm.Cond.soleField "BoardCrossing$Board" "at") ∈ lw_all := lw_g (lw_at lw_m4 8 rfl) rfl
theorem q857 : (Jvm.Cond.lays "BoardCrossing$Board" "BoardCrossing$Board" "bears" "I") ∈ lw_all := lw_g (lw_at lw_m4 9 rfl) rfl
theorem q858 : (Jvm.Cond.soleField "BoardCrossing$Board" "bears") ∈ lw_all := lw_g (lw_at lw_m4 10 rfl) rfl
theorem q859 : (Jvm.Cond.laysFinal "BoardCrossing$Board" "BoardCrossing$Called" "name" "J") ∈ lw_all := lw_g (lw_at lw_m4 11 rfl) rfl
theorem q861 : (Jvm.Cond.lays "BoardCrossing$Board" "BoardCrossing$Called" "wide" "I") ∈ lw_all := lw_g (lw_at lw_m4 13 rfl) rfl
theorem q863 : (Jvm.Cond.superclass "BoardCrossing$Board" "BoardCrossing$Called") ∈ lw_all := lw_g (lw_at lw_m4 15 rfl) rfl
theorem q899 : (Jvm.Cond.selects "BoardCrossing$Board" ({ cls := "java/lang/Object", name := "getClass", desc := "()Ljava/lang/Class;" } : Jvm.MethodName) ({ cls := "java/lang/Object", name := "getClass", desc := "()Ljava/lang/Class;" } : Jvm.MethodName)) ∈ lw_all := lw_g (lw_at lw_m4 51 rfl) rfl
theorem q2237 : (Jvm.Cond.castable "BoardCrossing$Board" "BoardCrossing$Called") ∈ lw_tbl := lw_at lw_m9 189 rfl
theorem q2250 : (Jvm.Cond.castable "BoardCrossing$Board" "java/lang/Object") ∈ lw_tbl := lw_at lw_m9 202 rfl
theorem in_X11 : ∀ w ∈ wsX110, w ∈ lw_all := lw_in wsX110 [859, 861, 855, 857] (by decide +kernel) (by decide +kernel)
/-! BoardCrossing$Load -/
set_option maxRecDepth 100000
def RX12 : String := "BoardCrossing$Load"
def TX12 : u_T := fun k => match k with
  | 0 => ("BoardCrossing$Called", "name", "J", true)
  | _ => ("BoardCrossing$Called", "wide", "I", false)
def tyX12 : Nat → FieldType := fun k => match k with
  | 0 => .long
  | _ => .int
abbrev wsX120 : List Cond := u_ws RX12 TX12 2
theorem nmX12 : ∀ a, a < 2 → ∀ b, b < 2 → a ≠ b → (TX12 a).2.1 ≠ (TX12 b).2.1 := by decide +kernel
theorem tyX12_ok : ∀ k, k < 2 → parseFieldDescriptor (TX12 k).2.2.1 = some (tyX12 k) := by decide +kernel
abbrev cX12_init : ByteArray := prog_6_method_1_code
def yX12_init : MethodName := ⟨RX12, "<init>", "(J)V"⟩
def dkwX12_init_0 : List UInt8 := [42, 31, 183, 0, 1, 177]
abbrev dktX12_init_0 : List UInt8 := dkwX12_init_0 ++ []
theorem dksX12_init_0 : cX12_init.data.toList.drop 0 = dktX12_init_0 := by decide +kernel
theorem dX12_init_0 : decode cX12_init 0 = .ok (.aload_n 0, 1) := dk_42 (dk_at dksX12_init_0 0 rfl rfl)
theorem dX12_init_1 : decode cX12_init 1 = .ok (.lload_n 1, 1) := dk_31 (dk_at dksX12_init_0 1 rfl rfl)
theorem dX12_init_2 : decode cX12_init 2 = .ok (.invokespecial 1, 3) := dk_183 0 1 (dk_at dksX12_init_0 2 rfl rfl)
theorem dX12_init_5 : decode cX12_init 5 = .ok (.return_, 1) := dk_177 (dk_at dksX12_init_0 5 rfl rfl)
theorem q156 : (Jvm.Cond.initialized "BoardCrossing$Load") ∈ lw_all := lw_g (lw_at lw_m1 28 rfl) rfl
theorem q850 : (Jvm.Cond.sameField "BoardCrossing$Load" "BoardCrossing$Called" "wide" "I") ∈ lw_all := lw_g (lw_at lw_m4 2 rfl) rfl
theorem q902 : (Jvm.Cond.selects "BoardCrossing$Load" ({ cls := "java/lang/Object", name := "getClass", desc := "()Ljava/lang/Class;" } : Jvm.MethodName) ({ cls := "java/lang/Object", name := "getClass", desc := "()Ljava/lang/Class;" } : Jvm.MethodName)) ∈ lw_all := lw_g (lw_at lw_m4 54 rfl) rfl
theorem q936 : (Jvm.Cond.instantiable "BoardCrossing$Load" (2 : Nat)) ∈ lw_all := lw_g (lw_at lw_m4 88 rfl) rfl
theorem q938 : (Jvm.Cond.instanceMethod ({ cls := "BoardCrossing$Load", name := "<init>", desc := "(J)V" } : Jvm.MethodName)) ∈ lw_all := lw_g (lw_at lw_m4 90 rfl) rfl
theorem q939 : (Jvm.Cond.code ({ cls := "BoardCrossing$Load", name := "<init>", desc := "(J)V" } : Jvm.MethodName) prog_6_method_1_code (3 : Nat) (Option.none : Option Jvm.ClassFile.FieldType)) ∈ lw_all := lw_g (lw_at lw_m4 91 rfl) rfl
theorem q940 : (Jvm.Cond.methodLink "BoardCrossing$Load" (1 : Nat) ({ cls := "BoardCrossing$Called", name := "<init>", desc := "(J)V" } : Jvm.MethodName)) ∈ lw_all := lw_g (lw_at lw_m4 92 rfl) rfl
theorem q941 : (Jvm.Cond.laysFinal "BoardCrossing$Load" "BoardCrossing$Called" "name" "J") ∈ lw_all := lw_g (lw_at lw_m4 93 rfl) rfl
theorem q942 : (Jvm.Cond.lays "BoardCrossing$Load" "BoardCrossing$Called" "wide" "I") ∈ lw_all := lw_g (lw_at lw_m4 94 rfl) rfl
theorem q943 : (Jvm.Cond.superclass "BoardCrossing$Load" "BoardCrossing$Called") ∈ lw_all := lw_g (lw_at lw_m4 95 rfl) rfl
theorem q2238 : (Jvm.Cond.castable "BoardCrossing$Load" "BoardCrossing$Called") ∈ lw_tbl := lw_at lw_m9 190 rfl
theorem q2252 : (Jvm.Cond.castable "BoardCrossing$Load" "java/lang/Object") ∈ lw_tbl := lw_at lw_m9 204 rfl
theorem in_X12 : ∀ w ∈ wsX120, w ∈ lw_all := lw_in wsX120 [941, 942] (by decide +kernel) (by decide +kernel)
/-! BoardCrossing$Part -/
set_option maxRecDepth 100000
def RX13 : String := "BoardCrossing$Part"
abbrev cX13_init : ByteArray := prog_10_method_1_code
def yX13_init : MethodName := ⟨RX13, "<init>", "()V"⟩
theorem dX13_init_0 : decode cX13_init 0 = .ok (.aload_n 0, 1) := by decide +kernel
theorem dX13_init_1 : decode cX13_init 1 = .ok (.invokespecial 1, 3) := by decide +kernel
theorem dX13_init_4 : decode cX13_init 4 = .ok (.return_, 1) := by decide +kernel
theorem q157 : (Jvm.Cond.initialized "BoardCrossing$Part") ∈ lw_all := lw_g (lw_at lw_m1 29 rfl) rfl
theorem q971 : (Jvm.Cond.instanceMethod ({ cls := "BoardCrossing$Part", name := "<init>", desc := "()V" } : Jvm.MethodName)) ∈ lw_all := lw_g (lw_at lw_m4 123 rfl) rfl
theorem q972 : (Jvm.Cond.code ({ cls := "BoardCrossing$Part", name := "<init>", desc := "()V" } : Jvm.MethodName) prog_10_method_1_code (1 : Nat) (Option.none : Option Jvm.ClassFile.FieldType)) ∈ lw_all := lw_g (lw_at lw_m4 124 rfl) rfl
theorem q973 : (Jvm.Cond.methodLink "BoardCrossing$Part" (1 : Nat) ({ cls := "java/lang/Object", name := "<init>", desc := "()V" } : Jvm.MethodName)) ∈ lw_all := lw_g (lw_at lw_m4 125 rfl) rfl
theorem q1104 : (Jvm.Cond.declares ({ cls := "BoardCrossing$Part", name := "of", desc := "([I)I" } : Jvm.MethodName)) ∈ lw_tbl := lw_at lw_m5 16 rfl
theorem q1105 : (Jvm.Cond.sameMethod "BoardCrossing$Part" "BoardCrossing$Part" "of" "([I)I") ∈ lw_all := lw_g (lw_at lw_m5 17 rfl) rfl
/-! BoardCrossing$Not -/
set_option maxRecDepth 100000
def RX14 : String := "BoardCrossing$Not"
def TX14 : u_T := fun k => match k with
  | _ => ("BoardCrossing$Not", "a", "LBoardCrossing$Part;", true)
def tyX14 : Nat → FieldType := fun k => match k with
  | _ => .object "BoardCrossing$Part"
abbrev wsX140 : List Cond := u_ws RX14 TX14 1
theorem nmX14 : ∀ a, a < 1 → ∀ b, b < 1 → a ≠ b → (TX14 a).2.1 ≠ (TX14 b).2.1 := by decide +kernel
theorem tyX14_ok : ∀ k, k < 1 → parseFieldDescriptor (TX14 k).2.2.1 = some (tyX14 k) := by decide +kernel
abbrev cX14_init : ByteArray := prog_8_method_1_code
def yX14_init : MethodName := ⟨RX14, "<init>", "(LBoardCrossing$Part;)V"⟩
def dkwX14_init_0 : List UInt8 := [42, 183, 0, 1, 42, 43, 181, 0, 7, 177]
abbrev dktX14_init_0 : List UInt8 := dkwX14_init_0 ++ []
theorem dksX14_init_0 : cX14_init.data.toList.drop 0 = dktX14_init_0 := by decide +kernel
theorem dX14_init_0 : decode cX14_init 0 = .ok (.aload_n 0, 1) := dk_42 (dk_at dksX14_init_0 0 rfl rfl)
theorem dX14_init_1 : decode cX14_init 1 = .ok (.invokespecial 1, 3) := dk_183 0 1 (dk_at dksX14_init_0 1 rfl rfl)
theorem dX14_init_4 : decode cX14_init 4 = .ok (.aload_n 0, 1) := dk_42 (dk_at dksX14_init_0 4 rfl rfl)
theorem dX14_init_5 : decode cX14_init 5 = .ok (.aload_n 1, 1) := dk_43 (dk_at dksX14_init_0 5 rfl rfl)
theorem dX14_init_6 : decode cX14_init 6 = .ok (.putfield 7, 3) := dk_181 0 7 (dk_at dksX14_init_0 6 rfl rfl)
theorem dX14_init_9 : decode cX14_init 9 = .ok (.return_, 1) := dk_177 (dk_at dksX14_init_0 9 rfl rfl)
abbrev cX14_of : ByteArray := prog_8_method_2_code
def yX14_of : MethodName := ⟨RX14, "of", "([I)I"⟩
def dkwX14_of_0 : List UInt8 := [42, 180, 0, 7, 43, 182, 0, 13, 154, 0, 7, 4, 167, 0, 4, 3, 172]
abbrev dktX14_of_0 : List UInt8 := dkwX14_of_0 ++ []
theorem dksX14_of_0 : cX14_of.data.toList.drop 0 = dktX14_of_0 := by decide +kernel
theorem dX14_of_0 : decode cX14_of 0 = .ok (.aload_n 0, 1) := dk_42 (dk_at dksX14_of_0 0 rfl rfl)
theorem dX14_of_1 : decode cX14_of 1 = .ok (.getfield 7, 3) := dk_180 0 7 (dk_at dksX14_of_0 1 rfl rfl)
theorem dX14_of_4 : decode cX14_of 4 = .ok (.aload_n 1, 1) := dk_43 (dk_at dksX14_of_0 4 rfl rfl)
theorem dX14_of_5 : decode cX14_of 5 = .ok (.invokevirtual 13, 3) := dk_182 0 13 (dk_at dksX14_of_0 5 rfl rfl)
theorem dX14_of_8 : decode cX14_of 8 = .ok (.ifCond .ne 7, 3) := dk_154 0 7 (dk_at dksX14_of_0 8 rfl rfl)
theorem dX14_of_11 : decode cX14_of 11 = .ok (.iconst 1, 1) := dk_4 (dk_at dksX14_of_0 11 rfl rfl)
theorem dX14_of_12 : decode cX14_of 12 = .ok (.goto 4, 3) := dk_167 0 4 (dk_at dksX14_of_0 12 rfl rfl)
theorem dX14_of_15 : decode cX14_of 15 = .ok (.iconst 0, 1) := dk_3 (dk_at dksX14_of_0 15 rfl rfl)
theorem dX14_of_16 : decode cX14_of 16 = .ok (.ireturn, 1) := dk_172 (dk_at dksX14_of_0 16 rfl rfl)
theorem q158 : (Jvm.Cond.initialized "BoardCrossing$Not") ∈ lw_all := lw_g (lw_at lw_m1 30 rfl) rfl
theorem q904 : (Jvm.Cond.selects "BoardCrossing$Not" ({ cls := "java/lang/Object", name := "getClass", desc := "()Ljava/lang/Class;" } : Jvm.MethodName) ({ cls := "java/lang/Object", name := "getClass", desc := "()Ljava/lang/Class;" } : Jvm.MethodName)) ∈ lw_all := lw_g (lw_at lw_m4 56 rfl) rfl
theorem q966 : (Jvm.Cond.instantiable "BoardCrossing$Not" (1 : Nat)) ∈ lw_all := lw_g (lw_at lw_m4 118 rfl) rfl
theorem q968 : (Jvm.Cond.instanceMethod ({ cls := "BoardCrossing$Not", name := "<init>", desc := "(LBoardCrossing$Part;)V" } : Jvm.MethodName)) ∈ lw_all := lw_g (lw_at lw_m4 120 rfl) rfl
theorem q969 : (Jvm.Cond.code ({ cls := "BoardCrossing$Not", name := "<init>", desc := "(LBoardCrossing$Part;)V" } : Jvm.MethodName) prog_8_method_1_code (2 : Nat) (Option.none : Option Jvm.ClassFile.FieldType)) ∈ lw_all := lw_g (lw_at lw_m4 121 rfl) rfl
theorem q970 : (Jvm.Cond.methodLinkNest "BoardCrossing$Not" (1 : Nat) ({ cls := "BoardCrossing$Part", name := "<init>", desc := "()V" } : Jvm.MethodName) "BoardCrossing") ∈ lw_tbl := lw_at lw_m4 122 rfl
theorem q974 : (Jvm.Cond.fieldLink "BoardCrossing$Not" (7 : Nat) "BoardCrossing$Not" "a" "LBoardCrossing$Part;") ∈ lw_all := lw_g (lw_at lw_m4 126 rfl) rfl
theorem q975 : (Jvm.Cond.laysFinal "BoardCrossing$Not" "BoardCrossing$Not" "a" "LBoardCrossing$Part;") ∈ lw_all := lw_g (lw_at lw_m4 127 rfl) rfl
theorem q976 : (Jvm.Cond.soleField "BoardCrossing$Not" "a") ∈ lw_all := lw_g (lw_at lw_m4 128 rfl) rfl
theorem q977 : (Jvm.Cond.superclass "BoardCrossing$Not" "BoardCrossing$Part") ∈ lw_all := lw_g (lw_at lw_m4 129 rfl) rfl
theorem q1109 : (Jvm.Cond.selects "BoardCrossing$Not" ({ cls := "BoardCrossing$Part", name := "of", desc := "([I)I" } : Jvm.MethodName) ({ cls := "BoardCrossing$Not", name := "of", desc := "([I)I" } : Jvm.MethodName)) ∈ lw_all := lw_g (lw_at lw_m5 21 rfl) rfl
theorem q1110 : (Jvm.Cond.instanceMethod ({ cls := "BoardCrossing$Not", name := "of", desc := "([I)I" } : Jvm.MethodName)) ∈ lw_all := lw_g (lw_at lw_m5 22 rfl) rfl
theorem q1111 : (Jvm.Cond.code ({ cls := "BoardCrossing$Not", name := "of", desc := "([I)I" } : Jvm.MethodName) prog_8_method_2_code (2 : Nat) (Option.some Jvm.ClassFile.FieldType.int)) ∈ lw_all := lw_g (lw_at lw_m5 23 rfl) rfl
theorem q1112 : (Jvm.Cond.methodLink "BoardCrossing$Not" (13 : Nat) ({ cls := "BoardCrossing$Part", name := "of", desc := "([I)I" } : Jvm.MethodName)) ∈ lw_all := lw_g (lw_at lw_m5 24 rfl) rfl
theorem q2253 : (Jvm.Cond.castable "BoardCrossing$Not" "java/lang/Object") ∈ lw_tbl := lw_at lw_m9 205 rfl
theorem in_X14 : ∀ w ∈ wsX140, w ∈ lw_all := lw_in wsX140 [975] (by decide +kernel) (by decide +kernel)
/-! BoardCrossing$Numeral -/
set_option maxRecDepth 100000
def RX15 : String := "BoardCrossing$Numeral"
def TX15 : u_T := fun k => match k with
  | _ => ("BoardCrossing$Numeral", "v", "I", true)
def tyX15 : Nat → FieldType := fun k => match k with
  | _ => .int
abbrev wsX150 : List Cond := u_ws RX15 TX15 1
theorem nmX15 : ∀ a, a < 1 → ∀ b, b < 1 → a ≠ b → (TX15 a).2.1 ≠ (TX15 b).2.1 := by decide +kernel
theorem tyX15_ok : ∀ k, k < 1 → parseFieldDescriptor (TX15 k).2.2.1 = some (tyX15 k) := by decide +kernel
abbrev cX15_init : ByteArray := prog_9_method_1_code
def yX15_init : MethodName := ⟨RX15, "<init>", "(I)V"⟩
def dkwX15_init_0 : List UInt8 := [42, 183, 0, 1, 42, 27, 181, 0, 7, 177]
abbrev dktX15_init_0 : List UInt8 := dkwX15_init_0 ++ []
theorem dksX15_init_0 : cX15_init.data.toList.drop 0 = dktX15_init_0 := by decide +kernel
theorem dX15_init_0 : decode cX15_init 0 = .ok (.aload_n 0, 1) := dk_42 (dk_at dksX15_init_0 0 rfl rfl)
theorem dX15_init_1 : decode cX15_init 1 = .ok (.invokespecial 1, 3) := dk_183 0 1 (dk_at dksX15_init_0 1 rfl rfl)
theorem dX15_init_4 : decode cX15_init 4 = .ok (.aload_n 0, 1) := dk_42 (dk_at dksX15_init_0 4 rfl rfl)
theorem dX15_init_5 : decode cX15_init 5 = .ok (.iload_n 1, 1) := dk_27 (dk_at dksX15_init_0 5 rfl rfl)
theorem dX15_init_6 : decode cX15_init 6 = .ok (.putfield 7, 3) := dk_181 0 7 (dk_at dksX15_init_0 6 rfl rfl)
theorem dX15_init_9 : decode cX15_init 9 = .ok (.return_, 1) := dk_177 (dk_at dksX15_init_0 9 rfl rfl)
abbrev cX15_of : ByteArray := prog_9_method_2_code
def yX15_of : MethodName := ⟨RX15, "of", "([I)I"⟩
theorem dX15_of_0 : decode cX15_of 0 = .ok (.aload_n 0, 1) := by decide +kernel
theorem dX15_of_1 : decode cX15_of 1 = .ok (.getfield 7, 3) := by decide +kernel
theorem dX15_of_4 : decode cX15_of 4 = .ok (.ireturn, 1) := by decide +kernel
theorem q159 : (Jvm.Cond.initialized "BoardCrossing$Numeral") ∈ lw_all := lw_g (lw_at lw_m1 31 rfl) rfl
theorem q905 : (Jvm.Cond.selects "BoardCrossing$Numeral" ({ cls := "java/lang/Object", name := "getClass", desc := "()Ljava/lang/Class;" } : Jvm.MethodName) ({ cls := "java/lang/Object", name := "getClass", desc := "()Ljava/lang/Class;" } : Jvm.MethodName)) ∈ lw_all := lw_g (lw_at lw_m4 57 rfl) rfl
theorem q997 : (Jvm.Cond.instantiable "BoardCrossing$Numeral" (1 : Nat)) ∈ lw_all := lw_g (lw_at lw_m4 149 rfl) rfl
theorem q999 : (Jvm.Cond.instanceMethod ({ cls := "BoardCrossing$Numeral", name := "<init>", desc := "(I)V" } : Jvm.MethodName)) ∈ lw_all := lw_g (lw_at lw_m4 151 rfl) rfl
theorem q1000 : (Jvm.Cond.code ({ cls := "BoardCrossing$Numeral", name := "<init>", desc := "(I)V" } : Jvm.MethodName) prog_9_method_1_code (2 : Nat) (Option.none : Option Jvm.ClassFile.FieldType)) ∈ lw_all := lw_g (lw_at lw_m4 152 rfl) rfl
theorem q1001 : (Jvm.Cond.methodLinkNest "BoardCrossing$Numeral" (1 : Nat) ({ cls := "BoardCrossing$Part", name := "<init>", desc := "()V" } : Jvm.MethodName) "BoardCrossing") ∈ lw_tbl := lw_at lw_m4 153 rfl
theorem q1002 : (Jvm.Cond.fieldLink "BoardCrossing$Numeral" (7 : Nat) "BoardCrossing$Numeral" "v" "I") ∈ lw_all := lw_g (lw_at lw_m4 154 rfl) rfl
theorem q1003 : (Jvm.Cond.laysFinal "BoardCrossing$Numeral" "BoardCrossing$Numeral" "v" "I") ∈ lw_all := lw_g (lw_at lw_m4 155 rfl) rfl
theorem q1004 : (Jvm.Cond.soleField "BoardCrossing$Numeral" "v") ∈ lw_all := lw_g (lw_at lw_m4 156 rfl) rfl
theorem q1005 : (Jvm.Cond.superclass "BoardCrossing$Numeral" "BoardCrossing$Part") ∈ lw_all := lw_g (lw_at lw_m4 157 rfl) rfl
theorem q1113 : (Jvm.Cond.instanceMethod ({ cls := "BoardCrossing$Numeral", name := "of", desc := "([I)I" } : Jvm.MethodName)) ∈ lw_all := lw_g (lw_at lw_m5 25 rfl) rfl
theorem q1114 : (Jvm.Cond.code ({ cls := "BoardCrossing$Numeral", name := "of", desc := "([I)I" } : Jvm.MethodName) prog_9_method_2_code (2 : Nat) (Option.some Jvm.ClassFile.FieldType.int)) ∈ lw_all := lw_g (lw_at lw_m5 26 rfl) rfl
theorem q1121 : (Jvm.Cond.selects "BoardCrossing$Numeral" ({ cls := "BoardCrossing$Part", name := "of", desc := "([I)I" } : Jvm.MethodName) ({ cls := "BoardCrossing$Numeral", name := "of", desc := "([I)I" } : Jvm.MethodName)) ∈ lw_all := lw_g (lw_at lw_m5 33 rfl) rfl
theorem q2254 : (Jvm.Cond.castable "BoardCrossing$Numeral" "java/lang/Object") ∈ lw_tbl := lw_at lw_m9 206 rfl
theorem in_X15 : ∀ w ∈ wsX150, w ∈ lw_all := lw_in wsX150 [1003] (by decide +kernel) (by decide +kernel)
/-! BoardCrossing$Named -/
set_option maxRecDepth 100000
def RX16 : String := "BoardCrossing$Named"
def TX16 : u_T := fun k => match k with
  | _ => ("BoardCrossing$Named", "which", "I", true)
def tyX16 : Nat → FieldType := fun k => match k with
  | _ => .int
abbrev wsX160 : List Cond := u_ws RX16 TX16 1
theorem nmX16 : ∀ a, a < 1 → ∀ b, b < 1 → a ≠ b → (TX16 a).2.1 ≠ (TX16 b).2.1 := by decide +kernel
theorem tyX16_ok : ∀ k, k < 1 → parseFieldDescriptor (TX16 k).2.2.1 = some (tyX16 k) := by decide +kernel
abbrev cX16_init : ByteArray := prog_7_method_1_code
def yX16_init : MethodName := ⟨RX16, "<init>", "(I)V"⟩
def dkwX16_init_0 : List UInt8 := [42, 183, 0, 1, 42, 27, 181, 0, 7, 177]
abbrev dktX16_init_0 : List UInt8 := dkwX16_init_0 ++ []
theorem dksX16_init_0 : cX16_init.data.toList.drop 0 = dktX16_init_0 := by decide +kernel
theorem dX16_init_0 : decode cX16_init 0 = .ok (.aload_n 0, 1) := dk_42 (dk_at dksX16_init_0 0 rfl rfl)
theorem dX16_init_1 : decode cX16_init 1 = .ok (.invokespecial 1, 3) := dk_183 0 1 (dk_at dksX16_init_0 1 rfl rfl)
theorem dX16_init_4 : decode cX16_init 4 = .ok (.aload_n 0, 1) := dk_42 (dk_at dksX16_init_0 4 rfl rfl)
theorem dX16_init_5 : decode cX16_init 5 = .ok (.iload_n 1, 1) := dk_27 (dk_at dksX16_init_0 5 rfl rfl)
theorem dX16_init_6 : decode cX16_init 6 = .ok (.putfield 7, 3) := dk_181 0 7 (dk_at dksX16_init_0 6 rfl rfl)
theorem dX16_init_9 : decode cX16_init 9 = .ok (.return_, 1) := dk_177 (dk_at dksX16_init_0 9 rfl rfl)
abbrev cX16_of : ByteArray := prog_7_method_2_code
def yX16_of : MethodName := ⟨RX16, "of", "([I)I"⟩
def dkwX16_of_0 : List UInt8 := [43, 42, 180, 0, 7, 46, 172]
abbrev dktX16_of_0 : List UInt8 := dkwX16_of_0 ++ []
theorem dksX16_of_0 : cX16_of.data.toList.drop 0 = dktX16_of_0 := by decide +kernel
theorem dX16_of_0 : decode cX16_of 0 = .ok (.aload_n 1, 1) := dk_43 (dk_at dksX16_of_0 0 rfl rfl)
theorem dX16_of_1 : decode cX16_of 1 = .ok (.aload_n 0, 1) := dk_42 (dk_at dksX16_of_0 1 rfl rfl)
theorem dX16_of_2 : decode cX16_of 2 = .ok (.getfield 7, 3) := dk_180 0 7 (dk_at dksX16_of_0 2 rfl rfl)
theorem dX16_of_5 : decode cX16_of 5 = .ok (.iaload, 1) := dk_46 (dk_at dksX16_of_0 5 rfl rfl)
theorem dX16_of_6 : decode cX16_of 6 = .ok (.ireturn, 1) := dk_172 (dk_at dksX16_of_0 6 rfl rfl)
theorem q160 : (Jvm.Cond.initialized "BoardCrossing$Named") ∈ lw_all := lw_g (lw_at lw_m1 32 rfl) rfl
theorem q903 : (Jvm.Cond.selects "BoardCrossing$Named" ({ cls := "java/lang/Object", name := "getClass", desc := "()Ljava/lang/Class;" } : Jvm.MethodName) ({ cls := "java/lang/Object", name := "getClass", desc := "()Ljava/lang/Class;" } : Jvm.MethodName)) ∈ lw_all := lw_g (lw_at lw_m4 55 rfl) rfl
theorem q1007 : (Jvm.Cond.instantiable "BoardCrossing$Named" (1 : Nat)) ∈ lw_all := lw_g (lw_at lw_m4 159 rfl) rfl
theorem q1009 : (Jvm.Cond.instanceMethod ({ cls := "BoardCrossing$Named", name := "<init>", desc := "(I)V" } : Jvm.MethodName)) ∈ lw_all := lw_g (lw_at lw_m4 161 rfl) rfl
theorem q1010 : (Jvm.Cond.code ({ cls := "BoardCrossing$Named", name := "<init>", desc := "(I)V" } : Jvm.MethodName) prog_7_method_1_code (2 : Nat) (Option.none : Option Jvm.ClassFile.FieldType)) ∈ lw_all := lw_g (lw_at lw_m4 162 rfl) rfl
theorem q1011 : (Jvm.Cond.methodLinkNest "BoardCrossing$Named" (1 : Nat) ({ cls := "BoardCrossing$Part", name := "<init>", desc := "()V" } : Jvm.MethodName) "BoardCrossing") ∈ lw_tbl := lw_at lw_m4 163 rfl
theorem q1012 : (Jvm.Cond.fieldLink "BoardCrossing$Named" (7 : Nat) "BoardCrossing$Named" "which" "I") ∈ lw_all := lw_g (lw_at lw_m4 164 rfl) rfl
theorem q1013 : (Jvm.Cond.laysFinal "BoardCrossing$Named" "BoardCrossing$Named" "which" "I") ∈ lw_all := lw_g (lw_at lw_m4 165 rfl) rfl
theorem q1014 : (Jvm.Cond.soleField "BoardCrossing$Named" "which") ∈ lw_all := lw_g (lw_at lw_m4 166 rfl) rfl
theorem q1015 : (Jvm.Cond.superclass "BoardCrossing$Named" "BoardCrossing$Part") ∈ lw_all := lw_g (lw_at lw_m4 167 rfl) rfl
theorem q1106 : (Jvm.Cond.selects "BoardCrossing$Named" ({ cls := "BoardCrossing$Part", name := "of", desc := "([I)I" } : Jvm.MethodName) ({ cls := "BoardCrossing$Named", name := "of", desc := "([I)I" } : Jvm.MethodName)) ∈ lw_all := lw_g (lw_at lw_m5 18 rfl) rfl
theorem q1107 : (Jvm.Cond.instanceMethod ({ cls := "BoardCrossing$Named", name := "of", desc := "([I)I" } : Jvm.MethodName)) ∈ lw_all := lw_g (lw_at lw_m5 19 rfl) rfl
theorem q1108 : (Jvm.Cond.code ({ cls := "BoardCrossing$Named", name := "of", desc := "([I)I" } : Jvm.MethodName) prog_7_method_2_code (2 : Nat) (Option.some Jvm.ClassFile.FieldType.int)) ∈ lw_all := lw_g (lw_at lw_m5 20 rfl) rfl
theorem q2255 : (Jvm.Cond.castable "BoardCrossing$Named" "java/lang/Object") ∈ lw_tbl := lw_at lw_m9 207 rfl
theorem in_X16 : ∀ w ∈ wsX160, w ∈ lw_all := lw_in wsX160 [1013] (by decide +kernel) (by decide +kernel)
/-! BoardCrossing$Two -/
set_option maxRecDepth 100000
def RX17 : String := "BoardCrossing$Two"
def TX17 : u_T := fun k => match k with
  | 0 => ("BoardCrossing$Two", "sign", "I", true)
  | 1 => ("BoardCrossing$Two", "a", "LBoardCrossing$Part;", true)
  | _ => ("BoardCrossing$Two", "b", "LBoardCrossing$Part;", true)
def tyX17 : Nat → FieldType := fun k => match k with
  | 0 => .int
  | 1 => .object "BoardCrossing$Part"
  | _ => .object "BoardCrossing$Part"
abbrev wsX170 : List Cond := u_ws RX17 TX17 3
theorem nmX17 : ∀ a, a < 3 → ∀ b, b < 3 → a ≠ b → (TX17 a).2.1 ≠ (TX17 b).2.1 := by decide +kernel
theorem tyX17_ok : ∀ k, k < 3 → parseFieldDescriptor (TX17 k).2.2.1 = some (tyX17 k) := by decide +kernel
abbrev cX17_init : ByteArray := prog_16_method_1_code
def yX17_init : MethodName := ⟨RX17, "<init>", "(ILBoardCrossing$Part;LBoardCrossing$Part;)V"⟩
def dkwX17_init_0 : List UInt8 := [42, 183, 0, 1, 42, 27, 181, 0, 7, 42, 44, 181, 0, 13, 42, 45, 181, 0, 17, 177]
abbrev dktX17_init_0 : List UInt8 := dkwX17_init_0 ++ []
theorem dksX17_init_0 : cX17_init.data.toList.drop 0 = dktX17_init_0 := by decide +kernel
theorem dX17_init_0 : decode cX17_init 0 = .ok (.aload_n 0, 1) := dk_42 (dk_at dksX17_init_0 0 rfl rfl)
theorem dX17_init_1 : decode cX17_init 1 = .ok (.invokespecial 1, 3) := dk_183 0 1 (dk_at dksX17_init_0 1 rfl rfl)
theorem dX17_init_4 : decode cX17_init 4 = .ok (.aload_n 0, 1) := dk_42 (dk_at dksX17_init_0 4 rfl rfl)
theorem dX17_init_5 : decode cX17_init 5 = .ok (.iload_n 1, 1) := dk_27 (dk_at dksX17_init_0 5 rfl rfl)
theorem dX17_init_6 : decode cX17_init 6 = .ok (.putfield 7, 3) := dk_181 0 7 (dk_at dksX17_init_0 6 rfl rfl)
theorem dX17_init_9 : decode cX17_init 9 = .ok (.aload_n 0, 1) := dk_42 (dk_at dksX17_init_0 9 rfl rfl)
theorem dX17_init_10 : decode cX17_init 10 = .ok (.aload_n 2, 1) := dk_44 (dk_at dksX17_init_0 10 rfl rfl)
theorem dX17_init_11 : decode cX17_init 11 = .ok (.putfield 13, 3) := dk_181 0 13 (dk_at dksX17_init_0 11 rfl rfl)
theorem dX17_init_14 : decode cX17_init 14 = .ok (.aload_n 0, 1) := dk_42 (dk_at dksX17_init_0 14 rfl rfl)
theorem dX17_init_15 : decode cX17_init 15 = .ok (.aload_n 3, 1) := dk_45 (dk_at dksX17_init_0 15 rfl rfl)
theorem dX17_init_16 : decode cX17_init 16 = .ok (.putfield 17, 3) := dk_181 0 17 (dk_at dksX17_init_0 16 rfl rfl)
theorem dX17_init_19 : decode cX17_init 19 = .ok (.return_, 1) := dk_177 (dk_at dksX17_init_0 19 rfl rfl)
abbrev cX17_of : ByteArray := prog_16_method_3_code
def yX17_of : MethodName := ⟨RX17, "of", "([I)I"⟩
def dkwX17_of_6 : List UInt8 := [172, 28, 154, 0, 7, 29, 153, 0, 7, 4, 167, 0, 4, 3, 184, 0, 24, 172]
abbrev dktX17_of_6 : List UInt8 := dkwX17_of_6 ++ []
def dkwX17_of_5 : List UInt8 := [167, 0, 4, 3, 184, 0, 24, 172, 28, 153, 0, 11, 29, 153, 0, 7, 4, 167, 0, 4, 3, 184, 0, 24]
abbrev dktX17_of_5 : List UInt8 := dkwX17_of_5 ++ dktX17_of_6
def dkwX17_of_4 : List UInt8 := [184, 0, 24, 172, 28, 29, 164, 0, 7, 4, 167, 0, 4, 3, 184, 0, 24, 172, 28, 29, 160, 0, 7, 4]
abbrev dktX17_of_4 : List UInt8 := dkwX17_of_4 ++ dktX17_of_5
def dkwX17_of_3 : List UInt8 := [29, 154, 0, 7, 3, 167, 0, 6, 28, 29, 112, 172, 28, 29, 162, 0, 7, 4, 167, 0, 4, 3]
abbrev dktX17_of_3 : List UInt8 := dkwX17_of_3 ++ dktX17_of_4
def dkwX17_of_2 : List UInt8 := [28, 29, 96, 172, 28, 29, 100, 172, 28, 29, 104, 172, 29, 154, 0, 7, 3, 167, 0, 6, 28, 29, 108, 172]
abbrev dktX17_of_2 : List UInt8 := dkwX17_of_2 ++ dktX17_of_3
def dkwX17_of_1 : List UInt8 := [170, 0, 0, 0, 0, 213, 0, 0, 0, 37, 0, 0, 0, 62, 0, 0, 0, 142, 0, 0, 0, 196, 0, 0, 0, 213, 0, 0, 0, 213, 0, 0, 0, 213, 0, 0, 0, 126, 0, 0, 0, 118, 0, 0, 0, 213, 0, 0, 0, 122, 0, 0, 0, 213, 0, 0, 0, 130, 0, 0, 0, 213, 0, 0, 0, 213, 0, 0, 0, 213, 0, 0, 0, 213, 0, 0, 0, 213, 0, 0, 0, 213, 0, 0, 0, 213, 0, 0, 0, 213, 0, 0, 0, 213, 0, 0, 0, 213, 0, 0, 0, 213, 0, 0, 0, 213, 0, 0, 0, 154, 0, 0, 0, 182, 0, 0, 0, 168]
abbrev dktX17_of_1 : List UInt8 := dkwX17_of_1 ++ dktX17_of_2
def dkwX17_of_0 : List UInt8 := [42, 180, 0, 13, 43, 182, 0, 20, 61, 42, 180, 0, 17, 43, 182, 0, 20, 62, 42, 180, 0, 7]
abbrev dktX17_of_0 : List UInt8 := dkwX17_of_0 ++ dktX17_of_1
theorem dksX17_of_0 : cX17_of.data.toList.drop 0 = dktX17_of_0 := by decide +kernel
theorem dksX17_of_1 : cX17_of.data.toList.drop 22 = dktX17_of_1 := dk_seg dksX17_of_0 22 rfl rfl
theorem dksX17_of_2 : cX17_of.data.toList.drop 140 = dktX17_of_2 := dk_seg dksX17_of_1 118 rfl rfl
theorem dksX17_of_3 : cX17_of.data.toList.drop 164 = dktX17_of_3 := dk_seg dksX17_of_2 24 rfl rfl
theorem dksX17_of_4 : cX17_of.data.toList.drop 186 = dktX17_of_4 := dk_seg dksX17_of_3 22 rfl rfl
theorem dksX17_of_5 : cX17_of.data.toList.drop 210 = dktX17_of_5 := dk_seg dksX17_of_4 24 rfl rfl
theorem dksX17_of_6 : cX17_of.data.toList.drop 234 = dktX17_of_6 := dk_seg dksX17_of_5 24 rfl rfl
theorem dX17_of_0 : decode cX17_of 0 = .ok (.aload_n 0, 1) := dk_42 (dk_at dksX17_of_0 0 rfl rfl)
theorem dX17_of_1 : decode cX17_of 1 = .ok (.getfield 13, 3) := dk_180 0 13 (dk_at dksX17_of_0 1 rfl rfl)
theorem dX17_of_4 : decode cX17_of 4 = .ok (.aload_n 1, 1) := dk_43 (dk_at dksX17_of_0 4 rfl rfl)
theorem dX17_of_5 : decode cX17_of 5 = .ok (.invokevirtual 20, 3) := dk_182 0 20 (dk_at dksX17_of_0 5 rfl rfl)
theorem dX17_of_8 : decode cX17_of 8 = .ok (.istore_n 2, 1) := dk_61 (dk_at dksX17_of_0 8 rfl rfl)
theorem dX17_of_9 : decode cX17_of 9 = .ok (.aload_n 0, 1) := dk_42 (dk_at dksX17_of_0 9 rfl rfl)
theorem dX17_of_10 : decode cX17_of 10 = .ok (.getfield 17, 3) := dk_180 0 17 (dk_at dksX17_of_0 10 rfl rfl)
theorem dX17_of_13 : decode cX17_of 13 = .ok (.aload_n 1, 1) := dk_43 (dk_at dksX17_of_0 13 rfl rfl)
theorem dX17_of_14 : decode cX17_of 14 = .ok (.invokevirtual 20, 3) := dk_182 0 20 (dk_at dksX17_of_0 14 rfl rfl)
theorem dX17_of_17 : decode cX17_of 17 = .ok (.istore_n 3, 1) := dk_62 (dk_at dksX17_of_0 17 rfl rfl)
theorem dX17_of_18 : decode cX17_of 18 = .ok (.aload_n 0, 1) := dk_42 (dk_at dksX17_of_0 18 rfl rfl)
theorem dX17_of_19 : decode cX17_of 19 = .ok (.getfield 7, 3) := dk_180 0 7 (dk_at dksX17_of_0 19 rfl rfl)
theorem dX17_of_22 : decode cX17_of 22 = .ok (.tableswitch 213 37 62 #[142, 196, 213, 213, 213, 126, 118, 213, 122, 213, 130, 213, 213, 213, 213, 213, 213, 213, 213, 213, 213, 213, 213, 154, 182, 168], 118) := by decide +kernel
theorem dX17_of_140 : decode cX17_of 140 = .ok (.iload_n 2, 1) := dk_28 (dk_at dksX17_of_2 0 rfl rfl)
theorem dX17_of_141 : decode cX17_of 141 = .ok (.iload_n 3, 1) := dk_29 (dk_at dksX17_of_2 1 rfl rfl)
theorem dX17_of_142 : decode cX17_of 142 = .ok (.iadd, 1) := dk_96 (dk_at dksX17_of_2 2 rfl rfl)
theorem dX17_of_143 : decode cX17_of 143 = .ok (.ireturn, 1) := dk_172 (dk_at dksX17_of_2 3 rfl rfl)
theorem dX17_of_144 : decode cX17_of 144 = .ok (.iload_n 2, 1) := dk_28 (dk_at dksX17_of_2 4 rfl rfl)
theorem dX17_of_145 : decode cX17_of 145 = .ok (.iload_n 3, 1) := dk_29 (dk_at dksX17_of_2 5 rfl rfl)
theorem dX17_of_146 : decode cX17_of 146 = .ok (.isub, 1) := dk_100 (dk_at dksX17_of_2 6 rfl rfl)
theorem dX17_of_147 : decode cX17_of 147 = .ok (.ireturn, 1) := dk_172 (dk_at dksX17_of_2 7 rfl rfl)
theorem dX17_of_148 : decode cX17_of 148 = .ok (.iload_n 2, 1) := dk_28 (dk_at dksX17_of_2 8 rfl rfl)
theorem dX17_of_149 : decode cX17_of 149 = .ok (.iload_n 3, 1) := dk_29 (dk_at dksX17_of_2 9 rfl rfl)
theorem dX17_of_150 : decode cX17_of 150 = .ok (.imul, 1) := dk_104 (dk_at dksX17_of_2 10 rfl rfl)
theorem dX17_of_151 : decode cX17_of 151 = .ok (.ireturn, 1) := dk_172 (dk_at dksX17_of_2 11 rfl rfl)
theorem dX17_of_152 : decode cX17_of 152 = .ok (.iload_n 3, 1) := dk_29 (dk_at dksX17_of_2 12 rfl rfl)
theorem dX17_of_153 : decode cX17_of 153 = .ok (.ifCond .ne 7, 3) := dk_154 0 7 (dk_at dksX17_of_2 13 rfl rfl)
theorem dX17_of_156 : decode cX17_of 156 = .ok (.iconst 0, 1) := dk_3 (dk_at dksX17_of_2 16 rfl rfl)
theorem dX17_of_157 : decode cX17_of 157 = .ok (.goto 6, 3) := dk_167 0 6 (dk_at dksX17_of_2 17 rfl rfl)
theorem dX17_of_160 : decode cX17_of 160 = .ok (.iload_n 2, 1) := dk_28 (dk_at dksX17_of_2 20 rfl rfl)
theorem dX17_of_161 : decode cX17_of 161 = .ok (.iload_n 3, 1) := dk_29 (dk_at dksX17_of_2 21 rfl rfl)
theorem dX17_of_162 : decode cX17_of 162 = .ok (.idiv, 1) := dk_108 (dk_at dksX17_of_2 22 rfl rfl)
theorem dX17_of_163 : decode cX17_of 163 = .ok (.ireturn, 1) := dk_172 (dk_at dksX17_of_2 23 rfl rfl)
theorem dX17_of_164 : decode cX17_of 164 = .ok (.iload_n 3, 1) := dk_29 (dk_at dksX17_of_3 0 rfl rfl)
theorem dX17_of_165 : decode cX17_of 165 = .ok (.ifCond .ne 7, 3) := dk_154 0 7 (dk_at dksX17_of_3 1 rfl rfl)
theorem dX17_of_168 : decode cX17_of 168 = .ok (.iconst 0, 1) := dk_3 (dk_at dksX17_of_3 4 rfl rfl)
theorem dX17_of_169 : decode cX17_of 169 = .ok (.goto 6, 3) := dk_167 0 6 (dk_at dksX17_of_3 5 rfl rfl)
theorem dX17_of_172 : decode cX17_of 172 = .ok (.iload_n 2, 1) := dk_28 (dk_at dksX17_of_3 8 rfl rfl)
theorem dX17_of_173 : decode cX17_of 173 = .ok (.iload_n 3, 1) := dk_29 (dk_at dksX17_of_3 9 rfl rfl)
theorem dX17_of_174 : decode cX17_of 174 = .ok (.irem, 1) := dk_112 (dk_at dksX17_of_3 10 rfl rfl)
theorem dX17_of_175 : decode cX17_of 175 = .ok (.ireturn, 1) := dk_172 (dk_at dksX17_of_3 11 rfl rfl)
theorem dX17_of_176 : decode cX17_of 176 = .ok (.iload_n 2, 1) := dk_28 (dk_at dksX17_of_3 12 rfl rfl)
theorem dX17_of_177 : decode cX17_of 177 = .ok (.iload_n 3, 1) := dk_29 (dk_at dksX17_of_3 13 rfl rfl)
theorem dX17_of_178 : decode cX17_of 178 = .ok (.if_icmp .ge 7, 3) := dk_162 0 7 (dk_at dksX17_of_3 14 rfl rfl)
theorem dX17_of_181 : decode cX17_of 181 = .ok (.iconst 1, 1) := dk_4 (dk_at dksX17_of_3 17 rfl rfl)
theorem dX17_of_182 : decode cX17_of 182 = .ok (.goto 4, 3) := dk_167 0 4 (dk_at dksX17_of_3 18 rfl rfl)
theorem dX17_of_185 : decode cX17_of 185 = .ok (.iconst 0, 1) := dk_3 (dk_at dksX17_of_3 21 rfl rfl)
theorem dX17_of_186 : decode cX17_of 186 = .ok (.invokestatic 24, 3) := dk_184 0 24 (dk_at dksX17_of_4 0 rfl rfl)
theorem dX17_of_189 : decode cX17_of 189 = .ok (.ireturn, 1) := dk_172 (dk_at dksX17_of_4 3 rfl rfl)
theorem dX17_of_190 : decode cX17_of 190 = .ok (.iload_n 2, 1) := dk_28 (dk_at dksX17_of_4 4 rfl rfl)
theorem dX17_of_191 : decode cX17_of 191 = .ok (.iload_n 3, 1) := dk_29 (dk_at dksX17_of_4 5 rfl rfl)
theorem dX17_of_192 : decode cX17_of 192 = .ok (.if_icmp .le 7, 3) := dk_164 0 7 (dk_at dksX17_of_4 6 rfl rfl)
theorem dX17_of_195 : decode cX17_of 195 = .ok (.iconst 1, 1) := dk_4 (dk_at dksX17_of_4 9 rfl rfl)
theorem dX17_of_196 : decode cX17_of 196 = .ok (.goto 4, 3) := dk_167 0 4 (dk_at dksX17_of_4 10 rfl rfl)
theorem dX17_of_199 : decode cX17_of 199 = .ok (.iconst 0, 1) := dk_3 (dk_at dksX17_of_4 13 rfl rfl)
theorem dX17_of_200 : decode cX17_of 200 = .ok (.invokestatic 24, 3) := dk_184 0 24 (dk_at dksX17_of_4 14 rfl rfl)
theorem dX17_of_203 : decode cX17_of 203 = .ok (.ireturn, 1) := dk_172 (dk_at dksX17_of_4 17 rfl rfl)
theorem dX17_of_204 : decode cX17_of 204 = .ok (.iload_n 2, 1) := dk_28 (dk_at dksX17_of_4 18 rfl rfl)
theorem dX17_of_205 : decode cX17_of 205 = .ok (.iload_n 3, 1) := dk_29 (dk_at dksX17_of_4 19 rfl rfl)
theorem dX17_of_206 : decode cX17_of 206 = .ok (.if_icmp .ne 7, 3) := dk_160 0 7 (dk_at dksX17_of_4 20 rfl rfl)
theorem dX17_of_209 : decode cX17_of 209 = .ok (.iconst 1, 1) := dk_4 (dk_at dksX17_of_4 23 rfl rfl)
theorem dX17_of_210 : decode cX17_of 210 = .ok (.goto 4, 3) := dk_167 0 4 (dk_at dksX17_of_5 0 rfl rfl)
theorem dX17_of_213 : decode cX17_of 213 = .ok (.iconst 0, 1) := dk_3 (dk_at dksX17_of_5 3 rfl rfl)
theorem dX17_of_214 : decode cX17_of 214 = .ok (.invokestatic 24, 3) := dk_184 0 24 (dk_at dksX17_of_5 4 rfl rfl)
theorem dX17_of_217 : decode cX17_of 217 = .ok (.ireturn, 1) := dk_172 (dk_at dksX17_of_5 7 rfl rfl)
theorem dX17_of_218 : decode cX17_of 218 = .ok (.iload_n 2, 1) := dk_28 (dk_at dksX17_of_5 8 rfl rfl)
theorem dX17_of_219 : decode cX17_of 219 = .ok (.ifCond .eq 11, 3) := dk_153 0 11 (dk_at dksX17_of_5 9 rfl rfl)
theorem dX17_of_222 : decode cX17_of 222 = .ok (.iload_n 3, 1) := dk_29 (dk_at dksX17_of_5 12 rfl rfl)
theorem dX17_of_223 : decode cX17_of 223 = .ok (.ifCond .eq 7, 3) := dk_153 0 7 (dk_at dksX17_of_5 13 rfl rfl)
theorem dX17_of_226 : decode cX17_of 226 = .ok (.iconst 1, 1) := dk_4 (dk_at dksX17_of_5 16 rfl rfl)
theorem dX17_of_227 : decode cX17_of 227 = .ok (.goto 4, 3) := dk_167 0 4 (dk_at dksX17_of_5 17 rfl rfl)
theorem dX17_of_230 : decode cX17_of 230 = .ok (.iconst 0, 1) := dk_3 (dk_at dksX17_of_5 20 rfl rfl)
theorem dX17_of_231 : decode cX17_of 231 = .ok (.invokestatic 24, 3) := dk_184 0 24 (dk_at dksX17_of_5 21 rfl rfl)
theorem dX17_of_234 : decode cX17_of 234 = .ok (.ireturn, 1) := dk_172 (dk_at dksX17_of_6 0 rfl rfl)
theorem dX17_of_235 : decode cX17_of 235 = .ok (.iload_n 2, 1) := dk_28 (dk_at dksX17_of_6 1 rfl rfl)
theorem dX17_of_236 : decode cX17_of 236 = .ok (.ifCond .ne 7, 3) := dk_154 0 7 (dk_at dksX17_of_6 2 rfl rfl)
theorem dX17_of_239 : decode cX17_of 239 = .ok (.iload_n 3, 1) := dk_29 (dk_at dksX17_of_6 5 rfl rfl)
theorem dX17_of_240 : decode cX17_of 240 = .ok (.ifCond .eq 7, 3) := dk_153 0 7 (dk_at dksX17_of_6 6 rfl rfl)
theorem dX17_of_243 : decode cX17_of 243 = .ok (.iconst 1, 1) := dk_4 (dk_at dksX17_of_6 9 rfl rfl)
theorem dX17_of_244 : decode cX17_of 244 = .ok (.goto 4, 3) := dk_167 0 4 (dk_at dksX17_of_6 10 rfl rfl)
theorem dX17_of_247 : decode cX17_of 247 = .ok (.iconst 0, 1) := dk_3 (dk_at dksX17_of_6 13 rfl rfl)
theorem dX17_of_248 : decode cX17_of 248 = .ok (.invokestatic 24, 3) := dk_184 0 24 (dk_at dksX17_of_6 14 rfl rfl)
theorem dX17_of_251 : decode cX17_of 251 = .ok (.ireturn, 1) := dk_172 (dk_at dksX17_of_6 17 rfl rfl)
abbrev cX17_is : ByteArray := prog_16_method_2_code
def yX17_is : MethodName := ⟨RX17, "is", "(Z)I"⟩
def dkwX17_is_0 : List UInt8 := [26, 153, 0, 7, 4, 167, 0, 4, 3, 172]
abbrev dktX17_is_0 : List UInt8 := dkwX17_is_0 ++ []
theorem dksX17_is_0 : cX17_is.data.toList.drop 0 = dktX17_is_0 := by decide +kernel
theorem dX17_is_0 : decode cX17_is 0 = .ok (.iload_n 0, 1) := dk_26 (dk_at dksX17_is_0 0 rfl rfl)
theorem dX17_is_1 : decode cX17_is 1 = .ok (.ifCond .eq 7, 3) := dk_153 0 7 (dk_at dksX17_is_0 1 rfl rfl)
theorem dX17_is_4 : decode cX17_is 4 = .ok (.iconst 1, 1) := dk_4 (dk_at dksX17_is_0 4 rfl rfl)
theorem dX17_is_5 : decode cX17_is 5 = .ok (.goto 4, 3) := dk_167 0 4 (dk_at dksX17_is_0 5 rfl rfl)
theorem dX17_is_8 : decode cX17_is 8 = .ok (.iconst 0, 1) := dk_3 (dk_at dksX17_is_0 8 rfl rfl)
theorem dX17_is_9 : decode cX17_is 9 = .ok (.ireturn, 1) := dk_172 (dk_at dksX17_is_0 9 rfl rfl)
theorem q161 : (Jvm.Cond.initialized "BoardCrossing$Two") ∈ lw_all := lw_g (lw_at lw_m1 33 rfl) rfl
theorem q911 : (Jvm.Cond.selects "BoardCrossing$Two" ({ cls := "java/lang/Object", name := "getClass", desc := "()Ljava/lang/Class;" } : Jvm.MethodName) ({ cls := "java/lang/Object", name := "getClass", desc := "()Ljava/lang/Class;" } : Jvm.MethodName)) ∈ lw_all := lw_g (lw_at lw_m4 63 rfl) rfl
theorem q1017 : (Jvm.Cond.instantiable "BoardCrossing$Two" (3 : Nat)) ∈ lw_all := lw_g (lw_at lw_m4 169 rfl) rfl
theorem q1019 : (Jvm.Cond.instanceMethod ({ cls := "BoardCrossing$Two", name := "<init>", desc := "(ILBoardCrossing$Part;LBoardCrossing$Part;)V" } : Jvm.MethodName)) ∈ lw_all := lw_g (lw_at lw_m4 171 rfl) rfl
theorem q1020 : (Jvm.Cond.code ({ cls := "BoardCrossing$Two", name := "<init>", desc := "(ILBoardCrossing$Part;LBoardCrossing$Part;)V" } : Jvm.MethodName) prog_16_method_1_code (4 : Nat) (Option.none : Option Jvm.ClassFile.FieldType)) ∈ lw_all := lw_g (lw_at lw_m4 172 rfl) rfl
theorem q1021 : (Jvm.Cond.methodLinkNest "BoardCrossing$Two" (1 : Nat) ({ cls := "BoardCrossing$Part", name := "<init>", desc := "()V" } : Jvm.MethodName) "BoardCrossing") ∈ lw_tbl := lw_at lw_m4 173 rfl
theorem q1022 : (Jvm.Cond.fieldLink "BoardCrossing$Two" (7 : Nat) "BoardCrossing$Two" "sign" "I") ∈ lw_all := lw_g (lw_at lw_m4 174 rfl) rfl
theorem q1023 : (Jvm.Cond.fieldLink "BoardCrossing$Two" (13 : Nat) "BoardCrossing$Two" "a" "LBoardCrossing$Part;") ∈ lw_all := lw_g (lw_at lw_m4 175 rfl) rfl
theorem q1024 : (Jvm.Cond.fieldLink "BoardCrossing$Two" (17 : Nat) "BoardCrossing$Two" "b" "LBoardCrossing$Part;") ∈ lw_all := lw_g (lw_at lw_m4 176 rfl) rfl
theorem q1025 : (Jvm.Cond.laysFinal "BoardCrossing$Two" "BoardCrossing$Two" "sign" "I") ∈ lw_all := lw_g (lw_at lw_m4 177 rfl) rfl
theorem q1026 : (Jvm.Cond.soleField "BoardCrossing$Two" "sign") ∈ lw_all := lw_g (lw_at lw_m4 178 rfl) rfl
theorem q1027 : (Jvm.Cond.laysFinal "BoardCrossing$Two" "BoardCrossing$Two" "a" "LBoardCrossing$Part;") ∈ lw_all := lw_g (lw_at lw_m4 179 rfl) rfl
theorem q1028 : (Jvm.Cond.soleField "BoardCrossing$Two" "a") ∈ lw_all := lw_g (lw_at lw_m4 180 rfl) rfl
theorem q1029 : (Jvm.Cond.laysFinal "BoardCrossing$Two" "BoardCrossing$Two" "b" "LBoardCrossing$Part;") ∈ lw_all := lw_g (lw_at lw_m4 181 rfl) rfl
theorem q1030 : (Jvm.Cond.soleField "BoardCrossing$Two" "b") ∈ lw_all := lw_g (lw_at lw_m4 182 rfl) rfl
theorem q1031 : (Jvm.Cond.superclass "BoardCrossing$Two" "BoardCrossing$Part") ∈ lw_all := lw_g (lw_at lw_m4 183 rfl) rfl
theorem q1115 : (Jvm.Cond.instanceMethod ({ cls := "BoardCrossing$Two", name := "of", desc := "([I)I" } : Jvm.MethodName)) ∈ lw_all := lw_g (lw_at lw_m5 27 rfl) rfl
theorem q1116 : (Jvm.Cond.code ({ cls := "BoardCrossing$Two", name := "of", desc := "([I)I" } : Jvm.MethodName) prog_16_method_3_code (4 : Nat) (Option.some Jvm.ClassFile.FieldType.int)) ∈ lw_all := lw_g (lw_at lw_m5 28 rfl) rfl
theorem q1117 : (Jvm.Cond.methodLink "BoardCrossing$Two" (20 : Nat) ({ cls := "BoardCrossing$Part", name := "of", desc := "([I)I" } : Jvm.MethodName)) ∈ lw_all := lw_g (lw_at lw_m5 29 rfl) rfl
theorem q1118 : (Jvm.Cond.methodLink "BoardCrossing$Two" (24 : Nat) ({ cls := "BoardCrossing$Two", name := "is", desc := "(Z)I" } : Jvm.MethodName)) ∈ lw_all := lw_g (lw_at lw_m5 30 rfl) rfl
theorem q1119 : (Jvm.Cond.static ({ cls := "BoardCrossing$Two", name := "is", desc := "(Z)I" } : Jvm.MethodName)) ∈ lw_all := lw_g (lw_at lw_m5 31 rfl) rfl
theorem q1120 : (Jvm.Cond.code ({ cls := "BoardCrossing$Two", name := "is", desc := "(Z)I" } : Jvm.MethodName) prog_16_method_2_code (1 : Nat) (Option.some Jvm.ClassFile.FieldType.int)) ∈ lw_all := lw_g (lw_at lw_m5 32 rfl) rfl
theorem q1122 : (Jvm.Cond.selects "BoardCrossing$Two" ({ cls := "BoardCrossing$Part", name := "of", desc := "([I)I" } : Jvm.MethodName) ({ cls := "BoardCrossing$Two", name := "of", desc := "([I)I" } : Jvm.MethodName)) ∈ lw_all := lw_g (lw_at lw_m5 34 rfl) rfl
theorem q2256 : (Jvm.Cond.castable "BoardCrossing$Two" "java/lang/Object") ∈ lw_tbl := lw_at lw_m9 208 rfl
theorem in_X17 : ∀ w ∈ wsX170, w ∈ lw_all := lw_in wsX170 [1025, 1027, 1029] (by decide +kernel) (by decide +kernel)
/-! BoardCrossing$Sight -/
set_option maxRecDepth 100000
def RX18 : String := "BoardCrossing$Sight"
def TX18 : u_T := fun k => match k with
  | 0 => ("BoardCrossing$Sight", "stroke", "I", true)
  | 1 => ("BoardCrossing$Sight", "much", "I", true)
  | 2 => ("BoardCrossing$Sight", "told", "I", true)
  | 3 => ("BoardCrossing$Sight", "isHeat", "Z", true)
  | 4 => ("BoardCrossing$Sight", "is", "Z", true)
  | _ => ("BoardCrossing$Sight", "untold", "I", false)
def tyX18 : Nat → FieldType := fun k => match k with
  | 0 => .int
  | 1 => .int
  | 2 => .int
  | 3 => .boolean
  | 4 => .boolean
  | _ => .int
abbrev wsX180 : List Cond := u_ws RX18 TX18 6
theorem nmX18 : ∀ a, a < 6 → ∀ b, b < 6 → a ≠ b → (TX18 a).2.1 ≠ (TX18 b).2.1 := by decide +kernel
theorem tyX18_ok : ∀ k, k < 6 → parseFieldDescriptor (TX18 k).2.2.1 = some (tyX18 k) := by decide +kernel
abbrev cX18_init : ByteArray := prog_13_method_1_code
def yX18_init : MethodName := ⟨RX18, "<init>", "(IIZZI)V"⟩
def dkwX18_init_1 : List UInt8 := [42, 21, 4, 181, 0, 25, 42, 21, 5, 181, 0, 28, 177]
abbrev dktX18_init_1 : List UInt8 := dkwX18_init_1 ++ []
def dkwX18_init_0 : List UInt8 := [42, 183, 0, 3, 42, 2, 181, 0, 9, 42, 27, 181, 0, 15, 42, 28, 181, 0, 18, 42, 29, 181, 0, 21]
abbrev dktX18_init_0 : List UInt8 := dkwX18_init_0 ++ dktX18_init_1
theorem dksX18_init_0 : cX18_init.data.toList.drop 0 = dktX18_init_0 := by decide +kernel
theorem dksX18_init_1 : cX18_init.data.toList.drop 24 = dktX18_init_1 := dk_seg dksX18_init_0 24 rfl rfl
theorem dX18_init_0 : decode cX18_init 0 = .ok (.aload_n 0, 1) := dk_42 (dk_at dksX18_init_0 0 rfl rfl)
theorem dX18_init_1 : decode cX18_init 1 = .ok (.invokespecial 3, 3) := dk_183 0 3 (dk_at dksX18_init_0 1 rfl rfl)
theorem dX18_init_4 : decode cX18_init 4 = .ok (.aload_n 0, 1) := dk_42 (dk_at dksX18_init_0 4 rfl rfl)
theorem dX18_init_5 : decode cX18_init 5 = .ok (.iconst (-1), 1) := dk_2 (dk_at dksX18_init_0 5 rfl rfl)
theorem dX18_init_6 : decode cX18_init 6 = .ok (.putfield 9, 3) := dk_181 0 9 (dk_at dksX18_init_0 6 rfl rfl)
theorem dX18_init_9 : decode cX18_init 9 = .ok (.aload_n 0, 1) := dk_42 (dk_at dksX18_init_0 9 rfl rfl)
theorem dX18_init_10 : decode cX18_init 10 = .ok (.iload_n 1, 1) := dk_27 (dk_at dksX18_init_0 10 rfl rfl)
theorem dX18_init_11 : decode cX18_init 11 = .ok (.putfield 15, 3) := dk_181 0 15 (dk_at dksX18_init_0 11 rfl rfl)
theorem dX18_init_14 : decode cX18_init 14 = .ok (.aload_n 0, 1) := dk_42 (dk_at dksX18_init_0 14 rfl rfl)
theorem dX18_init_15 : decode cX18_init 15 = .ok (.iload_n 2, 1) := dk_28 (dk_at dksX18_init_0 15 rfl rfl)
theorem dX18_init_16 : decode cX18_init 16 = .ok (.putfield 18, 3) := dk_181 0 18 (dk_at dksX18_init_0 16 rfl rfl)
theorem dX18_init_19 : decode cX18_init 19 = .ok (.aload_n 0, 1) := dk_42 (dk_at dksX18_init_0 19 rfl rfl)
theorem dX18_init_20 : decode cX18_init 20 = .ok (.iload_n 3, 1) := dk_29 (dk_at dksX18_init_0 20 rfl rfl)
theorem dX18_init_21 : decode cX18_init 21 = .ok (.putfield 21, 3) := dk_181 0 21 (dk_at dksX18_init_0 21 rfl rfl)
theorem dX18_init_24 : decode cX18_init 24 = .ok (.aload_n 0, 1) := dk_42 (dk_at dksX18_init_1 0 rfl rfl)
theorem dX18_init_25 : decode cX18_init 25 = .ok (.iload 4, 2) := dk_21 4 (dk_at dksX18_init_1 1 rfl rfl)
theorem dX18_init_27 : decode cX18_init 27 = .ok (.putfield 25, 3) := dk_181 0 25 (dk_at dksX18_init_1 3 rfl rfl)
theorem dX18_init_30 : decode cX18_init 30 = .ok (.aload_n 0, 1) := dk_42 (dk_at dksX18_init_1 6 rfl rfl)
theorem dX18_init_31 : decode cX18_init 31 = .ok (.iload 5, 2) := dk_21 5 (dk_at dksX18_init_1 7 rfl rfl)
theorem dX18_init_33 : decode cX18_init 33 = .ok (.putfield 28, 3) := dk_181 0 28 (dk_at dksX18_init_1 9 rfl rfl)
theorem dX18_init_36 : decode cX18_init 36 = .ok (.return_, 1) := dk_177 (dk_at dksX18_init_1 12 rfl rfl)
abbrev cX18_counts : ByteArray := prog_13_method_2_code
def yX18_counts : MethodName := ⟨RX18, "counts", "(I)Z"⟩
def dkwX18_counts_1 : List UInt8 := [167, 0, 4, 3, 172]
abbrev dktX18_counts_1 : List UInt8 := dkwX18_counts_1 ++ []
def dkwX18_counts_0 : List UInt8 := [42, 180, 0, 28, 27, 163, 0, 22, 42, 180, 0, 9, 155, 0, 11, 42, 180, 0, 9, 27, 164, 0, 7, 4]
abbrev dktX18_counts_0 : List UInt8 := dkwX18_counts_0 ++ dktX18_counts_1
theorem dksX18_counts_0 : cX18_counts.data.toList.drop 0 = dktX18_counts_0 := by decide +kernel
theorem dksX18_counts_1 : cX18_counts.data.toList.drop 24 = dktX18_counts_1 := dk_seg dksX18_counts_0 24 rfl rfl
theorem dX18_counts_0 : decode cX18_counts 0 = .ok (.aload_n 0, 1) := dk_42 (dk_at dksX18_counts_0 0 rfl rfl)
theorem dX18_counts_1 : decode cX18_counts 1 = .ok (.getfield 28, 3) := dk_180 0 28 (dk_at dksX18_counts_0 1 rfl rfl)
theorem dX18_counts_4 : decode cX18_counts 4 = .ok (.iload_n 1, 1) := dk_27 (dk_at dksX18_counts_0 4 rfl rfl)
theorem dX18_counts_5 : decode cX18_counts 5 = .ok (.if_icmp .gt 22, 3) := dk_163 0 22 (dk_at dksX18_counts_0 5 rfl rfl)
theorem dX18_counts_8 : decode cX18_counts 8 = .ok (.aload_n 0, 1) := dk_42 (dk_at dksX18_counts_0 8 rfl rfl)
theorem dX18_counts_9 : decode cX18_counts 9 = .ok (.getfield 9, 3) := dk_180 0 9 (dk_at dksX18_counts_0 9 rfl rfl)
theorem dX18_counts_12 : decode cX18_counts 12 = .ok (.ifCond .lt 11, 3) := dk_155 0 11 (dk_at dksX18_counts_0 12 rfl rfl)
theorem dX18_counts_15 : decode cX18_counts 15 = .ok (.aload_n 0, 1) := dk_42 (dk_at dksX18_counts_0 15 rfl rfl)
theorem dX18_counts_16 : decode cX18_counts 16 = .ok (.getfield 9, 3) := dk_180 0 9 (dk_at dksX18_counts_0 16 rfl rfl)
theorem dX18_counts_19 : decode cX18_counts 19 = .ok (.iload_n 1, 1) := dk_27 (dk_at dksX18_counts_0 19 rfl rfl)
theorem dX18_counts_20 : decode cX18_counts 20 = .ok (.if_icmp .le 7, 3) := dk_164 0 7 (dk_at dksX18_counts_0 20 rfl rfl)
theorem dX18_counts_23 : decode cX18_counts 23 = .ok (.iconst 1, 1) := dk_4 (dk_at dksX18_counts_0 23 rfl rfl)
theorem dX18_counts_24 : decode cX18_counts 24 = .ok (.goto 4, 3) := dk_167 0 4 (dk_at dksX18_counts_1 0 rfl rfl)
theorem dX18_counts_27 : decode cX18_counts 27 = .ok (.iconst 0, 1) := dk_3 (dk_at dksX18_counts_1 3 rfl rfl)
theorem dX18_counts_28 : decode cX18_counts 28 = .ok (.ireturn, 1) := dk_172 (dk_at dksX18_counts_1 4 rfl rfl)
theorem q163 : (Jvm.Cond.initialized "BoardCrossing$Sight") ∈ lw_all := lw_g (lw_at lw_m1 35 rfl) rfl
theorem q908 : (Jvm.Cond.selects "BoardCrossing$Sight" ({ cls := "java/lang/Object", name := "getClass", desc := "()Ljava/lang/Class;" } : Jvm.MethodName) ({ cls := "java/lang/Object", name := "getClass", desc := "()Ljava/lang/Class;" } : Jvm.MethodName)) ∈ lw_all := lw_g (lw_at lw_m4 60 rfl) rfl
theorem q1385 : (Jvm.Cond.instantiable "BoardCrossing$Sight" (6 : Nat)) ∈ lw_all := lw_g (lw_at lw_m6 57 rfl) rfl
theorem q1387 : (Jvm.Cond.instanceMethod ({ cls := "BoardCrossing$Sight", name := "<init>", desc := "(IIZZI)V" } : Jvm.MethodName)) ∈ lw_all := lw_g (lw_at lw_m6 59 rfl) rfl
theorem q1388 : (Jvm.Cond.code ({ cls := "BoardCrossing$Sight", name := "<init>", desc := "(IIZZI)V" } : Jvm.MethodName) prog_13_method_1_code (6 : Nat) (Option.none : Option Jvm.ClassFile.FieldType)) ∈ lw_all := lw_g (lw_at lw_m6 60 rfl) rfl
theorem q1389 : (Jvm.Cond.methodLink "BoardCrossing$Sight" (3 : Nat) ({ cls := "java/lang/Object", name := "<init>", desc := "()V" } : Jvm.MethodName)) ∈ lw_all := lw_g (lw_at lw_m6 61 rfl) rfl
theorem q1390 : (Jvm.Cond.fieldLink "BoardCrossing$Sight" (15 : Nat) "BoardCrossing$Sight" "stroke" "I") ∈ lw_all := lw_g (lw_at lw_m6 62 rfl) rfl
theorem q1392 : (Jvm.Cond.fieldLink "BoardCrossing$Sight" (18 : Nat) "BoardCrossing$Sight" "much" "I") ∈ lw_all := lw_g (lw_at lw_m6 64 rfl) rfl
theorem q1394 : (Jvm.Cond.fieldLink "BoardCrossing$Sight" (28 : Nat) "BoardCrossing$Sight" "told" "I") ∈ lw_all := lw_g (lw_at lw_m6 66 rfl) rfl
theorem q1395 : (Jvm.Cond.fieldLink "BoardCrossing$Sight" (21 : Nat) "BoardCrossing$Sight" "isHeat" "Z") ∈ lw_all := lw_g (lw_at lw_m6 67 rfl) rfl
theorem q1397 : (Jvm.Cond.fieldLink "BoardCrossing$Sight" (25 : Nat) "BoardCrossing$Sight" "is" "Z") ∈ lw_all := lw_g (lw_at lw_m6 69 rfl) rfl
theorem q1399 : (Jvm.Cond.fieldLink "BoardCrossing$Sight" (9 : Nat) "BoardCrossing$Sight" "untold" "I") ∈ lw_all := lw_g (lw_at lw_m6 71 rfl) rfl
theorem q1401 : (Jvm.Cond.laysFinal "BoardCrossing$Sight" "BoardCrossing$Sight" "stroke" "I") ∈ lw_all := lw_g (lw_at lw_m6 73 rfl) rfl
theorem q1402 : (Jvm.Cond.soleField "BoardCrossing$Sight" "stroke") ∈ lw_all := lw_g (lw_at lw_m6 74 rfl) rfl
theorem q1403 : (Jvm.Cond.laysFinal "BoardCrossing$Sight" "BoardCrossing$Sight" "much" "I") ∈ lw_all := lw_g (lw_at lw_m6 75 rfl) rfl
theorem q1404 : (Jvm.Cond.soleField "BoardCrossing$Sight" "much") ∈ lw_all := lw_g (lw_at lw_m6 76 rfl) rfl
theorem q1405 : (Jvm.Cond.laysFinal "BoardCrossing$Sight" "BoardCrossing$Sight" "told" "I") ∈ lw_all := lw_g (lw_at lw_m6 77 rfl) rfl
theorem q1406 : (Jvm.Cond.soleField "BoardCrossing$Sight" "told") ∈ lw_all := lw_g (lw_at lw_m6 78 rfl) rfl
theorem q1407 : (Jvm.Cond.laysFinal "BoardCrossing$Sight" "BoardCrossing$Sight" "isHeat" "Z") ∈ lw_all := lw_g (lw_at lw_m6 79 rfl) rfl
theorem q1408 : (Jvm.Cond.soleField "BoardCrossing$Sight" "isHeat") ∈ lw_all := lw_g (lw_at lw_m6 80 rfl) rfl
theorem q1409 : (Jvm.Cond.laysFinal "BoardCrossing$Sight" "BoardCrossing$Sight" "is" "Z") ∈ lw_all := lw_g (lw_at lw_m6 81 rfl) rfl
theorem q1410 : (Jvm.Cond.soleField "BoardCrossing$Sight" "is") ∈ lw_all := lw_g (lw_at lw_m6 82 rfl) rfl
theorem q1411 : (Jvm.Cond.lays "BoardCrossing$Sight" "BoardCrossing$Sight" "untold" "I") ∈ lw_all := lw_g (lw_at lw_m6 83 rfl) rfl
theorem q1412 : (Jvm.Cond.soleField "BoardCrossing$Sight" "untold") ∈ lw_all := lw_g (lw_at lw_m6 84 rfl) rfl
theorem q1413 : (Jvm.Cond.superclass "BoardCrossing$Sight" "java/lang/Object") ∈ lw_all := lw_g (lw_at lw_m6 85 rfl) rfl
theorem q1445 : (Jvm.Cond.instanceMethod ({ cls := "BoardCrossing$Sight", name := "counts", desc := "(I)Z" } : Jvm.MethodName)) ∈ lw_all := lw_g (lw_at lw_m6 117 rfl) rfl
theorem q1446 : (Jvm.Cond.selects "BoardCrossing$Sight" ({ cls := "BoardCrossing$Sight", name := "counts", desc := "(I)Z" } : Jvm.MethodName) ({ cls := "BoardCrossing$Sight", name := "counts", desc := "(I)Z" } : Jvm.MethodName)) ∈ lw_all := lw_g (lw_at lw_m6 118 rfl) rfl
theorem q1447 : (Jvm.Cond.code ({ cls := "BoardCrossing$Sight", name := "counts", desc := "(I)Z" } : Jvm.MethodName) prog_13_method_2_code (2 : Nat) (Option.some Jvm.ClassFile.FieldType.boolean)) ∈ lw_all := lw_g (lw_at lw_m6 119 rfl) rfl
theorem q2257 : (Jvm.Cond.castable "BoardCrossing$Sight" "java/lang/Object") ∈ lw_tbl := lw_at lw_m9 209 rfl
theorem in_X18 : ∀ w ∈ wsX180, w ∈ lw_all := lw_in wsX180 [1401, 1403, 1405, 1407, 1409, 1411] (by decide +kernel) (by decide +kernel)
