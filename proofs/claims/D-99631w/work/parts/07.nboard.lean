/-! BoardCrossing -/
set_option maxRecDepth 100000
def RX0 : String := "BoardCrossing"
def TX0 : u_T := fun k => match k with
  | 0 => ("BoardCrossing", "rive\x72", "LBoardCrossing$River;", false)
  | 1 => ("BoardCrossing", "now", "LBoardCrossing$State;", true)
  | 2 => ("BoardCrossing", "then", "LBoardCrossing$State;", true)
  | 3 => ("BoardCrossing", "tape", "[B", true)
  | 4 => ("BoardCrossing", "fault", "LBoardCrossing$Wrong;", true)
  | 5 => ("BoardCrossing", "taped", "I", false)
  | 6 => ("BoardCrossing", "time", "I", false)
  | 7 => ("BoardCrossing", "faultKind", "I", false)
  | 8 => ("BoardCrossing", "faultPlace", "I", false)
  | 9 => ("BoardCrossing", "acts", "Ljava/util/ArrayList;", true)
  | 10 => ("BoardCrossing", "undone", "Ljava/util/ArrayList;", true)
  | 11 => ("BoardCrossing", "laidRow", "[I", true)
  | 12 => ("BoardCrossing", "trial", "[I", true)
  | 13 => ("BoardCrossing", "laid", "I", false)
  | 14 => ("BoardCrossing", "coolest", "LBoardCrossing$Wish;", true)
  | 15 => ("BoardCrossing", "straightest", "LBoardCrossing$Straightest;", true)
  | 16 => ("BoardCrossing", "fewest", "I", false)
  | 17 => ("BoardCrossing", "widths", "[I", true)
  | 18 => ("BoardCrossing", "canBe", "[Z", true)
  | 19 => ("BoardCrossing", "canNext", "[Z", true)
  | 20 => ("BoardCrossing", "bestMoored", "I", false)
  | 21 => ("BoardCrossing", "leastBetween", "I", false)
  | 22 => ("BoardCrossing", "landingsBy", "[I", true)
  | 23 => ("BoardCrossing", "sights", "Ljava/util/ArrayList;", true)
  | 24 => ("BoardCrossing", "columnsBy", "[I", true)
  | 25 => ("BoardCrossing", "heatsBy", "[I", true)
  | 26 => ("BoardCrossing", "parts", "[I", true)
  | 27 => ("BoardCrossing", "fitting", "I", false)
  | _ => ("BoardCrossing", "boxes", "[LBoardCrossing$Kept;", true)
def tyX0 : Nat → FieldType := fun k => match k with
  | 0 => .object "BoardCrossing$Rive\x72"
  | 1 => .object "BoardCrossing$State"
  | 2 => .object "BoardCrossing$State"
  | 3 => .array .byte
  | 4 => .object "BoardCrossing$Wrong"
  | 5 => .int
  | 6 => .int
  | 7 => .int
  | 8 => .int
  | 9 => .object "java/util/ArrayList"
  | 10 => .object "java/util/ArrayList"
  | 11 => .array .int
  | 12 => .array .int
  | 13 => .int
  | 14 => .object "BoardCrossing$Wish"
  | 15 => .object "BoardCrossing$Straightest"
  | 16 => .int
  | 17 => .array .int
  | 18 => .array .boolean
  | 19 => .array .boolean
  | 20 => .int
  | 21 => .int
  | 22 => .array .int
  | 23 => .object "java/util/ArrayList"
  | 24 => .array .int
  | 25 => .array .int
  | 26 => .array .int
  | 27 => .int
  | _ => .array (.object "BoardCrossing$Kept")
abbrev wsX00 : List Cond := u_ws RX0 TX0 29
set_option maxRecDepth 100000 in
theorem nmX0 : ∀ a, a < 29 → ∀ b, b < 29 → a ≠ b → (TX0 a).2.1 ≠ (TX0 b).2.1 := by decide +kernel
set_option maxRecDepth 100000 in
theorem tyX0_ok : ∀ k, k < 29 → parseFieldDescriptor (TX0 k).2.2.1 = some (tyX0 k) := by decide +kernel
abbrev cX0_init : ByteArray := prog_1_method_5_code
def yX0_init : MethodName := ⟨RX0, "<init>", "()V"⟩
def dkwX0_init_10 : List UInt8 := [182, 0, 117, 177]
abbrev dktX0_init_10 : List UInt8 := dkwX0_init_10 ++ []
def dkwX0_init_9 : List UInt8 := [187, 0, 108, 89, 1, 183, 0, 110, 83, 89, 5, 187, 0, 108, 89, 1, 183, 0, 110, 83, 181, 0, 113, 42]
abbrev dktX0_init_9 : List UInt8 := dkwX0_init_9 ++ dktX0_init_10
def dkwX0_init_8 : List UInt8 := [188, 10, 181, 0, 105, 42, 6, 189, 0, 108, 89, 3, 187, 0, 108, 89, 1, 183, 0, 110, 83, 89, 4]
abbrev dktX0_init_8 : List UInt8 := dkwX0_init_8 ++ dktX0_init_9
def dkwX0_init_7 : List UInt8 := [181, 0, 96, 42, 17, 17, 22, 188, 10, 181, 0, 99, 42, 17, 17, 22, 188, 10, 181, 0, 102, 42, 16, 18]
abbrev dktX0_init_7 : List UInt8 := dkwX0_init_7 ++ dktX0_init_8
def dkwX0_init_6 : List UInt8 := [16, 64, 188, 4, 181, 0, 90, 42, 7, 188, 10, 181, 0, 93, 42, 187, 0, 50, 89, 183, 0, 52]
abbrev dktX0_init_6 : List UInt8 := dkwX0_init_6 ++ dktX0_init_7
def dkwX0_init_5 : List UInt8 := [42, 183, 0, 78, 181, 0, 79, 42, 16, 8, 188, 10, 181, 0, 83, 42, 16, 64, 188, 4, 181, 0, 86, 42]
abbrev dktX0_init_5 : List UInt8 := dkwX0_init_5 ++ dktX0_init_6
def dkwX0_init_4 : List UInt8 := [16, 7, 188, 10, 181, 0, 64, 42, 187, 0, 67, 89, 42, 183, 0, 69, 181, 0, 72, 42, 187, 0, 76, 89]
abbrev dktX0_init_4 : List UInt8 := dkwX0_init_4 ++ dktX0_init_5
def dkwX0_init_3 : List UInt8 := [181, 0, 53, 42, 187, 0, 50, 89, 183, 0, 52, 181, 0, 57, 42, 16, 7, 188, 10, 181, 0, 60, 42]
abbrev dktX0_init_3 : List UInt8 := dkwX0_init_3 ++ dktX0_init_4
def dkwX0_init_2 : List UInt8 := [187, 0, 39, 89, 183, 0, 41, 181, 0, 42, 42, 2, 181, 0, 46, 42, 187, 0, 50, 89, 183, 0, 52]
abbrev dktX0_init_2 : List UInt8 := dkwX0_init_2 ++ dktX0_init_3
def dkwX0_init_1 : List UInt8 := [181, 0, 28, 42, 187, 0, 25, 89, 183, 0, 27, 181, 0, 32, 42, 17, 6, 64, 188, 8, 181, 0, 35, 42]
abbrev dktX0_init_1 : List UInt8 := dkwX0_init_1 ++ dktX0_init_2
def dkwX0_init_0 : List UInt8 := [42, 183, 0, 10, 42, 187, 0, 16, 89, 183, 0, 18, 181, 0, 19, 42, 187, 0, 25, 89, 183, 0, 27]
abbrev dktX0_init_0 : List UInt8 := dkwX0_init_0 ++ dktX0_init_1
theorem dksX0_init_0 : cX0_init.data.toList.drop 0 = dktX0_init_0 := by decide +kernel
theorem dksX0_init_1 : cX0_init.data.toList.drop 23 = dktX0_init_1 := dk_seg dksX0_init_0 23 rfl rfl
theorem dksX0_init_2 : cX0_init.data.toList.drop 47 = dktX0_init_2 := dk_seg dksX0_init_1 24 rfl rfl
theorem dksX0_init_3 : cX0_init.data.toList.drop 70 = dktX0_init_3 := dk_seg dksX0_init_2 23 rfl rfl
theorem dksX0_init_4 : cX0_init.data.toList.drop 93 = dktX0_init_4 := dk_seg dksX0_init_3 23 rfl rfl
theorem dksX0_init_5 : cX0_init.data.toList.drop 117 = dktX0_init_5 := dk_seg dksX0_init_4 24 rfl rfl
theorem dksX0_init_6 : cX0_init.data.toList.drop 141 = dktX0_init_6 := dk_seg dksX0_init_5 24 rfl rfl
theorem dksX0_init_7 : cX0_init.data.toList.drop 163 = dktX0_init_7 := dk_seg dksX0_init_6 22 rfl rfl
theorem dksX0_init_8 : cX0_init.data.toList.drop 187 = dktX0_init_8 := dk_seg dksX0_init_7 24 rfl rfl
theorem dksX0_init_9 : cX0_init.data.toList.drop 210 = dktX0_init_9 := dk_seg dksX0_init_8 23 rfl rfl
theorem dksX0_init_10 : cX0_init.data.toList.drop 234 = dktX0_init_10 := dk_seg dksX0_init_9 24 rfl rfl
theorem dX0_init_0 : decode cX0_init 0 = .ok (.aload_n 0, 1) := dk_42 (dk_at dksX0_init_0 0 rfl rfl)
theorem dX0_init_1 : decode cX0_init 1 = .ok (.invokespecial 10, 3) := dk_183 0 10 (dk_at dksX0_init_0 1 rfl rfl)
theorem dX0_init_4 : decode cX0_init 4 = .ok (.aload_n 0, 1) := dk_42 (dk_at dksX0_init_0 4 rfl rfl)
theorem dX0_init_5 : decode cX0_init 5 = .ok (.new 16, 3) := dk_187 0 16 (dk_at dksX0_init_0 5 rfl rfl)
theorem dX0_init_8 : decode cX0_init 8 = .ok (.dup, 1) := dk_89 (dk_at dksX0_init_0 8 rfl rfl)
theorem dX0_init_9 : decode cX0_init 9 = .ok (.invokespecial 18, 3) := dk_183 0 18 (dk_at dksX0_init_0 9 rfl rfl)
theorem dX0_init_12 : decode cX0_init 12 = .ok (.putfield 19, 3) := dk_181 0 19 (dk_at dksX0_init_0 12 rfl rfl)
theorem dX0_init_15 : decode cX0_init 15 = .ok (.aload_n 0, 1) := dk_42 (dk_at dksX0_init_0 15 rfl rfl)
theorem dX0_init_16 : decode cX0_init 16 = .ok (.new 25, 3) := dk_187 0 25 (dk_at dksX0_init_0 16 rfl rfl)
theorem dX0_init_19 : decode cX0_init 19 = .ok (.dup, 1) := dk_89 (dk_at dksX0_init_0 19 rfl rfl)
theorem dX0_init_20 : decode cX0_init 20 = .ok (.invokespecial 27, 3) := dk_183 0 27 (dk_at dksX0_init_0 20 rfl rfl)
theorem dX0_init_23 : decode cX0_init 23 = .ok (.putfield 28, 3) := dk_181 0 28 (dk_at dksX0_init_1 0 rfl rfl)
theorem dX0_init_26 : decode cX0_init 26 = .ok (.aload_n 0, 1) := dk_42 (dk_at dksX0_init_1 3 rfl rfl)
theorem dX0_init_27 : decode cX0_init 27 = .ok (.new 25, 3) := dk_187 0 25 (dk_at dksX0_init_1 4 rfl rfl)
theorem dX0_init_30 : decode cX0_init 30 = .ok (.dup, 1) := dk_89 (dk_at dksX0_init_1 7 rfl rfl)
theorem dX0_init_31 : decode cX0_init 31 = .ok (.invokespecial 27, 3) := dk_183 0 27 (dk_at dksX0_init_1 8 rfl rfl)
theorem dX0_init_34 : decode cX0_init 34 = .ok (.putfield 32, 3) := dk_181 0 32 (dk_at dksX0_init_1 11 rfl rfl)
theorem dX0_init_37 : decode cX0_init 37 = .ok (.aload_n 0, 1) := dk_42 (dk_at dksX0_init_1 14 rfl rfl)
theorem dX0_init_38 : decode cX0_init 38 = .ok (.sipush 1600, 3) := dk_17 6 64 (dk_at dksX0_init_1 15 rfl rfl)
theorem dX0_init_41 : decode cX0_init 41 = .ok (.newarray .byte, 2) := dk_188_8 (dk_at dksX0_init_1 18 rfl rfl)
theorem dX0_init_43 : decode cX0_init 43 = .ok (.putfield 35, 3) := dk_181 0 35 (dk_at dksX0_init_1 20 rfl rfl)
theorem dX0_init_46 : decode cX0_init 46 = .ok (.aload_n 0, 1) := dk_42 (dk_at dksX0_init_1 23 rfl rfl)
theorem dX0_init_47 : decode cX0_init 47 = .ok (.new 39, 3) := dk_187 0 39 (dk_at dksX0_init_2 0 rfl rfl)
theorem dX0_init_50 : decode cX0_init 50 = .ok (.dup, 1) := dk_89 (dk_at dksX0_init_2 3 rfl rfl)
theorem dX0_init_51 : decode cX0_init 51 = .ok (.invokespecial 41, 3) := dk_183 0 41 (dk_at dksX0_init_2 4 rfl rfl)
theorem dX0_init_54 : decode cX0_init 54 = .ok (.putfield 42, 3) := dk_181 0 42 (dk_at dksX0_init_2 7 rfl rfl)
theorem dX0_init_57 : decode cX0_init 57 = .ok (.aload_n 0, 1) := dk_42 (dk_at dksX0_init_2 10 rfl rfl)
theorem dX0_init_58 : decode cX0_init 58 = .ok (.iconst (-1), 1) := dk_2 (dk_at dksX0_init_2 11 rfl rfl)
theorem dX0_init_59 : decode cX0_init 59 = .ok (.putfield 46, 3) := dk_181 0 46 (dk_at dksX0_init_2 12 rfl rfl)
theorem dX0_init_62 : decode cX0_init 62 = .ok (.aload_n 0, 1) := dk_42 (dk_at dksX0_init_2 15 rfl rfl)
theorem dX0_init_63 : decode cX0_init 63 = .ok (.new 50, 3) := dk_187 0 50 (dk_at dksX0_init_2 16 rfl rfl)
theorem dX0_init_66 : decode cX0_init 66 = .ok (.dup, 1) := dk_89 (dk_at dksX0_init_2 19 rfl rfl)
theorem dX0_init_67 : decode cX0_init 67 = .ok (.invokespecial 52, 3) := dk_183 0 52 (dk_at dksX0_init_2 20 rfl rfl)
theorem dX0_init_70 : decode cX0_init 70 = .ok (.putfield 53, 3) := dk_181 0 53 (dk_at dksX0_init_3 0 rfl rfl)
theorem dX0_init_73 : decode cX0_init 73 = .ok (.aload_n 0, 1) := dk_42 (dk_at dksX0_init_3 3 rfl rfl)
theorem dX0_init_74 : decode cX0_init 74 = .ok (.new 50, 3) := dk_187 0 50 (dk_at dksX0_init_3 4 rfl rfl)
theorem dX0_init_77 : decode cX0_init 77 = .ok (.dup, 1) := dk_89 (dk_at dksX0_init_3 7 rfl rfl)
theorem dX0_init_78 : decode cX0_init 78 = .ok (.invokespecial 52, 3) := dk_183 0 52 (dk_at dksX0_init_3 8 rfl rfl)
theorem dX0_init_81 : decode cX0_init 81 = .ok (.putfield 57, 3) := dk_181 0 57 (dk_at dksX0_init_3 11 rfl rfl)
theorem dX0_init_84 : decode cX0_init 84 = .ok (.aload_n 0, 1) := dk_42 (dk_at dksX0_init_3 14 rfl rfl)
theorem dX0_init_85 : decode cX0_init 85 = .ok (.bipush 7, 2) := dk_16 7 (dk_at dksX0_init_3 15 rfl rfl)
theorem dX0_init_87 : decode cX0_init 87 = .ok (.newarray .int, 2) := dk_188_10 (dk_at dksX0_init_3 17 rfl rfl)
theorem dX0_init_89 : decode cX0_init 89 = .ok (.putfield 60, 3) := dk_181 0 60 (dk_at dksX0_init_3 19 rfl rfl)
theorem dX0_init_92 : decode cX0_init 92 = .ok (.aload_n 0, 1) := dk_42 (dk_at dksX0_init_3 22 rfl rfl)
theorem dX0_init_93 : decode cX0_init 93 = .ok (.bipush 7, 2) := dk_16 7 (dk_at dksX0_init_4 0 rfl rfl)
theorem dX0_init_95 : decode cX0_init 95 = .ok (.newarray .int, 2) := dk_188_10 (dk_at dksX0_init_4 2 rfl rfl)
theorem dX0_init_97 : decode cX0_init 97 = .ok (.putfield 64, 3) := dk_181 0 64 (dk_at dksX0_init_4 4 rfl rfl)
theorem dX0_init_100 : decode cX0_init 100 = .ok (.aload_n 0, 1) := dk_42 (dk_at dksX0_init_4 7 rfl rfl)
theorem dX0_init_101 : decode cX0_init 101 = .ok (.new 67, 3) := dk_187 0 67 (dk_at dksX0_init_4 8 rfl rfl)
theorem dX0_init_104 : decode cX0_init 104 = .ok (.dup, 1) := dk_89 (dk_at dksX0_init_4 11 rfl rfl)
theorem dX0_init_105 : decode cX0_init 105 = .ok (.aload_n 0, 1) := dk_42 (dk_at dksX0_init_4 12 rfl rfl)
theorem dX0_init_106 : decode cX0_init 106 = .ok (.invokespecial 69, 3) := dk_183 0 69 (dk_at dksX0_init_4 13 rfl rfl)
theorem dX0_init_109 : decode cX0_init 109 = .ok (.putfield 72, 3) := dk_181 0 72 (dk_at dksX0_init_4 16 rfl rfl)
theorem dX0_init_112 : decode cX0_init 112 = .ok (.aload_n 0, 1) := dk_42 (dk_at dksX0_init_4 19 rfl rfl)
theorem dX0_init_113 : decode cX0_init 113 = .ok (.new 76, 3) := dk_187 0 76 (dk_at dksX0_init_4 20 rfl rfl)
theorem dX0_init_116 : decode cX0_init 116 = .ok (.dup, 1) := dk_89 (dk_at dksX0_init_4 23 rfl rfl)
theorem dX0_init_117 : decode cX0_init 117 = .ok (.aload_n 0, 1) := dk_42 (dk_at dksX0_init_5 0 rfl rfl)
theorem dX0_init_118 : decode cX0_init 118 = .ok (.invokespecial 78, 3) := dk_183 0 78 (dk_at dksX0_init_5 1 rfl rfl)
theorem dX0_init_121 : decode cX0_init 121 = .ok (.putfield 79, 3) := dk_181 0 79 (dk_at dksX0_init_5 4 rfl rfl)
theorem dX0_init_124 : decode cX0_init 124 = .ok (.aload_n 0, 1) := dk_42 (dk_at dksX0_init_5 7 rfl rfl)
theorem dX0_init_125 : decode cX0_init 125 = .ok (.bipush 8, 2) := dk_16 8 (dk_at dksX0_init_5 8 rfl rfl)
theorem dX0_init_127 : decode cX0_init 127 = .ok (.newarray .int, 2) := dk_188_10 (dk_at dksX0_init_5 10 rfl rfl)
theorem dX0_init_129 : decode cX0_init 129 = .ok (.putfield 83, 3) := dk_181 0 83 (dk_at dksX0_init_5 12 rfl rfl)
theorem dX0_init_132 : decode cX0_init 132 = .ok (.aload_n 0, 1) := dk_42 (dk_at dksX0_init_5 15 rfl rfl)
theorem dX0_init_133 : decode cX0_init 133 = .ok (.bipush 64, 2) := dk_16 64 (dk_at dksX0_init_5 16 rfl rfl)
theorem dX0_init_135 : decode cX0_init 135 = .ok (.newarray .boolean, 2) := dk_188_4 (dk_at dksX0_init_5 18 rfl rfl)
theorem dX0_init_137 : decode cX0_init 137 = .ok (.putfield 86, 3) := dk_181 0 86 (dk_at dksX0_init_5 20 rfl rfl)
theorem dX0_init_140 : decode cX0_init 140 = .ok (.aload_n 0, 1) := dk_42 (dk_at dksX0_init_5 23 rfl rfl)
theorem dX0_init_141 : decode cX0_init 141 = .ok (.bipush 64, 2) := dk_16 64 (dk_at dksX0_init_6 0 rfl rfl)
theorem dX0_init_143 : decode cX0_init 143 = .ok (.newarray .boolean, 2) := dk_188_4 (dk_at dksX0_init_6 2 rfl rfl)
theorem dX0_init_145 : decode cX0_init 145 = .ok (.putfield 90, 3) := dk_181 0 90 (dk_at dksX0_init_6 4 rfl rfl)
theorem dX0_init_148 : decode cX0_init 148 = .ok (.aload_n 0, 1) := dk_42 (dk_at dksX0_init_6 7 rfl rfl)
theorem dX0_init_149 : decode cX0_init 149 = .ok (.iconst 4, 1) := dk_7 (dk_at dksX0_init_6 8 rfl rfl)
theorem dX0_init_150 : decode cX0_init 150 = .ok (.newarray .int, 2) := dk_188_10 (dk_at dksX0_init_6 9 rfl rfl)
theorem dX0_init_152 : decode cX0_init 152 = .ok (.putfield 93, 3) := dk_181 0 93 (dk_at dksX0_init_6 11 rfl rfl)
theorem dX0_init_155 : decode cX0_init 155 = .ok (.aload_n 0, 1) := dk_42 (dk_at dksX0_init_6 14 rfl rfl)
theorem dX0_init_156 : decode cX0_init 156 = .ok (.new 50, 3) := dk_187 0 50 (dk_at dksX0_init_6 15 rfl rfl)
theorem dX0_init_159 : decode cX0_init 159 = .ok (.dup, 1) := dk_89 (dk_at dksX0_init_6 18 rfl rfl)
theorem dX0_init_160 : decode cX0_init 160 = .ok (.invokespecial 52, 3) := dk_183 0 52 (dk_at dksX0_init_6 19 rfl rfl)
theorem dX0_init_163 : decode cX0_init 163 = .ok (.putfield 96, 3) := dk_181 0 96 (dk_at dksX0_init_7 0 rfl rfl)
theorem dX0_init_166 : decode cX0_init 166 = .ok (.aload_n 0, 1) := dk_42 (dk_at dksX0_init_7 3 rfl rfl)
theorem dX0_init_167 : decode cX0_init 167 = .ok (.sipush 4374, 3) := dk_17 17 22 (dk_at dksX0_init_7 4 rfl rfl)
theorem dX0_init_170 : decode cX0_init 170 = .ok (.newarray .int, 2) := dk_188_10 (dk_at dksX0_init_7 7 rfl rfl)
theorem dX0_init_172 : decode cX0_init 172 = .ok (.putfield 99, 3) := dk_181 0 99 (dk_at dksX0_init_7 9 rfl rfl)
theorem dX0_init_175 : decode cX0_init 175 = .ok (.aload_n 0, 1) := dk_42 (dk_at dksX0_init_7 12 rfl rfl)
theorem dX0_init_176 : decode cX0_init 176 = .ok (.sipush 4374, 3) := dk_17 17 22 (dk_at dksX0_init_7 13 rfl rfl)
theorem dX0_init_179 : decode cX0_init 179 = .ok (.newarray .int, 2) := dk_188_10 (dk_at dksX0_init_7 16 rfl rfl)
theorem dX0_init_181 : decode cX0_init 181 = .ok (.putfield 102, 3) := dk_181 0 102 (dk_at dksX0_init_7 18 rfl rfl)
theorem dX0_init_184 : decode cX0_init 184 = .ok (.aload_n 0, 1) := dk_42 (dk_at dksX0_init_7 21 rfl rfl)
theorem dX0_init_185 : decode cX0_init 185 = .ok (.bipush 18, 2) := dk_16 18 (dk_at dksX0_init_7 22 rfl rfl)
theorem dX0_init_187 : decode cX0_init 187 = .ok (.newarray .int, 2) := dk_188_10 (dk_at dksX0_init_8 0 rfl rfl)
theorem dX0_init_189 : decode cX0_init 189 = .ok (.putfield 105, 3) := dk_181 0 105 (dk_at dksX0_init_8 2 rfl rfl)
theorem dX0_init_192 : decode cX0_init 192 = .ok (.aload_n 0, 1) := dk_42 (dk_at dksX0_init_8 5 rfl rfl)
theorem dX0_init_193 : decode cX0_init 193 = .ok (.iconst 3, 1) := dk_6 (dk_at dksX0_init_8 6 rfl rfl)
theorem dX0_init_194 : decode cX0_init 194 = .ok (.anewarray 108, 3) := dk_189 0 108 (dk_at dksX0_init_8 7 rfl rfl)
theorem dX0_init_197 : decode cX0_init 197 = .ok (.dup, 1) := dk_89 (dk_at dksX0_init_8 10 rfl rfl)
theorem dX0_init_198 : decode cX0_init 198 = .ok (.iconst 0, 1) := dk_3 (dk_at dksX0_init_8 11 rfl rfl)
theorem dX0_init_199 : decode cX0_init 199 = .ok (.new 108, 3) := dk_187 0 108 (dk_at dksX0_init_8 12 rfl rfl)
theorem dX0_init_202 : decode cX0_init 202 = .ok (.dup, 1) := dk_89 (dk_at dksX0_init_8 15 rfl rfl)
theorem dX0_init_203 : decode cX0_init 203 = .ok (.aconst_null, 1) := dk_1 (dk_at dksX0_init_8 16 rfl rfl)
theorem dX0_init_204 : decode cX0_init 204 = .ok (.invokespecial 110, 3) := dk_183 0 110 (dk_at dksX0_init_8 17 rfl rfl)
theorem dX0_init_207 : decode cX0_init 207 = .ok (.aastore, 1) := dk_83 (dk_at dksX0_init_8 20 rfl rfl)
theorem dX0_init_208 : decode cX0_init 208 = .ok (.dup, 1) := dk_89 (dk_at dksX0_init_8 21 rfl rfl)
theorem dX0_init_209 : decode cX0_init 209 = .ok (.iconst 1, 1) := dk_4 (dk_at dksX0_init_8 22 rfl rfl)
theorem dX0_init_210 : decode cX0_init 210 = .ok (.new 108, 3) := dk_187 0 108 (dk_at dksX0_init_9 0 rfl rfl)
theorem dX0_init_213 : decode cX0_init 213 = .ok (.dup, 1) := dk_89 (dk_at dksX0_init_9 3 rfl rfl)
theorem dX0_init_214 : decode cX0_init 214 = .ok (.aconst_null, 1) := dk_1 (dk_at dksX0_init_9 4 rfl rfl)
theorem dX0_init_215 : decode cX0_init 215 = .ok (.invokespecial 110, 3) := dk_183 0 110 (dk_at dksX0_init_9 5 rfl rfl)
theorem dX0_init_218 : decode cX0_init 218 = .ok (.aastore, 1) := dk_83 (dk_at dksX0_init_9 8 rfl rfl)
theorem dX0_init_219 : decode cX0_init 219 = .ok (.dup, 1) := dk_89 (dk_at dksX0_init_9 9 rfl rfl)
theorem dX0_init_220 : decode cX0_init 220 = .ok (.iconst 2, 1) := dk_5 (dk_at dksX0_init_9 10 rfl rfl)
theorem dX0_init_221 : decode cX0_init 221 = .ok (.new 108, 3) := dk_187 0 108 (dk_at dksX0_init_9 11 rfl rfl)
theorem dX0_init_224 : decode cX0_init 224 = .ok (.dup, 1) := dk_89 (dk_at dksX0_init_9 14 rfl rfl)
theorem dX0_init_225 : decode cX0_init 225 = .ok (.aconst_null, 1) := dk_1 (dk_at dksX0_init_9 15 rfl rfl)
theorem dX0_init_226 : decode cX0_init 226 = .ok (.invokespecial 110, 3) := dk_183 0 110 (dk_at dksX0_init_9 16 rfl rfl)
theorem dX0_init_229 : decode cX0_init 229 = .ok (.aastore, 1) := dk_83 (dk_at dksX0_init_9 19 rfl rfl)
theorem dX0_init_230 : decode cX0_init 230 = .ok (.putfield 113, 3) := dk_181 0 113 (dk_at dksX0_init_9 20 rfl rfl)
theorem dX0_init_233 : decode cX0_init 233 = .ok (.aload_n 0, 1) := dk_42 (dk_at dksX0_init_9 23 rfl rfl)
theorem dX0_init_234 : decode cX0_init 234 = .ok (.invokevirtual 117, 3) := dk_182 0 117 (dk_at dksX0_init_10 0 rfl rfl)
theorem dX0_init_237 : decode cX0_init 237 = .ok (.return_, 1) := dk_177 (dk_at dksX0_init_10 3 rfl rfl)
abbrev cX0_start : ByteArray := prog_1_method_6_code
def yX0_start : MethodName := ⟨RX0, "start", "()V"⟩
def dkwX0_start_2 : List UInt8 := [180, 0, 113, 27, 50, 1, 181, 0, 130, 132, 1, 1, 167, 255, 238, 177]
abbrev dktX0_start_2 : List UInt8 := dkwX0_start_2 ++ []
def dkwX0_start_1 : List UInt8 := [182, 0, 124, 42, 180, 0, 96, 182, 0, 124, 42, 3, 181, 0, 127, 3, 60, 27, 6, 162, 0, 19, 42]
abbrev dktX0_start_1 : List UInt8 := dkwX0_start_1 ++ dktX0_start_2
def dkwX0_start_0 : List UInt8 := [42, 180, 0, 28, 42, 180, 0, 19, 182, 0, 120, 42, 180, 0, 53, 182, 0, 124, 42, 180, 0, 57]
abbrev dktX0_start_0 : List UInt8 := dkwX0_start_0 ++ dktX0_start_1
theorem dksX0_start_0 : cX0_start.data.toList.drop 0 = dktX0_start_0 := by decide +kernel
theorem dksX0_start_1 : cX0_start.data.toList.drop 22 = dktX0_start_1 := dk_seg dksX0_start_0 22 rfl rfl
theorem dksX0_start_2 : cX0_start.data.toList.drop 45 = dktX0_start_2 := dk_seg dksX0_start_1 23 rfl rfl
theorem dX0_start_0 : decode cX0_start 0 = .ok (.aload_n 0, 1) := dk_42 (dk_at dksX0_start_0 0 rfl rfl)
theorem dX0_start_1 : decode cX0_start 1 = .ok (.getfield 28, 3) := dk_180 0 28 (dk_at dksX0_start_0 1 rfl rfl)
theorem dX0_start_4 : decode cX0_start 4 = .ok (.aload_n 0, 1) := dk_42 (dk_at dksX0_start_0 4 rfl rfl)
theorem dX0_start_5 : decode cX0_start 5 = .ok (.getfield 19, 3) := dk_180 0 19 (dk_at dksX0_start_0 5 rfl rfl)
theorem dX0_start_8 : decode cX0_start 8 = .ok (.invokevirtual 120, 3) := dk_182 0 120 (dk_at dksX0_start_0 8 rfl rfl)
theorem dX0_start_11 : decode cX0_start 11 = .ok (.aload_n 0, 1) := dk_42 (dk_at dksX0_start_0 11 rfl rfl)
theorem dX0_start_12 : decode cX0_start 12 = .ok (.getfield 53, 3) := dk_180 0 53 (dk_at dksX0_start_0 12 rfl rfl)
theorem dX0_start_15 : decode cX0_start 15 = .ok (.invokevirtual 124, 3) := dk_182 0 124 (dk_at dksX0_start_0 15 rfl rfl)
theorem dX0_start_18 : decode cX0_start 18 = .ok (.aload_n 0, 1) := dk_42 (dk_at dksX0_start_0 18 rfl rfl)
theorem dX0_start_19 : decode cX0_start 19 = .ok (.getfield 57, 3) := dk_180 0 57 (dk_at dksX0_start_0 19 rfl rfl)
theorem dX0_start_22 : decode cX0_start 22 = .ok (.invokevirtual 124, 3) := dk_182 0 124 (dk_at dksX0_start_1 0 rfl rfl)
theorem dX0_start_25 : decode cX0_start 25 = .ok (.aload_n 0, 1) := dk_42 (dk_at dksX0_start_1 3 rfl rfl)
theorem dX0_start_26 : decode cX0_start 26 = .ok (.getfield 96, 3) := dk_180 0 96 (dk_at dksX0_start_1 4 rfl rfl)
theorem dX0_start_29 : decode cX0_start 29 = .ok (.invokevirtual 124, 3) := dk_182 0 124 (dk_at dksX0_start_1 7 rfl rfl)
theorem dX0_start_32 : decode cX0_start 32 = .ok (.aload_n 0, 1) := dk_42 (dk_at dksX0_start_1 10 rfl rfl)
theorem dX0_start_33 : decode cX0_start 33 = .ok (.iconst 0, 1) := dk_3 (dk_at dksX0_start_1 11 rfl rfl)
theorem dX0_start_34 : decode cX0_start 34 = .ok (.putfield 127, 3) := dk_181 0 127 (dk_at dksX0_start_1 12 rfl rfl)
theorem dX0_start_37 : decode cX0_start 37 = .ok (.iconst 0, 1) := dk_3 (dk_at dksX0_start_1 15 rfl rfl)
theorem dX0_start_38 : decode cX0_start 38 = .ok (.istore_n 1, 1) := dk_60 (dk_at dksX0_start_1 16 rfl rfl)
theorem dX0_start_39 : decode cX0_start 39 = .ok (.iload_n 1, 1) := dk_27 (dk_at dksX0_start_1 17 rfl rfl)
theorem dX0_start_40 : decode cX0_start 40 = .ok (.iconst 3, 1) := dk_6 (dk_at dksX0_start_1 18 rfl rfl)
theorem dX0_start_41 : decode cX0_start 41 = .ok (.if_icmp .ge 19, 3) := dk_162 0 19 (dk_at dksX0_start_1 19 rfl rfl)
theorem dX0_start_44 : decode cX0_start 44 = .ok (.aload_n 0, 1) := dk_42 (dk_at dksX0_start_1 22 rfl rfl)
theorem dX0_start_45 : decode cX0_start 45 = .ok (.getfield 113, 3) := dk_180 0 113 (dk_at dksX0_start_2 0 rfl rfl)
theorem dX0_start_48 : decode cX0_start 48 = .ok (.iload_n 1, 1) := dk_27 (dk_at dksX0_start_2 3 rfl rfl)
theorem dX0_start_49 : decode cX0_start 49 = .ok (.aaload, 1) := dk_50 (dk_at dksX0_start_2 4 rfl rfl)
theorem dX0_start_50 : decode cX0_start 50 = .ok (.aconst_null, 1) := dk_1 (dk_at dksX0_start_2 5 rfl rfl)
theorem dX0_start_51 : decode cX0_start 51 = .ok (.putfield 130, 3) := dk_181 0 130 (dk_at dksX0_start_2 6 rfl rfl)
theorem dX0_start_54 : decode cX0_start 54 = .ok (.iinc 1 1, 3) := dk_132 1 1 (dk_at dksX0_start_2 9 rfl rfl)
theorem dX0_start_57 : decode cX0_start 57 = .ok (.goto (-18), 3) := dk_167 255 238 (dk_at dksX0_start_2 12 rfl rfl)
theorem dX0_start_60 : decode cX0_start 60 = .ok (.return_, 1) := dk_177 (dk_at dksX0_start_2 15 rfl rfl)
abbrev cX0_feed : ByteArray := prog_1_method_14_code
def yX0_feed : MethodName := ⟨RX0, "feed", "(IIIII)I"⟩
def dkwX0_feed_2 : List UInt8 := [172]
abbrev dktX0_feed_2 : List UInt8 := dkwX0_feed_2 ++ []
def dkwX0_feed_1 : List UInt8 := [182, 0, 169, 42, 29, 182, 0, 169, 42, 21, 4, 182, 0, 169, 42, 21, 5, 182, 0, 169, 42, 180, 0, 166]
abbrev dktX0_feed_1 : List UInt8 := dkwX0_feed_1 ++ dktX0_feed_2
def dkwX0_feed_0 : List UInt8 := [42, 180, 0, 166, 16, 20, 96, 17, 6, 64, 164, 0, 5, 2, 172, 42, 27, 182, 0, 169, 42, 28]
abbrev dktX0_feed_0 : List UInt8 := dkwX0_feed_0 ++ dktX0_feed_1
theorem dksX0_feed_0 : cX0_feed.data.toList.drop 0 = dktX0_feed_0 := by decide +kernel
theorem dksX0_feed_1 : cX0_feed.data.toList.drop 22 = dktX0_feed_1 := dk_seg dksX0_feed_0 22 rfl rfl
theorem dksX0_feed_2 : cX0_feed.data.toList.drop 46 = dktX0_feed_2 := dk_seg dksX0_feed_1 24 rfl rfl
theorem dX0_feed_0 : decode cX0_feed 0 = .ok (.aload_n 0, 1) := dk_42 (dk_at dksX0_feed_0 0 rfl rfl)
theorem dX0_feed_1 : decode cX0_feed 1 = .ok (.getfield 166, 3) := dk_180 0 166 (dk_at dksX0_feed_0 1 rfl rfl)
theorem dX0_feed_4 : decode cX0_feed 4 = .ok (.bipush 20, 2) := dk_16 20 (dk_at dksX0_feed_0 4 rfl rfl)
theorem dX0_feed_6 : decode cX0_feed 6 = .ok (.iadd, 1) := dk_96 (dk_at dksX0_feed_0 6 rfl rfl)
theorem dX0_feed_7 : decode cX0_feed 7 = .ok (.sipush 1600, 3) := dk_17 6 64 (dk_at dksX0_feed_0 7 rfl rfl)
theorem dX0_feed_10 : decode cX0_feed 10 = .ok (.if_icmp .le 5, 3) := dk_164 0 5 (dk_at dksX0_feed_0 10 rfl rfl)
theorem dX0_feed_13 : decode cX0_feed 13 = .ok (.iconst (-1), 1) := dk_2 (dk_at dksX0_feed_0 13 rfl rfl)
theorem dX0_feed_14 : decode cX0_feed 14 = .ok (.ireturn, 1) := dk_172 (dk_at dksX0_feed_0 14 rfl rfl)
theorem dX0_feed_15 : decode cX0_feed 15 = .ok (.aload_n 0, 1) := dk_42 (dk_at dksX0_feed_0 15 rfl rfl)
theorem dX0_feed_16 : decode cX0_feed 16 = .ok (.iload_n 1, 1) := dk_27 (dk_at dksX0_feed_0 16 rfl rfl)
theorem dX0_feed_17 : decode cX0_feed 17 = .ok (.invokevirtual 169, 3) := dk_182 0 169 (dk_at dksX0_feed_0 17 rfl rfl)
theorem dX0_feed_20 : decode cX0_feed 20 = .ok (.aload_n 0, 1) := dk_42 (dk_at dksX0_feed_0 20 rfl rfl)
theorem dX0_feed_21 : decode cX0_feed 21 = .ok (.iload_n 2, 1) := dk_28 (dk_at dksX0_feed_0 21 rfl rfl)
theorem dX0_feed_22 : decode cX0_feed 22 = .ok (.invokevirtual 169, 3) := dk_182 0 169 (dk_at dksX0_feed_1 0 rfl rfl)
theorem dX0_feed_25 : decode cX0_feed 25 = .ok (.aload_n 0, 1) := dk_42 (dk_at dksX0_feed_1 3 rfl rfl)
theorem dX0_feed_26 : decode cX0_feed 26 = .ok (.iload_n 3, 1) := dk_29 (dk_at dksX0_feed_1 4 rfl rfl)
theorem dX0_feed_27 : decode cX0_feed 27 = .ok (.invokevirtual 169, 3) := dk_182 0 169 (dk_at dksX0_feed_1 5 rfl rfl)
theorem dX0_feed_30 : decode cX0_feed 30 = .ok (.aload_n 0, 1) := dk_42 (dk_at dksX0_feed_1 8 rfl rfl)
theorem dX0_feed_31 : decode cX0_feed 31 = .ok (.iload 4, 2) := dk_21 4 (dk_at dksX0_feed_1 9 rfl rfl)
theorem dX0_feed_33 : decode cX0_feed 33 = .ok (.invokevirtual 169, 3) := dk_182 0 169 (dk_at dksX0_feed_1 11 rfl rfl)
theorem dX0_feed_36 : decode cX0_feed 36 = .ok (.aload_n 0, 1) := dk_42 (dk_at dksX0_feed_1 14 rfl rfl)
theorem dX0_feed_37 : decode cX0_feed 37 = .ok (.iload 5, 2) := dk_21 5 (dk_at dksX0_feed_1 15 rfl rfl)
theorem dX0_feed_39 : decode cX0_feed 39 = .ok (.invokevirtual 169, 3) := dk_182 0 169 (dk_at dksX0_feed_1 17 rfl rfl)
theorem dX0_feed_42 : decode cX0_feed 42 = .ok (.aload_n 0, 1) := dk_42 (dk_at dksX0_feed_1 20 rfl rfl)
theorem dX0_feed_43 : decode cX0_feed 43 = .ok (.getfield 166, 3) := dk_180 0 166 (dk_at dksX0_feed_1 21 rfl rfl)
theorem dX0_feed_46 : decode cX0_feed 46 = .ok (.ireturn, 1) := dk_172 (dk_at dksX0_feed_2 0 rfl rfl)
abbrev cX0_bytes : ByteArray := prog_1_method_15_code
def yX0_bytes : MethodName := ⟨RX0, "bytes", "(I)V"⟩
def dkwX0_bytes_1 : List UInt8 := [180, 0, 166, 4, 96, 181, 0, 166, 132, 2, 248, 167, 255, 226, 177]
abbrev dktX0_bytes_1 : List UInt8 := dkwX0_bytes_1 ++ []
def dkwX0_bytes_0 : List UInt8 := [16, 24, 61, 28, 155, 0, 32, 42, 180, 0, 35, 42, 180, 0, 166, 27, 28, 122, 145, 84, 42, 89]
abbrev dktX0_bytes_0 : List UInt8 := dkwX0_bytes_0 ++ dktX0_bytes_1
theorem dksX0_bytes_0 : cX0_bytes.data.toList.drop 0 = dktX0_bytes_0 := by decide +kernel
theorem dksX0_bytes_1 : cX0_bytes.data.toList.drop 22 = dktX0_bytes_1 := dk_seg dksX0_bytes_0 22 rfl rfl
theorem dX0_bytes_0 : decode cX0_bytes 0 = .ok (.bipush 24, 2) := dk_16 24 (dk_at dksX0_bytes_0 0 rfl rfl)
theorem dX0_bytes_2 : decode cX0_bytes 2 = .ok (.istore_n 2, 1) := dk_61 (dk_at dksX0_bytes_0 2 rfl rfl)
theorem dX0_bytes_3 : decode cX0_bytes 3 = .ok (.iload_n 2, 1) := dk_28 (dk_at dksX0_bytes_0 3 rfl rfl)
theorem dX0_bytes_4 : decode cX0_bytes 4 = .ok (.ifCond .lt 32, 3) := dk_155 0 32 (dk_at dksX0_bytes_0 4 rfl rfl)
theorem dX0_bytes_7 : decode cX0_bytes 7 = .ok (.aload_n 0, 1) := dk_42 (dk_at dksX0_bytes_0 7 rfl rfl)
theorem dX0_bytes_8 : decode cX0_bytes 8 = .ok (.getfield 35, 3) := dk_180 0 35 (dk_at dksX0_bytes_0 8 rfl rfl)
theorem dX0_bytes_11 : decode cX0_bytes 11 = .ok (.aload_n 0, 1) := dk_42 (dk_at dksX0_bytes_0 11 rfl rfl)
theorem dX0_bytes_12 : decode cX0_bytes 12 = .ok (.getfield 166, 3) := dk_180 0 166 (dk_at dksX0_bytes_0 12 rfl rfl)
theorem dX0_bytes_15 : decode cX0_bytes 15 = .ok (.iload_n 1, 1) := dk_27 (dk_at dksX0_bytes_0 15 rfl rfl)
theorem dX0_bytes_16 : decode cX0_bytes 16 = .ok (.iload_n 2, 1) := dk_28 (dk_at dksX0_bytes_0 16 rfl rfl)
theorem dX0_bytes_17 : decode cX0_bytes 17 = .ok (.ishr, 1) := dk_122 (dk_at dksX0_bytes_0 17 rfl rfl)
theorem dX0_bytes_18 : decode cX0_bytes 18 = .ok (.i2b, 1) := dk_145 (dk_at dksX0_bytes_0 18 rfl rfl)
theorem dX0_bytes_19 : decode cX0_bytes 19 = .ok (.bastore, 1) := dk_84 (dk_at dksX0_bytes_0 19 rfl rfl)
theorem dX0_bytes_20 : decode cX0_bytes 20 = .ok (.aload_n 0, 1) := dk_42 (dk_at dksX0_bytes_0 20 rfl rfl)
theorem dX0_bytes_21 : decode cX0_bytes 21 = .ok (.dup, 1) := dk_89 (dk_at dksX0_bytes_0 21 rfl rfl)
theorem dX0_bytes_22 : decode cX0_bytes 22 = .ok (.getfield 166, 3) := dk_180 0 166 (dk_at dksX0_bytes_1 0 rfl rfl)
theorem dX0_bytes_25 : decode cX0_bytes 25 = .ok (.iconst 1, 1) := dk_4 (dk_at dksX0_bytes_1 3 rfl rfl)
theorem dX0_bytes_26 : decode cX0_bytes 26 = .ok (.iadd, 1) := dk_96 (dk_at dksX0_bytes_1 4 rfl rfl)
theorem dX0_bytes_27 : decode cX0_bytes 27 = .ok (.putfield 166, 3) := dk_181 0 166 (dk_at dksX0_bytes_1 5 rfl rfl)
theorem dX0_bytes_30 : decode cX0_bytes 30 = .ok (.iinc 2 (-8), 3) := dk_132 2 248 (dk_at dksX0_bytes_1 8 rfl rfl)
theorem dX0_bytes_33 : decode cX0_bytes 33 = .ok (.goto (-30), 3) := dk_167 255 226 (dk_at dksX0_bytes_1 11 rfl rfl)
theorem dX0_bytes_36 : decode cX0_bytes 36 = .ok (.return_, 1) := dk_177 (dk_at dksX0_bytes_1 14 rfl rfl)
abbrev cX0_end : ByteArray := prog_1_method_16_code
def yX0_end : MethodName := ⟨RX0, "end", "(I)I"⟩
def dkwX0_end_0 : List UInt8 := [27, 155, 0, 11, 27, 42, 180, 0, 166, 164, 0, 5, 2, 172, 42, 27, 181, 0, 166, 27, 172]
abbrev dktX0_end_0 : List UInt8 := dkwX0_end_0 ++ []
theorem dksX0_end_0 : cX0_end.data.toList.drop 0 = dktX0_end_0 := by decide +kernel
theorem dX0_end_0 : decode cX0_end 0 = .ok (.iload_n 1, 1) := dk_27 (dk_at dksX0_end_0 0 rfl rfl)
theorem dX0_end_1 : decode cX0_end 1 = .ok (.ifCond .lt 11, 3) := dk_155 0 11 (dk_at dksX0_end_0 1 rfl rfl)
theorem dX0_end_4 : decode cX0_end 4 = .ok (.iload_n 1, 1) := dk_27 (dk_at dksX0_end_0 4 rfl rfl)
theorem dX0_end_5 : decode cX0_end 5 = .ok (.aload_n 0, 1) := dk_42 (dk_at dksX0_end_0 5 rfl rfl)
theorem dX0_end_6 : decode cX0_end 6 = .ok (.getfield 166, 3) := dk_180 0 166 (dk_at dksX0_end_0 6 rfl rfl)
theorem dX0_end_9 : decode cX0_end 9 = .ok (.if_icmp .le 5, 3) := dk_164 0 5 (dk_at dksX0_end_0 9 rfl rfl)
theorem dX0_end_12 : decode cX0_end 12 = .ok (.iconst (-1), 1) := dk_2 (dk_at dksX0_end_0 12 rfl rfl)
theorem dX0_end_13 : decode cX0_end 13 = .ok (.ireturn, 1) := dk_172 (dk_at dksX0_end_0 13 rfl rfl)
theorem dX0_end_14 : decode cX0_end 14 = .ok (.aload_n 0, 1) := dk_42 (dk_at dksX0_end_0 14 rfl rfl)
theorem dX0_end_15 : decode cX0_end 15 = .ok (.iload_n 1, 1) := dk_27 (dk_at dksX0_end_0 15 rfl rfl)
theorem dX0_end_16 : decode cX0_end 16 = .ok (.putfield 166, 3) := dk_181 0 166 (dk_at dksX0_end_0 16 rfl rfl)
theorem dX0_end_19 : decode cX0_end 19 = .ok (.iload_n 1, 1) := dk_27 (dk_at dksX0_end_0 19 rfl rfl)
theorem dX0_end_20 : decode cX0_end 20 = .ok (.ireturn, 1) := dk_172 (dk_at dksX0_end_0 20 rfl rfl)
abbrev cX0_river : ByteArray := prog_1_method_17_code
def yX0_river : MethodName := ⟨RX0, "rive\x72", "()I"⟩
def dkwX0_river_3 : List UInt8 := [182, 0, 158, 172]
abbrev dktX0_river_3 : List UInt8 := dkwX0_river_3 ++ []
def dkwX0_river_2 : List UInt8 := [44, 180, 0, 185, 181, 0, 173, 42, 44, 180, 0, 188, 181, 0, 46, 2, 172, 42, 182, 0, 117, 42]
abbrev dktX0_river_2 : List UInt8 := dkwX0_river_2 ++ dktX0_river_3
def dkwX0_river_1 : List UInt8 := [89, 42, 180, 0, 35, 27, 42, 180, 0, 42, 183, 0, 178, 182, 0, 181, 181, 0, 19, 167, 0, 22, 77, 42]
abbrev dktX0_river_1 : List UInt8 := dkwX0_river_1 ++ dktX0_river_2
def dkwX0_river_0 : List UInt8 := [42, 180, 0, 166, 60, 42, 3, 181, 0, 166, 42, 3, 181, 0, 173, 42, 2, 181, 0, 46, 42, 187, 0, 176]
abbrev dktX0_river_0 : List UInt8 := dkwX0_river_0 ++ dktX0_river_1
theorem dksX0_river_0 : cX0_river.data.toList.drop 0 = dktX0_river_0 := by decide +kernel
theorem dksX0_river_1 : cX0_river.data.toList.drop 24 = dktX0_river_1 := dk_seg dksX0_river_0 24 rfl rfl
theorem dksX0_river_2 : cX0_river.data.toList.drop 48 = dktX0_river_2 := dk_seg dksX0_river_1 24 rfl rfl
theorem dksX0_river_3 : cX0_river.data.toList.drop 70 = dktX0_river_3 := dk_seg dksX0_river_2 22 rfl rfl
theorem dX0_river_0 : decode cX0_river 0 = .ok (.aload_n 0, 1) := dk_42 (dk_at dksX0_river_0 0 rfl rfl)
theorem dX0_river_1 : decode cX0_river 1 = .ok (.getfield 166, 3) := dk_180 0 166 (dk_at dksX0_river_0 1 rfl rfl)
theorem dX0_river_4 : decode cX0_river 4 = .ok (.istore_n 1, 1) := dk_60 (dk_at dksX0_river_0 4 rfl rfl)
theorem dX0_river_5 : decode cX0_river 5 = .ok (.aload_n 0, 1) := dk_42 (dk_at dksX0_river_0 5 rfl rfl)
theorem dX0_river_6 : decode cX0_river 6 = .ok (.iconst 0, 1) := dk_3 (dk_at dksX0_river_0 6 rfl rfl)
theorem dX0_river_7 : decode cX0_river 7 = .ok (.putfield 166, 3) := dk_181 0 166 (dk_at dksX0_river_0 7 rfl rfl)
theorem dX0_river_10 : decode cX0_river 10 = .ok (.aload_n 0, 1) := dk_42 (dk_at dksX0_river_0 10 rfl rfl)
theorem dX0_river_11 : decode cX0_river 11 = .ok (.iconst 0, 1) := dk_3 (dk_at dksX0_river_0 11 rfl rfl)
theorem dX0_river_12 : decode cX0_river 12 = .ok (.putfield 173, 3) := dk_181 0 173 (dk_at dksX0_river_0 12 rfl rfl)
theorem dX0_river_15 : decode cX0_river 15 = .ok (.aload_n 0, 1) := dk_42 (dk_at dksX0_river_0 15 rfl rfl)
theorem dX0_river_16 : decode cX0_river 16 = .ok (.iconst (-1), 1) := dk_2 (dk_at dksX0_river_0 16 rfl rfl)
theorem dX0_river_17 : decode cX0_river 17 = .ok (.putfield 46, 3) := dk_181 0 46 (dk_at dksX0_river_0 17 rfl rfl)
theorem dX0_river_20 : decode cX0_river 20 = .ok (.aload_n 0, 1) := dk_42 (dk_at dksX0_river_0 20 rfl rfl)
theorem dX0_river_21 : decode cX0_river 21 = .ok (.new 176, 3) := dk_187 0 176 (dk_at dksX0_river_0 21 rfl rfl)
theorem dX0_river_24 : decode cX0_river 24 = .ok (.dup, 1) := dk_89 (dk_at dksX0_river_1 0 rfl rfl)
theorem dX0_river_25 : decode cX0_river 25 = .ok (.aload_n 0, 1) := dk_42 (dk_at dksX0_river_1 1 rfl rfl)
theorem dX0_river_26 : decode cX0_river 26 = .ok (.getfield 35, 3) := dk_180 0 35 (dk_at dksX0_river_1 2 rfl rfl)
theorem dX0_river_29 : decode cX0_river 29 = .ok (.iload_n 1, 1) := dk_27 (dk_at dksX0_river_1 5 rfl rfl)
theorem dX0_river_30 : decode cX0_river 30 = .ok (.aload_n 0, 1) := dk_42 (dk_at dksX0_river_1 6 rfl rfl)
theorem dX0_river_31 : decode cX0_river 31 = .ok (.getfield 42, 3) := dk_180 0 42 (dk_at dksX0_river_1 7 rfl rfl)
theorem dX0_river_34 : decode cX0_river 34 = .ok (.invokespecial 178, 3) := dk_183 0 178 (dk_at dksX0_river_1 10 rfl rfl)
theorem dX0_river_37 : decode cX0_river 37 = .ok (.invokevirtual 181, 3) := dk_182 0 181 (dk_at dksX0_river_1 13 rfl rfl)
theorem dX0_river_40 : decode cX0_river 40 = .ok (.putfield 19, 3) := dk_181 0 19 (dk_at dksX0_river_1 16 rfl rfl)
theorem dX0_river_43 : decode cX0_river 43 = .ok (.goto 22, 3) := dk_167 0 22 (dk_at dksX0_river_1 19 rfl rfl)
theorem dX0_river_46 : decode cX0_river 46 = .ok (.astore_n 2, 1) := dk_77 (dk_at dksX0_river_1 22 rfl rfl)
theorem dX0_river_47 : decode cX0_river 47 = .ok (.aload_n 0, 1) := dk_42 (dk_at dksX0_river_1 23 rfl rfl)
theorem dX0_river_48 : decode cX0_river 48 = .ok (.aload_n 2, 1) := dk_44 (dk_at dksX0_river_2 0 rfl rfl)
theorem dX0_river_49 : decode cX0_river 49 = .ok (.getfield 185, 3) := dk_180 0 185 (dk_at dksX0_river_2 1 rfl rfl)
theorem dX0_river_52 : decode cX0_river 52 = .ok (.putfield 173, 3) := dk_181 0 173 (dk_at dksX0_river_2 4 rfl rfl)
theorem dX0_river_55 : decode cX0_river 55 = .ok (.aload_n 0, 1) := dk_42 (dk_at dksX0_river_2 7 rfl rfl)
theorem dX0_river_56 : decode cX0_river 56 = .ok (.aload_n 2, 1) := dk_44 (dk_at dksX0_river_2 8 rfl rfl)
theorem dX0_river_57 : decode cX0_river 57 = .ok (.getfield 188, 3) := dk_180 0 188 (dk_at dksX0_river_2 9 rfl rfl)
theorem dX0_river_60 : decode cX0_river 60 = .ok (.putfield 46, 3) := dk_181 0 46 (dk_at dksX0_river_2 12 rfl rfl)
theorem dX0_river_63 : decode cX0_river 63 = .ok (.iconst (-1), 1) := dk_2 (dk_at dksX0_river_2 15 rfl rfl)
theorem dX0_river_64 : decode cX0_river 64 = .ok (.ireturn, 1) := dk_172 (dk_at dksX0_river_2 16 rfl rfl)
theorem dX0_river_65 : decode cX0_river 65 = .ok (.aload_n 0, 1) := dk_42 (dk_at dksX0_river_2 17 rfl rfl)
theorem dX0_river_66 : decode cX0_river 66 = .ok (.invokevirtual 117, 3) := dk_182 0 117 (dk_at dksX0_river_2 18 rfl rfl)
theorem dX0_river_69 : decode cX0_river 69 = .ok (.aload_n 0, 1) := dk_42 (dk_at dksX0_river_2 21 rfl rfl)
theorem dX0_river_70 : decode cX0_river 70 = .ok (.invokevirtual 158, 3) := dk_182 0 158 (dk_at dksX0_river_3 0 rfl rfl)
theorem dX0_river_73 : decode cX0_river 73 = .ok (.ireturn, 1) := dk_172 (dk_at dksX0_river_3 3 rfl rfl)
abbrev cX0_boards : ByteArray := prog_1_method_10_code
def yX0_boards : MethodName := ⟨RX0, "boards", "()I"⟩
def dkwX0_boards_0 : List UInt8 := [42, 180, 0, 19, 180, 0, 152, 182, 0, 136, 172]
abbrev dktX0_boards_0 : List UInt8 := dkwX0_boards_0 ++ []
theorem dksX0_boards_0 : cX0_boards.data.toList.drop 0 = dktX0_boards_0 := by decide +kernel
theorem dX0_boards_0 : decode cX0_boards 0 = .ok (.aload_n 0, 1) := dk_42 (dk_at dksX0_boards_0 0 rfl rfl)
theorem dX0_boards_1 : decode cX0_boards 1 = .ok (.getfield 19, 3) := dk_180 0 19 (dk_at dksX0_boards_0 1 rfl rfl)
theorem dX0_boards_4 : decode cX0_boards 4 = .ok (.getfield 152, 3) := dk_180 0 152 (dk_at dksX0_boards_0 4 rfl rfl)
theorem dX0_boards_7 : decode cX0_boards 7 = .ok (.invokevirtual 136, 3) := dk_182 0 136 (dk_at dksX0_boards_0 7 rfl rfl)
theorem dX0_boards_10 : decode cX0_boards 10 = .ok (.ireturn, 1) := dk_172 (dk_at dksX0_boards_0 10 rfl rfl)
abbrev cX0_fault : ByteArray := prog_1_method_18_code
def yX0_fault : MethodName := ⟨RX0, "fault", "(I)I"⟩
def dkwX0_fault_1 : List UInt8 := [172]
abbrev dktX0_fault_1 : List UInt8 := dkwX0_fault_1 ++ []
def dkwX0_fault_0 : List UInt8 := [27, 154, 0, 10, 42, 180, 0, 173, 167, 0, 16, 27, 4, 160, 0, 10, 42, 180, 0, 46, 167, 0, 4, 2]
abbrev dktX0_fault_0 : List UInt8 := dkwX0_fault_0 ++ dktX0_fault_1
theorem dksX0_fault_0 : cX0_fault.data.toList.drop 0 = dktX0_fault_0 := by decide +kernel
theorem dksX0_fault_1 : cX0_fault.data.toList.drop 24 = dktX0_fault_1 := dk_seg dksX0_fault_0 24 rfl rfl
theorem dX0_fault_0 : decode cX0_fault 0 = .ok (.iload_n 1, 1) := dk_27 (dk_at dksX0_fault_0 0 rfl rfl)
theorem dX0_fault_1 : decode cX0_fault 1 = .ok (.ifCond .ne 10, 3) := dk_154 0 10 (dk_at dksX0_fault_0 1 rfl rfl)
theorem dX0_fault_4 : decode cX0_fault 4 = .ok (.aload_n 0, 1) := dk_42 (dk_at dksX0_fault_0 4 rfl rfl)
theorem dX0_fault_5 : decode cX0_fault 5 = .ok (.getfield 173, 3) := dk_180 0 173 (dk_at dksX0_fault_0 5 rfl rfl)
theorem dX0_fault_8 : decode cX0_fault 8 = .ok (.goto 16, 3) := dk_167 0 16 (dk_at dksX0_fault_0 8 rfl rfl)
theorem dX0_fault_11 : decode cX0_fault 11 = .ok (.iload_n 1, 1) := dk_27 (dk_at dksX0_fault_0 11 rfl rfl)
theorem dX0_fault_12 : decode cX0_fault 12 = .ok (.iconst 1, 1) := dk_4 (dk_at dksX0_fault_0 12 rfl rfl)
theorem dX0_fault_13 : decode cX0_fault 13 = .ok (.if_icmp .ne 10, 3) := dk_160 0 10 (dk_at dksX0_fault_0 13 rfl rfl)
theorem dX0_fault_16 : decode cX0_fault 16 = .ok (.aload_n 0, 1) := dk_42 (dk_at dksX0_fault_0 16 rfl rfl)
theorem dX0_fault_17 : decode cX0_fault 17 = .ok (.getfield 46, 3) := dk_180 0 46 (dk_at dksX0_fault_0 17 rfl rfl)
theorem dX0_fault_20 : decode cX0_fault 20 = .ok (.goto 4, 3) := dk_167 0 4 (dk_at dksX0_fault_0 20 rfl rfl)
theorem dX0_fault_23 : decode cX0_fault 23 = .ok (.iconst (-1), 1) := dk_2 (dk_at dksX0_fault_0 23 rfl rfl)
theorem dX0_fault_24 : decode cX0_fault 24 = .ok (.ireturn, 1) := dk_172 (dk_at dksX0_fault_1 0 rfl rfl)
abbrev cX0_board : ByteArray := prog_1_method_19_code
def yX0_board : MethodName := ⟨RX0, "board", "(II)I"⟩
def dkwX0_board_6 : List UInt8 := [172, 42, 180, 0, 28, 42, 180, 0, 19, 27, 182, 0, 225, 172, 2, 172]
abbrev dktX0_board_6 : List UInt8 := dkwX0_board_6 ++ []
def dkwX0_board_5 : List UInt8 := [46, 172, 45, 180, 0, 215, 172, 45, 180, 0, 218, 172, 42, 180, 0, 28, 42, 180, 0, 19, 27, 182, 0, 221]
abbrev dktX0_board_5 : List UInt8 := dkwX0_board_5 ++ dktX0_board_6
def dkwX0_board_4 : List UInt8 := [180, 0, 206, 27, 46, 172, 42, 180, 0, 28, 180, 0, 209, 27, 46, 172, 42, 180, 0, 28, 180, 0, 212, 27]
abbrev dktX0_board_4 : List UInt8 := dkwX0_board_4 ++ dktX0_board_5
def dkwX0_board_3 : List UInt8 := [42, 180, 0, 28, 180, 0, 200, 27, 46, 172, 42, 180, 0, 28, 180, 0, 203, 27, 46, 172, 42, 180, 0, 28]
abbrev dktX0_board_3 : List UInt8 := dkwX0_board_3 ++ dktX0_board_4
def dkwX0_board_2 : List UInt8 := [170, 0, 0, 0, 0, 136, 0, 0, 0, 0, 0, 0, 0, 8, 0, 0, 0, 50, 0, 0, 0, 60, 0, 0, 0, 70, 0, 0, 0, 80, 0, 0, 0, 90, 0, 0, 0, 100, 0, 0, 0, 105, 0, 0, 0, 110, 0, 0, 0, 123]
abbrev dktX0_board_2 : List UInt8 := dkwX0_board_2 ++ dktX0_board_3
def dkwX0_board_1 : List UInt8 := [78, 28]
abbrev dktX0_board_1 : List UInt8 := dkwX0_board_1 ++ dktX0_board_2
def dkwX0_board_0 : List UInt8 := [42, 27, 182, 0, 191, 154, 0, 5, 2, 172, 42, 180, 0, 19, 180, 0, 152, 27, 182, 0, 195, 192, 0, 198]
abbrev dktX0_board_0 : List UInt8 := dkwX0_board_0 ++ dktX0_board_1
theorem dksX0_board_0 : cX0_board.data.toList.drop 0 = dktX0_board_0 := by decide +kernel
theorem dksX0_board_1 : cX0_board.data.toList.drop 24 = dktX0_board_1 := dk_seg dksX0_board_0 24 rfl rfl
theorem dksX0_board_2 : cX0_board.data.toList.drop 26 = dktX0_board_2 := dk_seg dksX0_board_1 2 rfl rfl
theorem dksX0_board_3 : cX0_board.data.toList.drop 76 = dktX0_board_3 := dk_seg dksX0_board_2 50 rfl rfl
theorem dksX0_board_4 : cX0_board.data.toList.drop 100 = dktX0_board_4 := dk_seg dksX0_board_3 24 rfl rfl
theorem dksX0_board_5 : cX0_board.data.toList.drop 124 = dktX0_board_5 := dk_seg dksX0_board_4 24 rfl rfl
theorem dksX0_board_6 : cX0_board.data.toList.drop 148 = dktX0_board_6 := dk_seg dksX0_board_5 24 rfl rfl
theorem dX0_board_0 : decode cX0_board 0 = .ok (.aload_n 0, 1) := dk_42 (dk_at dksX0_board_0 0 rfl rfl)
theorem dX0_board_1 : decode cX0_board 1 = .ok (.iload_n 1, 1) := dk_27 (dk_at dksX0_board_0 1 rfl rfl)
theorem dX0_board_2 : decode cX0_board 2 = .ok (.invokevirtual 191, 3) := dk_182 0 191 (dk_at dksX0_board_0 2 rfl rfl)
theorem dX0_board_5 : decode cX0_board 5 = .ok (.ifCond .ne 5, 3) := dk_154 0 5 (dk_at dksX0_board_0 5 rfl rfl)
theorem dX0_board_8 : decode cX0_board 8 = .ok (.iconst (-1), 1) := dk_2 (dk_at dksX0_board_0 8 rfl rfl)
theorem dX0_board_9 : decode cX0_board 9 = .ok (.ireturn, 1) := dk_172 (dk_at dksX0_board_0 9 rfl rfl)
theorem dX0_board_10 : decode cX0_board 10 = .ok (.aload_n 0, 1) := dk_42 (dk_at dksX0_board_0 10 rfl rfl)
theorem dX0_board_11 : decode cX0_board 11 = .ok (.getfield 19, 3) := dk_180 0 19 (dk_at dksX0_board_0 11 rfl rfl)
theorem dX0_board_14 : decode cX0_board 14 = .ok (.getfield 152, 3) := dk_180 0 152 (dk_at dksX0_board_0 14 rfl rfl)
theorem dX0_board_17 : decode cX0_board 17 = .ok (.iload_n 1, 1) := dk_27 (dk_at dksX0_board_0 17 rfl rfl)
theorem dX0_board_18 : decode cX0_board 18 = .ok (.invokevirtual 195, 3) := dk_182 0 195 (dk_at dksX0_board_0 18 rfl rfl)
theorem dX0_board_21 : decode cX0_board 21 = .ok (.checkcast 198, 3) := dk_192 0 198 (dk_at dksX0_board_0 21 rfl rfl)
theorem dX0_board_24 : decode cX0_board 24 = .ok (.astore_n 3, 1) := dk_78 (dk_at dksX0_board_1 0 rfl rfl)
theorem dX0_board_25 : decode cX0_board 25 = .ok (.iload_n 2, 1) := dk_28 (dk_at dksX0_board_1 1 rfl rfl)
theorem dX0_board_26 : decode cX0_board 26 = .ok (.tableswitch 136 0 8 #[50, 60, 70, 80, 90, 100, 105, 110, 123], 50) := by decide +kernel
theorem dX0_board_76 : decode cX0_board 76 = .ok (.aload_n 0, 1) := dk_42 (dk_at dksX0_board_3 0 rfl rfl)
theorem dX0_board_77 : decode cX0_board 77 = .ok (.getfield 28, 3) := dk_180 0 28 (dk_at dksX0_board_3 1 rfl rfl)
theorem dX0_board_80 : decode cX0_board 80 = .ok (.getfield 200, 3) := dk_180 0 200 (dk_at dksX0_board_3 4 rfl rfl)
theorem dX0_board_83 : decode cX0_board 83 = .ok (.iload_n 1, 1) := dk_27 (dk_at dksX0_board_3 7 rfl rfl)
theorem dX0_board_84 : decode cX0_board 84 = .ok (.iaload, 1) := dk_46 (dk_at dksX0_board_3 8 rfl rfl)
theorem dX0_board_85 : decode cX0_board 85 = .ok (.ireturn, 1) := dk_172 (dk_at dksX0_board_3 9 rfl rfl)
theorem dX0_board_86 : decode cX0_board 86 = .ok (.aload_n 0, 1) := dk_42 (dk_at dksX0_board_3 10 rfl rfl)
theorem dX0_board_87 : decode cX0_board 87 = .ok (.getfield 28, 3) := dk_180 0 28 (dk_at dksX0_board_3 11 rfl rfl)
theorem dX0_board_90 : decode cX0_board 90 = .ok (.getfield 203, 3) := dk_180 0 203 (dk_at dksX0_board_3 14 rfl rfl)
theorem dX0_board_93 : decode cX0_board 93 = .ok (.iload_n 1, 1) := dk_27 (dk_at dksX0_board_3 17 rfl rfl)
theorem dX0_board_94 : decode cX0_board 94 = .ok (.iaload, 1) := dk_46 (dk_at dksX0_board_3 18 rfl rfl)
theorem dX0_board_95 : decode cX0_board 95 = .ok (.ireturn, 1) := dk_172 (dk_at dksX0_board_3 19 rfl rfl)
theorem dX0_board_96 : decode cX0_board 96 = .ok (.aload_n 0, 1) := dk_42 (dk_at dksX0_board_3 20 rfl rfl)
theorem dX0_board_97 : decode cX0_board 97 = .ok (.getfield 28, 3) := dk_180 0 28 (dk_at dksX0_board_3 21 rfl rfl)
theorem dX0_board_100 : decode cX0_board 100 = .ok (.getfield 206, 3) := dk_180 0 206 (dk_at dksX0_board_4 0 rfl rfl)
theorem dX0_board_103 : decode cX0_board 103 = .ok (.iload_n 1, 1) := dk_27 (dk_at dksX0_board_4 3 rfl rfl)
theorem dX0_board_104 : decode cX0_board 104 = .ok (.iaload, 1) := dk_46 (dk_at dksX0_board_4 4 rfl rfl)
theorem dX0_board_105 : decode cX0_board 105 = .ok (.ireturn, 1) := dk_172 (dk_at dksX0_board_4 5 rfl rfl)
theorem dX0_board_106 : decode cX0_board 106 = .ok (.aload_n 0, 1) := dk_42 (dk_at dksX0_board_4 6 rfl rfl)
theorem dX0_board_107 : decode cX0_board 107 = .ok (.getfield 28, 3) := dk_180 0 28 (dk_at dksX0_board_4 7 rfl rfl)
theorem dX0_board_110 : decode cX0_board 110 = .ok (.getfield 209, 3) := dk_180 0 209 (dk_at dksX0_board_4 10 rfl rfl)
theorem dX0_board_113 : decode cX0_board 113 = .ok (.iload_n 1, 1) := dk_27 (dk_at dksX0_board_4 13 rfl rfl)
theorem dX0_board_114 : decode cX0_board 114 = .ok (.iaload, 1) := dk_46 (dk_at dksX0_board_4 14 rfl rfl)
theorem dX0_board_115 : decode cX0_board 115 = .ok (.ireturn, 1) := dk_172 (dk_at dksX0_board_4 15 rfl rfl)
theorem dX0_board_116 : decode cX0_board 116 = .ok (.aload_n 0, 1) := dk_42 (dk_at dksX0_board_4 16 rfl rfl)
theorem dX0_board_117 : decode cX0_board 117 = .ok (.getfield 28, 3) := dk_180 0 28 (dk_at dksX0_board_4 17 rfl rfl)
theorem dX0_board_120 : decode cX0_board 120 = .ok (.getfield 212, 3) := dk_180 0 212 (dk_at dksX0_board_4 20 rfl rfl)
theorem dX0_board_123 : decode cX0_board 123 = .ok (.iload_n 1, 1) := dk_27 (dk_at dksX0_board_4 23 rfl rfl)
theorem dX0_board_124 : decode cX0_board 124 = .ok (.iaload, 1) := dk_46 (dk_at dksX0_board_5 0 rfl rfl)
theorem dX0_board_125 : decode cX0_board 125 = .ok (.ireturn, 1) := dk_172 (dk_at dksX0_board_5 1 rfl rfl)
theorem dX0_board_126 : decode cX0_board 126 = .ok (.aload_n 3, 1) := dk_45 (dk_at dksX0_board_5 2 rfl rfl)
theorem dX0_board_127 : decode cX0_board 127 = .ok (.getfield 215, 3) := dk_180 0 215 (dk_at dksX0_board_5 3 rfl rfl)
theorem dX0_board_130 : decode cX0_board 130 = .ok (.ireturn, 1) := dk_172 (dk_at dksX0_board_5 6 rfl rfl)
theorem dX0_board_131 : decode cX0_board 131 = .ok (.aload_n 3, 1) := dk_45 (dk_at dksX0_board_5 7 rfl rfl)
theorem dX0_board_132 : decode cX0_board 132 = .ok (.getfield 218, 3) := dk_180 0 218 (dk_at dksX0_board_5 8 rfl rfl)
theorem dX0_board_135 : decode cX0_board 135 = .ok (.ireturn, 1) := dk_172 (dk_at dksX0_board_5 11 rfl rfl)
theorem dX0_board_136 : decode cX0_board 136 = .ok (.aload_n 0, 1) := dk_42 (dk_at dksX0_board_5 12 rfl rfl)
theorem dX0_board_137 : decode cX0_board 137 = .ok (.getfield 28, 3) := dk_180 0 28 (dk_at dksX0_board_5 13 rfl rfl)
theorem dX0_board_140 : decode cX0_board 140 = .ok (.aload_n 0, 1) := dk_42 (dk_at dksX0_board_5 16 rfl rfl)
theorem dX0_board_141 : decode cX0_board 141 = .ok (.getfield 19, 3) := dk_180 0 19 (dk_at dksX0_board_5 17 rfl rfl)
theorem dX0_board_144 : decode cX0_board 144 = .ok (.iload_n 1, 1) := dk_27 (dk_at dksX0_board_5 20 rfl rfl)
theorem dX0_board_145 : decode cX0_board 145 = .ok (.invokevirtual 221, 3) := dk_182 0 221 (dk_at dksX0_board_5 21 rfl rfl)
theorem dX0_board_148 : decode cX0_board 148 = .ok (.ireturn, 1) := dk_172 (dk_at dksX0_board_6 0 rfl rfl)
theorem dX0_board_149 : decode cX0_board 149 = .ok (.aload_n 0, 1) := dk_42 (dk_at dksX0_board_6 1 rfl rfl)
theorem dX0_board_150 : decode cX0_board 150 = .ok (.getfield 28, 3) := dk_180 0 28 (dk_at dksX0_board_6 2 rfl rfl)
theorem dX0_board_153 : decode cX0_board 153 = .ok (.aload_n 0, 1) := dk_42 (dk_at dksX0_board_6 5 rfl rfl)
theorem dX0_board_154 : decode cX0_board 154 = .ok (.getfield 19, 3) := dk_180 0 19 (dk_at dksX0_board_6 6 rfl rfl)
theorem dX0_board_157 : decode cX0_board 157 = .ok (.iload_n 1, 1) := dk_27 (dk_at dksX0_board_6 9 rfl rfl)
theorem dX0_board_158 : decode cX0_board 158 = .ok (.invokevirtual 225, 3) := dk_182 0 225 (dk_at dksX0_board_6 10 rfl rfl)
theorem dX0_board_161 : decode cX0_board 161 = .ok (.ireturn, 1) := dk_172 (dk_at dksX0_board_6 13 rfl rfl)
theorem dX0_board_162 : decode cX0_board 162 = .ok (.iconst (-1), 1) := dk_2 (dk_at dksX0_board_6 14 rfl rfl)
theorem dX0_board_163 : decode cX0_board 163 = .ok (.ireturn, 1) := dk_172 (dk_at dksX0_board_6 15 rfl rfl)
abbrev cX0_isBoard : ByteArray := prog_1_method_12_code
def yX0_isBoard : MethodName := ⟨RX0, "isBoard", "(I)Z"⟩
def dkwX0_isBoard_0 : List UInt8 := [27, 3, 42, 182, 0, 158, 4, 100, 184, 0, 160, 172]
abbrev dktX0_isBoard_0 : List UInt8 := dkwX0_isBoard_0 ++ []
theorem dksX0_isBoard_0 : cX0_isBoard.data.toList.drop 0 = dktX0_isBoard_0 := by decide +kernel
theorem dX0_isBoard_0 : decode cX0_isBoard 0 = .ok (.iload_n 1, 1) := dk_27 (dk_at dksX0_isBoard_0 0 rfl rfl)
theorem dX0_isBoard_1 : decode cX0_isBoard 1 = .ok (.iconst 0, 1) := dk_3 (dk_at dksX0_isBoard_0 1 rfl rfl)
theorem dX0_isBoard_2 : decode cX0_isBoard 2 = .ok (.aload_n 0, 1) := dk_42 (dk_at dksX0_isBoard_0 2 rfl rfl)
theorem dX0_isBoard_3 : decode cX0_isBoard 3 = .ok (.invokevirtual 158, 3) := dk_182 0 158 (dk_at dksX0_isBoard_0 3 rfl rfl)
theorem dX0_isBoard_6 : decode cX0_isBoard 6 = .ok (.iconst 1, 1) := dk_4 (dk_at dksX0_isBoard_0 6 rfl rfl)
theorem dX0_isBoard_7 : decode cX0_isBoard 7 = .ok (.isub, 1) := dk_100 (dk_at dksX0_isBoard_0 7 rfl rfl)
theorem dX0_isBoard_8 : decode cX0_isBoard 8 = .ok (.invokestatic 160, 3) := dk_184 0 160 (dk_at dksX0_isBoard_0 8 rfl rfl)
theorem dX0_isBoard_11 : decode cX0_isBoard 11 = .ok (.ireturn, 1) := dk_172 (dk_at dksX0_isBoard_0 11 rfl rfl)
abbrev cX0_isIn : ByteArray := prog_1_method_1_code
def yX0_isIn : MethodName := ⟨RX0, "isIn", "(III)Z"⟩
def dkwX0_isIn_0 : List UInt8 := [26, 27, 161, 0, 12, 26, 28, 163, 0, 7, 4, 167, 0, 4, 3, 172]
abbrev dktX0_isIn_0 : List UInt8 := dkwX0_isIn_0 ++ []
theorem dksX0_isIn_0 : cX0_isIn.data.toList.drop 0 = dktX0_isIn_0 := by decide +kernel
theorem dX0_isIn_0 : decode cX0_isIn 0 = .ok (.iload_n 0, 1) := dk_26 (dk_at dksX0_isIn_0 0 rfl rfl)
theorem dX0_isIn_1 : decode cX0_isIn 1 = .ok (.iload_n 1, 1) := dk_27 (dk_at dksX0_isIn_0 1 rfl rfl)
theorem dX0_isIn_2 : decode cX0_isIn 2 = .ok (.if_icmp .lt 12, 3) := dk_161 0 12 (dk_at dksX0_isIn_0 2 rfl rfl)
theorem dX0_isIn_5 : decode cX0_isIn 5 = .ok (.iload_n 0, 1) := dk_26 (dk_at dksX0_isIn_0 5 rfl rfl)
theorem dX0_isIn_6 : decode cX0_isIn 6 = .ok (.iload_n 2, 1) := dk_28 (dk_at dksX0_isIn_0 6 rfl rfl)
theorem dX0_isIn_7 : decode cX0_isIn 7 = .ok (.if_icmp .gt 7, 3) := dk_163 0 7 (dk_at dksX0_isIn_0 7 rfl rfl)
theorem dX0_isIn_10 : decode cX0_isIn 10 = .ok (.iconst 1, 1) := dk_4 (dk_at dksX0_isIn_0 10 rfl rfl)
theorem dX0_isIn_11 : decode cX0_isIn 11 = .ok (.goto 4, 3) := dk_167 0 4 (dk_at dksX0_isIn_0 11 rfl rfl)
theorem dX0_isIn_14 : decode cX0_isIn 14 = .ok (.iconst 0, 1) := dk_3 (dk_at dksX0_isIn_0 14 rfl rfl)
theorem dX0_isIn_15 : decode cX0_isIn 15 = .ok (.ireturn, 1) := dk_172 (dk_at dksX0_isIn_0 15 rfl rfl)
abbrev cX0_load : ByteArray := prog_1_method_20_code
def yX0_load : MethodName := ⟨RX0, "load", "(II)I"⟩
def dkwX0_load_2 : List UInt8 := [180, 0, 234, 27, 46, 167, 0, 5, 16, 253, 172]
abbrev dktX0_load_2 : List UInt8 := dkwX0_load_2 ++ []
def dkwX0_load_1 : List UInt8 := [27, 182, 0, 195, 192, 0, 231, 180, 0, 233, 167, 0, 22, 28, 4, 160, 0, 15, 42, 180, 0, 28]
abbrev dktX0_load_1 : List UInt8 := dkwX0_load_1 ++ dktX0_load_2
def dkwX0_load_0 : List UInt8 := [42, 27, 182, 0, 228, 154, 0, 8, 16, 253, 167, 0, 46, 28, 154, 0, 23, 42, 180, 0, 19, 180, 0, 155]
abbrev dktX0_load_0 : List UInt8 := dkwX0_load_0 ++ dktX0_load_1
theorem dksX0_load_0 : cX0_load.data.toList.drop 0 = dktX0_load_0 := by decide +kernel
theorem dksX0_load_1 : cX0_load.data.toList.drop 24 = dktX0_load_1 := dk_seg dksX0_load_0 24 rfl rfl
theorem dksX0_load_2 : cX0_load.data.toList.drop 46 = dktX0_load_2 := dk_seg dksX0_load_1 22 rfl rfl
theorem dX0_load_0 : decode cX0_load 0 = .ok (.aload_n 0, 1) := dk_42 (dk_at dksX0_load_0 0 rfl rfl)
theorem dX0_load_1 : decode cX0_load 1 = .ok (.iload_n 1, 1) := dk_27 (dk_at dksX0_load_0 1 rfl rfl)
theorem dX0_load_2 : decode cX0_load 2 = .ok (.invokevirtual 228, 3) := dk_182 0 228 (dk_at dksX0_load_0 2 rfl rfl)
theorem dX0_load_5 : decode cX0_load 5 = .ok (.ifCond .ne 8, 3) := dk_154 0 8 (dk_at dksX0_load_0 5 rfl rfl)
theorem dX0_load_8 : decode cX0_load 8 = .ok (.bipush (-3), 2) := dk_16 253 (dk_at dksX0_load_0 8 rfl rfl)
theorem dX0_load_10 : decode cX0_load 10 = .ok (.goto 46, 3) := dk_167 0 46 (dk_at dksX0_load_0 10 rfl rfl)
theorem dX0_load_13 : decode cX0_load 13 = .ok (.iload_n 2, 1) := dk_28 (dk_at dksX0_load_0 13 rfl rfl)
theorem dX0_load_14 : decode cX0_load 14 = .ok (.ifCond .ne 23, 3) := dk_154 0 23 (dk_at dksX0_load_0 14 rfl rfl)
theorem dX0_load_17 : decode cX0_load 17 = .ok (.aload_n 0, 1) := dk_42 (dk_at dksX0_load_0 17 rfl rfl)
theorem dX0_load_18 : decode cX0_load 18 = .ok (.getfield 19, 3) := dk_180 0 19 (dk_at dksX0_load_0 18 rfl rfl)
theorem dX0_load_21 : decode cX0_load 21 = .ok (.getfield 155, 3) := dk_180 0 155 (dk_at dksX0_load_0 21 rfl rfl)
theorem dX0_load_24 : decode cX0_load 24 = .ok (.iload_n 1, 1) := dk_27 (dk_at dksX0_load_1 0 rfl rfl)
theorem dX0_load_25 : decode cX0_load 25 = .ok (.invokevirtual 195, 3) := dk_182 0 195 (dk_at dksX0_load_1 1 rfl rfl)
theorem dX0_load_28 : decode cX0_load 28 = .ok (.checkcast 231, 3) := dk_192 0 231 (dk_at dksX0_load_1 4 rfl rfl)
theorem dX0_load_31 : decode cX0_load 31 = .ok (.getfield 233, 3) := dk_180 0 233 (dk_at dksX0_load_1 7 rfl rfl)
theorem dX0_load_34 : decode cX0_load 34 = .ok (.goto 22, 3) := dk_167 0 22 (dk_at dksX0_load_1 10 rfl rfl)
theorem dX0_load_37 : decode cX0_load 37 = .ok (.iload_n 2, 1) := dk_28 (dk_at dksX0_load_1 13 rfl rfl)
theorem dX0_load_38 : decode cX0_load 38 = .ok (.iconst 1, 1) := dk_4 (dk_at dksX0_load_1 14 rfl rfl)
theorem dX0_load_39 : decode cX0_load 39 = .ok (.if_icmp .ne 15, 3) := dk_160 0 15 (dk_at dksX0_load_1 15 rfl rfl)
theorem dX0_load_42 : decode cX0_load 42 = .ok (.aload_n 0, 1) := dk_42 (dk_at dksX0_load_1 18 rfl rfl)
theorem dX0_load_43 : decode cX0_load 43 = .ok (.getfield 28, 3) := dk_180 0 28 (dk_at dksX0_load_1 19 rfl rfl)
theorem dX0_load_46 : decode cX0_load 46 = .ok (.getfield 234, 3) := dk_180 0 234 (dk_at dksX0_load_2 0 rfl rfl)
theorem dX0_load_49 : decode cX0_load 49 = .ok (.iload_n 1, 1) := dk_27 (dk_at dksX0_load_2 3 rfl rfl)
theorem dX0_load_50 : decode cX0_load 50 = .ok (.iaload, 1) := dk_46 (dk_at dksX0_load_2 4 rfl rfl)
theorem dX0_load_51 : decode cX0_load 51 = .ok (.goto 5, 3) := dk_167 0 5 (dk_at dksX0_load_2 5 rfl rfl)
theorem dX0_load_54 : decode cX0_load 54 = .ok (.bipush (-3), 2) := dk_16 253 (dk_at dksX0_load_2 8 rfl rfl)
theorem dX0_load_56 : decode cX0_load 56 = .ok (.ireturn, 1) := dk_172 (dk_at dksX0_load_2 10 rfl rfl)
abbrev cX0_isLoad : ByteArray := prog_1_method_13_code
def yX0_isLoad : MethodName := ⟨RX0, "isLoad", "(I)Z"⟩
def dkwX0_isLoad_0 : List UInt8 := [27, 3, 42, 182, 0, 164, 4, 100, 184, 0, 160, 172]
abbrev dktX0_isLoad_0 : List UInt8 := dkwX0_isLoad_0 ++ []
theorem dksX0_isLoad_0 : cX0_isLoad.data.toList.drop 0 = dktX0_isLoad_0 := by decide +kernel
theorem dX0_isLoad_0 : decode cX0_isLoad 0 = .ok (.iload_n 1, 1) := dk_27 (dk_at dksX0_isLoad_0 0 rfl rfl)
theorem dX0_isLoad_1 : decode cX0_isLoad 1 = .ok (.iconst 0, 1) := dk_3 (dk_at dksX0_isLoad_0 1 rfl rfl)
theorem dX0_isLoad_2 : decode cX0_isLoad 2 = .ok (.aload_n 0, 1) := dk_42 (dk_at dksX0_isLoad_0 2 rfl rfl)
theorem dX0_isLoad_3 : decode cX0_isLoad 3 = .ok (.invokevirtual 164, 3) := dk_182 0 164 (dk_at dksX0_isLoad_0 3 rfl rfl)
theorem dX0_isLoad_6 : decode cX0_isLoad 6 = .ok (.iconst 1, 1) := dk_4 (dk_at dksX0_isLoad_0 6 rfl rfl)
theorem dX0_isLoad_7 : decode cX0_isLoad 7 = .ok (.isub, 1) := dk_100 (dk_at dksX0_isLoad_0 7 rfl rfl)
theorem dX0_isLoad_8 : decode cX0_isLoad 8 = .ok (.invokestatic 160, 3) := dk_184 0 160 (dk_at dksX0_isLoad_0 8 rfl rfl)
theorem dX0_isLoad_11 : decode cX0_isLoad 11 = .ok (.ireturn, 1) := dk_172 (dk_at dksX0_isLoad_0 11 rfl rfl)
abbrev cX0_loads : ByteArray := prog_1_method_11_code
def yX0_loads : MethodName := ⟨RX0, "loads", "()I"⟩
def dkwX0_loads_0 : List UInt8 := [42, 180, 0, 19, 180, 0, 155, 182, 0, 136, 172]
abbrev dktX0_loads_0 : List UInt8 := dkwX0_loads_0 ++ []
theorem dksX0_loads_0 : cX0_loads.data.toList.drop 0 = dktX0_loads_0 := by decide +kernel
theorem dX0_loads_0 : decode cX0_loads 0 = .ok (.aload_n 0, 1) := dk_42 (dk_at dksX0_loads_0 0 rfl rfl)
theorem dX0_loads_1 : decode cX0_loads 1 = .ok (.getfield 19, 3) := dk_180 0 19 (dk_at dksX0_loads_0 1 rfl rfl)
theorem dX0_loads_4 : decode cX0_loads 4 = .ok (.getfield 155, 3) := dk_180 0 155 (dk_at dksX0_loads_0 4 rfl rfl)
theorem dX0_loads_7 : decode cX0_loads 7 = .ok (.invokevirtual 136, 3) := dk_182 0 136 (dk_at dksX0_loads_0 7 rfl rfl)
theorem dX0_loads_10 : decode cX0_loads 10 = .ok (.ireturn, 1) := dk_172 (dk_at dksX0_loads_0 10 rfl rfl)
abbrev cX0_spot : ByteArray := prog_1_method_21_code
def yX0_spot : MethodName := ⟨RX0, "spot", "(III)I"⟩
def dkwX0_spot_3 : List UInt8 := [42, 180, 0, 19, 27, 28, 182, 0, 245, 51, 153, 0, 7, 4, 167, 0, 8, 3, 167, 0, 4, 2, 172]
abbrev dktX0_spot_3 : List UInt8 := dkwX0_spot_3 ++ []
def dkwX0_spot_2 : List UInt8 := [180, 0, 19, 27, 28, 182, 0, 245, 46, 167, 0, 37, 29, 4, 160, 0, 31, 42, 180, 0, 19, 180, 0, 248]
abbrev dktX0_spot_2 : List UInt8 := dkwX0_spot_2 ++ dktX0_spot_3
def dkwX0_spot_1 : List UInt8 := [180, 0, 240, 184, 0, 160, 154, 0, 5, 2, 172, 29, 154, 0, 23, 42, 180, 0, 19, 180, 0, 242, 42]
abbrev dktX0_spot_1 : List UInt8 := dkwX0_spot_1 ++ dktX0_spot_2
def dkwX0_spot_0 : List UInt8 := [27, 3, 42, 180, 0, 19, 180, 0, 237, 4, 100, 184, 0, 160, 153, 0, 18, 28, 3, 42, 180, 0, 19]
abbrev dktX0_spot_0 : List UInt8 := dkwX0_spot_0 ++ dktX0_spot_1
theorem dksX0_spot_0 : cX0_spot.data.toList.drop 0 = dktX0_spot_0 := by decide +kernel
theorem dksX0_spot_1 : cX0_spot.data.toList.drop 23 = dktX0_spot_1 := dk_seg dksX0_spot_0 23 rfl rfl
theorem dksX0_spot_2 : cX0_spot.data.toList.drop 46 = dktX0_spot_2 := dk_seg dksX0_spot_1 23 rfl rfl
theorem dksX0_spot_3 : cX0_spot.data.toList.drop 70 = dktX0_spot_3 := dk_seg dksX0_spot_2 24 rfl rfl
theorem dX0_spot_0 : decode cX0_spot 0 = .ok (.iload_n 1, 1) := dk_27 (dk_at dksX0_spot_0 0 rfl rfl)
theorem dX0_spot_1 : decode cX0_spot 1 = .ok (.iconst 0, 1) := dk_3 (dk_at dksX0_spot_0 1 rfl rfl)
theorem dX0_spot_2 : decode cX0_spot 2 = .ok (.aload_n 0, 1) := dk_42 (dk_at dksX0_spot_0 2 rfl rfl)
theorem dX0_spot_3 : decode cX0_spot 3 = .ok (.getfield 19, 3) := dk_180 0 19 (dk_at dksX0_spot_0 3 rfl rfl)
theorem dX0_spot_6 : decode cX0_spot 6 = .ok (.getfield 237, 3) := dk_180 0 237 (dk_at dksX0_spot_0 6 rfl rfl)
theorem dX0_spot_9 : decode cX0_spot 9 = .ok (.iconst 1, 1) := dk_4 (dk_at dksX0_spot_0 9 rfl rfl)
theorem dX0_spot_10 : decode cX0_spot 10 = .ok (.isub, 1) := dk_100 (dk_at dksX0_spot_0 10 rfl rfl)
theorem dX0_spot_11 : decode cX0_spot 11 = .ok (.invokestatic 160, 3) := dk_184 0 160 (dk_at dksX0_spot_0 11 rfl rfl)
theorem dX0_spot_14 : decode cX0_spot 14 = .ok (.ifCond .eq 18, 3) := dk_153 0 18 (dk_at dksX0_spot_0 14 rfl rfl)
theorem dX0_spot_17 : decode cX0_spot 17 = .ok (.iload_n 2, 1) := dk_28 (dk_at dksX0_spot_0 17 rfl rfl)
theorem dX0_spot_18 : decode cX0_spot 18 = .ok (.iconst 0, 1) := dk_3 (dk_at dksX0_spot_0 18 rfl rfl)
theorem dX0_spot_19 : decode cX0_spot 19 = .ok (.aload_n 0, 1) := dk_42 (dk_at dksX0_spot_0 19 rfl rfl)
theorem dX0_spot_20 : decode cX0_spot 20 = .ok (.getfield 19, 3) := dk_180 0 19 (dk_at dksX0_spot_0 20 rfl rfl)
theorem dX0_spot_23 : decode cX0_spot 23 = .ok (.getfield 240, 3) := dk_180 0 240 (dk_at dksX0_spot_1 0 rfl rfl)
theorem dX0_spot_26 : decode cX0_spot 26 = .ok (.invokestatic 160, 3) := dk_184 0 160 (dk_at dksX0_spot_1 3 rfl rfl)
theorem dX0_spot_29 : decode cX0_spot 29 = .ok (.ifCond .ne 5, 3) := dk_154 0 5 (dk_at dksX0_spot_1 6 rfl rfl)
theorem dX0_spot_32 : decode cX0_spot 32 = .ok (.iconst (-1), 1) := dk_2 (dk_at dksX0_spot_1 9 rfl rfl)
theorem dX0_spot_33 : decode cX0_spot 33 = .ok (.ireturn, 1) := dk_172 (dk_at dksX0_spot_1 10 rfl rfl)
theorem dX0_spot_34 : decode cX0_spot 34 = .ok (.iload_n 3, 1) := dk_29 (dk_at dksX0_spot_1 11 rfl rfl)
theorem dX0_spot_35 : decode cX0_spot 35 = .ok (.ifCond .ne 23, 3) := dk_154 0 23 (dk_at dksX0_spot_1 12 rfl rfl)
theorem dX0_spot_38 : decode cX0_spot 38 = .ok (.aload_n 0, 1) := dk_42 (dk_at dksX0_spot_1 15 rfl rfl)
theorem dX0_spot_39 : decode cX0_spot 39 = .ok (.getfield 19, 3) := dk_180 0 19 (dk_at dksX0_spot_1 16 rfl rfl)
theorem dX0_spot_42 : decode cX0_spot 42 = .ok (.getfield 242, 3) := dk_180 0 242 (dk_at dksX0_spot_1 19 rfl rfl)
theorem dX0_spot_45 : decode cX0_spot 45 = .ok (.aload_n 0, 1) := dk_42 (dk_at dksX0_spot_1 22 rfl rfl)
theorem dX0_spot_46 : decode cX0_spot 46 = .ok (.getfield 19, 3) := dk_180 0 19 (dk_at dksX0_spot_2 0 rfl rfl)
theorem dX0_spot_49 : decode cX0_spot 49 = .ok (.iload_n 1, 1) := dk_27 (dk_at dksX0_spot_2 3 rfl rfl)
theorem dX0_spot_50 : decode cX0_spot 50 = .ok (.iload_n 2, 1) := dk_28 (dk_at dksX0_spot_2 4 rfl rfl)
theorem dX0_spot_51 : decode cX0_spot 51 = .ok (.invokevirtual 245, 3) := dk_182 0 245 (dk_at dksX0_spot_2 5 rfl rfl)
theorem dX0_spot_54 : decode cX0_spot 54 = .ok (.iaload, 1) := dk_46 (dk_at dksX0_spot_2 8 rfl rfl)
theorem dX0_spot_55 : decode cX0_spot 55 = .ok (.goto 37, 3) := dk_167 0 37 (dk_at dksX0_spot_2 9 rfl rfl)
theorem dX0_spot_58 : decode cX0_spot 58 = .ok (.iload_n 3, 1) := dk_29 (dk_at dksX0_spot_2 12 rfl rfl)
theorem dX0_spot_59 : decode cX0_spot 59 = .ok (.iconst 1, 1) := dk_4 (dk_at dksX0_spot_2 13 rfl rfl)
theorem dX0_spot_60 : decode cX0_spot 60 = .ok (.if_icmp .ne 31, 3) := dk_160 0 31 (dk_at dksX0_spot_2 14 rfl rfl)
theorem dX0_spot_63 : decode cX0_spot 63 = .ok (.aload_n 0, 1) := dk_42 (dk_at dksX0_spot_2 17 rfl rfl)
theorem dX0_spot_64 : decode cX0_spot 64 = .ok (.getfield 19, 3) := dk_180 0 19 (dk_at dksX0_spot_2 18 rfl rfl)
theorem dX0_spot_67 : decode cX0_spot 67 = .ok (.getfield 248, 3) := dk_180 0 248 (dk_at dksX0_spot_2 21 rfl rfl)
theorem dX0_spot_70 : decode cX0_spot 70 = .ok (.aload_n 0, 1) := dk_42 (dk_at dksX0_spot_3 0 rfl rfl)
theorem dX0_spot_71 : decode cX0_spot 71 = .ok (.getfield 19, 3) := dk_180 0 19 (dk_at dksX0_spot_3 1 rfl rfl)
theorem dX0_spot_74 : decode cX0_spot 74 = .ok (.iload_n 1, 1) := dk_27 (dk_at dksX0_spot_3 4 rfl rfl)
theorem dX0_spot_75 : decode cX0_spot 75 = .ok (.iload_n 2, 1) := dk_28 (dk_at dksX0_spot_3 5 rfl rfl)
theorem dX0_spot_76 : decode cX0_spot 76 = .ok (.invokevirtual 245, 3) := dk_182 0 245 (dk_at dksX0_spot_3 6 rfl rfl)
theorem dX0_spot_79 : decode cX0_spot 79 = .ok (.baload, 1) := dk_51 (dk_at dksX0_spot_3 9 rfl rfl)
theorem dX0_spot_80 : decode cX0_spot 80 = .ok (.ifCond .eq 7, 3) := dk_153 0 7 (dk_at dksX0_spot_3 10 rfl rfl)
theorem dX0_spot_83 : decode cX0_spot 83 = .ok (.iconst 1, 1) := dk_4 (dk_at dksX0_spot_3 13 rfl rfl)
theorem dX0_spot_84 : decode cX0_spot 84 = .ok (.goto 8, 3) := dk_167 0 8 (dk_at dksX0_spot_3 14 rfl rfl)
theorem dX0_spot_87 : decode cX0_spot 87 = .ok (.iconst 0, 1) := dk_3 (dk_at dksX0_spot_3 17 rfl rfl)
theorem dX0_spot_88 : decode cX0_spot 88 = .ok (.goto 4, 3) := dk_167 0 4 (dk_at dksX0_spot_3 18 rfl rfl)
theorem dX0_spot_91 : decode cX0_spot 91 = .ok (.iconst (-1), 1) := dk_2 (dk_at dksX0_spot_3 21 rfl rfl)
theorem dX0_spot_92 : decode cX0_spot 92 = .ok (.ireturn, 1) := dk_172 (dk_at dksX0_spot_3 22 rfl rfl)
abbrev cX0_hotter : ByteArray := prog_1_method_22_code
def yX0_hotter : MethodName := ⟨RX0, "hotte\x72", "(I)I"⟩
def dkwX0_hotter_1 : List UInt8 := [172]
abbrev dktX0_hotter_1 : List UInt8 := dkwX0_hotter_1 ++ []
def dkwX0_hotter_0 : List UInt8 := [42, 27, 182, 0, 191, 153, 0, 18, 42, 180, 0, 19, 42, 180, 0, 28, 27, 182, 0, 251, 167, 0, 4, 2]
abbrev dktX0_hotter_0 : List UInt8 := dkwX0_hotter_0 ++ dktX0_hotter_1
theorem dksX0_hotter_0 : cX0_hotter.data.toList.drop 0 = dktX0_hotter_0 := by decide +kernel
theorem dksX0_hotter_1 : cX0_hotter.data.toList.drop 24 = dktX0_hotter_1 := dk_seg dksX0_hotter_0 24 rfl rfl
theorem dX0_hotter_0 : decode cX0_hotter 0 = .ok (.aload_n 0, 1) := dk_42 (dk_at dksX0_hotter_0 0 rfl rfl)
theorem dX0_hotter_1 : decode cX0_hotter 1 = .ok (.iload_n 1, 1) := dk_27 (dk_at dksX0_hotter_0 1 rfl rfl)
theorem dX0_hotter_2 : decode cX0_hotter 2 = .ok (.invokevirtual 191, 3) := dk_182 0 191 (dk_at dksX0_hotter_0 2 rfl rfl)
theorem dX0_hotter_5 : decode cX0_hotter 5 = .ok (.ifCond .eq 18, 3) := dk_153 0 18 (dk_at dksX0_hotter_0 5 rfl rfl)
theorem dX0_hotter_8 : decode cX0_hotter 8 = .ok (.aload_n 0, 1) := dk_42 (dk_at dksX0_hotter_0 8 rfl rfl)
theorem dX0_hotter_9 : decode cX0_hotter 9 = .ok (.getfield 19, 3) := dk_180 0 19 (dk_at dksX0_hotter_0 9 rfl rfl)
theorem dX0_hotter_12 : decode cX0_hotter 12 = .ok (.aload_n 0, 1) := dk_42 (dk_at dksX0_hotter_0 12 rfl rfl)
theorem dX0_hotter_13 : decode cX0_hotter 13 = .ok (.getfield 28, 3) := dk_180 0 28 (dk_at dksX0_hotter_0 13 rfl rfl)
theorem dX0_hotter_16 : decode cX0_hotter 16 = .ok (.iload_n 1, 1) := dk_27 (dk_at dksX0_hotter_0 16 rfl rfl)
theorem dX0_hotter_17 : decode cX0_hotter 17 = .ok (.invokevirtual 251, 3) := dk_182 0 251 (dk_at dksX0_hotter_0 17 rfl rfl)
theorem dX0_hotter_20 : decode cX0_hotter 20 = .ok (.goto 4, 3) := dk_167 0 4 (dk_at dksX0_hotter_0 20 rfl rfl)
theorem dX0_hotter_23 : decode cX0_hotter 23 = .ok (.iconst (-1), 1) := dk_2 (dk_at dksX0_hotter_0 23 rfl rfl)
theorem dX0_hotter_24 : decode cX0_hotter 24 = .ok (.ireturn, 1) := dk_172 (dk_at dksX0_hotter_1 0 rfl rfl)
abbrev cX0_within : ByteArray := prog_1_method_2_code
def yX0_within : MethodName := ⟨RX0, "within", "(II)I"⟩
def dkwX0_within_0 : List UInt8 := [3, 27, 26, 184, 0, 1, 184, 0, 7, 172]
abbrev dktX0_within_0 : List UInt8 := dkwX0_within_0 ++ []
theorem dksX0_within_0 : cX0_within.data.toList.drop 0 = dktX0_within_0 := by decide +kernel
theorem dX0_within_0 : decode cX0_within 0 = .ok (.iconst 0, 1) := dk_3 (dk_at dksX0_within_0 0 rfl rfl)
theorem dX0_within_1 : decode cX0_within 1 = .ok (.iload_n 1, 1) := dk_27 (dk_at dksX0_within_0 1 rfl rfl)
theorem dX0_within_2 : decode cX0_within 2 = .ok (.iload_n 0, 1) := dk_26 (dk_at dksX0_within_0 2 rfl rfl)
theorem dX0_within_3 : decode cX0_within 3 = .ok (.invokestatic 1, 3) := dk_184 0 1 (dk_at dksX0_within_0 3 rfl rfl)
theorem dX0_within_6 : decode cX0_within 6 = .ok (.invokestatic 7, 3) := dk_184 0 7 (dk_at dksX0_within_0 6 rfl rfl)
theorem dX0_within_9 : decode cX0_within 9 = .ok (.ireturn, 1) := dk_172 (dk_at dksX0_within_0 9 rfl rfl)
abbrev cX0_stroke : ByteArray := prog_1_method_23_code
def yX0_stroke : MethodName := ⟨RX0, "stroke", "(IIZ)I"⟩
def dkwX0_stroke_4 : List UInt8 := [112, 42, 180, 0, 19, 180, 1, 5, 162, 0, 7, 4, 167, 0, 4, 3, 182, 1, 8, 172]
abbrev dktX0_stroke_4 : List UInt8 := dkwX0_stroke_4 ++ []
def dkwX0_stroke_3 : List UInt8 := [112, 181, 1, 2, 42, 180, 0, 28, 42, 180, 0, 19, 27, 28, 29, 42, 180, 0, 28, 180, 1, 2, 16, 100]
abbrev dktX0_stroke_3 : List UInt8 := dkwX0_stroke_3 ++ dktX0_stroke_4
def dkwX0_stroke_2 : List UInt8 := [182, 0, 255, 42, 180, 0, 28, 17, 0, 137, 42, 180, 0, 28, 180, 1, 2, 104, 16, 71, 96, 17, 3, 232]
abbrev dktX0_stroke_2 : List UInt8 := dkwX0_stroke_2 ++ dktX0_stroke_3
def dkwX0_stroke_1 : List UInt8 := [27, 46, 29, 153, 0, 13, 42, 180, 0, 19, 180, 0, 240, 167, 0, 4, 3, 160, 0, 5, 2, 172, 42]
abbrev dktX0_stroke_1 : List UInt8 := dkwX0_stroke_1 ++ dktX0_stroke_2
def dkwX0_stroke_0 : List UInt8 := [42, 27, 182, 0, 191, 153, 0, 39, 28, 2, 4, 184, 0, 160, 153, 0, 30, 42, 180, 0, 28, 180, 0, 203]
abbrev dktX0_stroke_0 : List UInt8 := dkwX0_stroke_0 ++ dktX0_stroke_1
theorem dksX0_stroke_0 : cX0_stroke.data.toList.drop 0 = dktX0_stroke_0 := by decide +kernel
theorem dksX0_stroke_1 : cX0_stroke.data.toList.drop 24 = dktX0_stroke_1 := dk_seg dksX0_stroke_0 24 rfl rfl
theorem dksX0_stroke_2 : cX0_stroke.data.toList.drop 47 = dktX0_stroke_2 := dk_seg dksX0_stroke_1 23 rfl rfl
theorem dksX0_stroke_3 : cX0_stroke.data.toList.drop 71 = dktX0_stroke_3 := dk_seg dksX0_stroke_2 24 rfl rfl
theorem dksX0_stroke_4 : cX0_stroke.data.toList.drop 95 = dktX0_stroke_4 := dk_seg dksX0_stroke_3 24 rfl rfl
theorem dX0_stroke_0 : decode cX0_stroke 0 = .ok (.aload_n 0, 1) := dk_42 (dk_at dksX0_stroke_0 0 rfl rfl)
theorem dX0_stroke_1 : decode cX0_stroke 1 = .ok (.iload_n 1, 1) := dk_27 (dk_at dksX0_stroke_0 1 rfl rfl)
theorem dX0_stroke_2 : decode cX0_stroke 2 = .ok (.invokevirtual 191, 3) := dk_182 0 191 (dk_at dksX0_stroke_0 2 rfl rfl)
theorem dX0_stroke_5 : decode cX0_stroke 5 = .ok (.ifCond .eq 39, 3) := dk_153 0 39 (dk_at dksX0_stroke_0 5 rfl rfl)
theorem dX0_stroke_8 : decode cX0_stroke 8 = .ok (.iload_n 2, 1) := dk_28 (dk_at dksX0_stroke_0 8 rfl rfl)
theorem dX0_stroke_9 : decode cX0_stroke 9 = .ok (.iconst (-1), 1) := dk_2 (dk_at dksX0_stroke_0 9 rfl rfl)
theorem dX0_stroke_10 : decode cX0_stroke 10 = .ok (.iconst 1, 1) := dk_4 (dk_at dksX0_stroke_0 10 rfl rfl)
theorem dX0_stroke_11 : decode cX0_stroke 11 = .ok (.invokestatic 160, 3) := dk_184 0 160 (dk_at dksX0_stroke_0 11 rfl rfl)
theorem dX0_stroke_14 : decode cX0_stroke 14 = .ok (.ifCond .eq 30, 3) := dk_153 0 30 (dk_at dksX0_stroke_0 14 rfl rfl)
theorem dX0_stroke_17 : decode cX0_stroke 17 = .ok (.aload_n 0, 1) := dk_42 (dk_at dksX0_stroke_0 17 rfl rfl)
theorem dX0_stroke_18 : decode cX0_stroke 18 = .ok (.getfield 28, 3) := dk_180 0 28 (dk_at dksX0_stroke_0 18 rfl rfl)
theorem dX0_stroke_21 : decode cX0_stroke 21 = .ok (.getfield 203, 3) := dk_180 0 203 (dk_at dksX0_stroke_0 21 rfl rfl)
theorem dX0_stroke_24 : decode cX0_stroke 24 = .ok (.iload_n 1, 1) := dk_27 (dk_at dksX0_stroke_1 0 rfl rfl)
theorem dX0_stroke_25 : decode cX0_stroke 25 = .ok (.iaload, 1) := dk_46 (dk_at dksX0_stroke_1 1 rfl rfl)
theorem dX0_stroke_26 : decode cX0_stroke 26 = .ok (.iload_n 3, 1) := dk_29 (dk_at dksX0_stroke_1 2 rfl rfl)
theorem dX0_stroke_27 : decode cX0_stroke 27 = .ok (.ifCond .eq 13, 3) := dk_153 0 13 (dk_at dksX0_stroke_1 3 rfl rfl)
theorem dX0_stroke_30 : decode cX0_stroke 30 = .ok (.aload_n 0, 1) := dk_42 (dk_at dksX0_stroke_1 6 rfl rfl)
theorem dX0_stroke_31 : decode cX0_stroke 31 = .ok (.getfield 19, 3) := dk_180 0 19 (dk_at dksX0_stroke_1 7 rfl rfl)
theorem dX0_stroke_34 : decode cX0_stroke 34 = .ok (.getfield 240, 3) := dk_180 0 240 (dk_at dksX0_stroke_1 10 rfl rfl)
theorem dX0_stroke_37 : decode cX0_stroke 37 = .ok (.goto 4, 3) := dk_167 0 4 (dk_at dksX0_stroke_1 13 rfl rfl)
theorem dX0_stroke_40 : decode cX0_stroke 40 = .ok (.iconst 0, 1) := dk_3 (dk_at dksX0_stroke_1 16 rfl rfl)
theorem dX0_stroke_41 : decode cX0_stroke 41 = .ok (.if_icmp .ne 5, 3) := dk_160 0 5 (dk_at dksX0_stroke_1 17 rfl rfl)
theorem dX0_stroke_44 : decode cX0_stroke 44 = .ok (.iconst (-1), 1) := dk_2 (dk_at dksX0_stroke_1 20 rfl rfl)
theorem dX0_stroke_45 : decode cX0_stroke 45 = .ok (.ireturn, 1) := dk_172 (dk_at dksX0_stroke_1 21 rfl rfl)
theorem dX0_stroke_46 : decode cX0_stroke 46 = .ok (.aload_n 0, 1) := dk_42 (dk_at dksX0_stroke_1 22 rfl rfl)
theorem dX0_stroke_47 : decode cX0_stroke 47 = .ok (.invokevirtual 255, 3) := dk_182 0 255 (dk_at dksX0_stroke_2 0 rfl rfl)
theorem dX0_stroke_50 : decode cX0_stroke 50 = .ok (.aload_n 0, 1) := dk_42 (dk_at dksX0_stroke_2 3 rfl rfl)
theorem dX0_stroke_51 : decode cX0_stroke 51 = .ok (.getfield 28, 3) := dk_180 0 28 (dk_at dksX0_stroke_2 4 rfl rfl)
theorem dX0_stroke_54 : decode cX0_stroke 54 = .ok (.sipush 137, 3) := dk_17 0 137 (dk_at dksX0_stroke_2 7 rfl rfl)
theorem dX0_stroke_57 : decode cX0_stroke 57 = .ok (.aload_n 0, 1) := dk_42 (dk_at dksX0_stroke_2 10 rfl rfl)
theorem dX0_stroke_58 : decode cX0_stroke 58 = .ok (.getfield 28, 3) := dk_180 0 28 (dk_at dksX0_stroke_2 11 rfl rfl)
theorem dX0_stroke_61 : decode cX0_stroke 61 = .ok (.getfield 258, 3) := dk_180 1 2 (dk_at dksX0_stroke_2 14 rfl rfl)
theorem dX0_stroke_64 : decode cX0_stroke 64 = .ok (.imul, 1) := dk_104 (dk_at dksX0_stroke_2 17 rfl rfl)
theorem dX0_stroke_65 : decode cX0_stroke 65 = .ok (.bipush 71, 2) := dk_16 71 (dk_at dksX0_stroke_2 18 rfl rfl)
theorem dX0_stroke_67 : decode cX0_stroke 67 = .ok (.iadd, 1) := dk_96 (dk_at dksX0_stroke_2 20 rfl rfl)
theorem dX0_stroke_68 : decode cX0_stroke 68 = .ok (.sipush 1000, 3) := dk_17 3 232 (dk_at dksX0_stroke_2 21 rfl rfl)
theorem dX0_stroke_71 : decode cX0_stroke 71 = .ok (.irem, 1) := dk_112 (dk_at dksX0_stroke_3 0 rfl rfl)
theorem dX0_stroke_72 : decode cX0_stroke 72 = .ok (.putfield 258, 3) := dk_181 1 2 (dk_at dksX0_stroke_3 1 rfl rfl)
theorem dX0_stroke_75 : decode cX0_stroke 75 = .ok (.aload_n 0, 1) := dk_42 (dk_at dksX0_stroke_3 4 rfl rfl)
theorem dX0_stroke_76 : decode cX0_stroke 76 = .ok (.getfield 28, 3) := dk_180 0 28 (dk_at dksX0_stroke_3 5 rfl rfl)
theorem dX0_stroke_79 : decode cX0_stroke 79 = .ok (.aload_n 0, 1) := dk_42 (dk_at dksX0_stroke_3 8 rfl rfl)
theorem dX0_stroke_80 : decode cX0_stroke 80 = .ok (.getfield 19, 3) := dk_180 0 19 (dk_at dksX0_stroke_3 9 rfl rfl)
theorem dX0_stroke_83 : decode cX0_stroke 83 = .ok (.iload_n 1, 1) := dk_27 (dk_at dksX0_stroke_3 12 rfl rfl)
theorem dX0_stroke_84 : decode cX0_stroke 84 = .ok (.iload_n 2, 1) := dk_28 (dk_at dksX0_stroke_3 13 rfl rfl)
theorem dX0_stroke_85 : decode cX0_stroke 85 = .ok (.iload_n 3, 1) := dk_29 (dk_at dksX0_stroke_3 14 rfl rfl)
theorem dX0_stroke_86 : decode cX0_stroke 86 = .ok (.aload_n 0, 1) := dk_42 (dk_at dksX0_stroke_3 15 rfl rfl)
theorem dX0_stroke_87 : decode cX0_stroke 87 = .ok (.getfield 28, 3) := dk_180 0 28 (dk_at dksX0_stroke_3 16 rfl rfl)
theorem dX0_stroke_90 : decode cX0_stroke 90 = .ok (.getfield 258, 3) := dk_180 1 2 (dk_at dksX0_stroke_3 19 rfl rfl)
theorem dX0_stroke_93 : decode cX0_stroke 93 = .ok (.bipush 100, 2) := dk_16 100 (dk_at dksX0_stroke_3 22 rfl rfl)
theorem dX0_stroke_95 : decode cX0_stroke 95 = .ok (.irem, 1) := dk_112 (dk_at dksX0_stroke_4 0 rfl rfl)
theorem dX0_stroke_96 : decode cX0_stroke 96 = .ok (.aload_n 0, 1) := dk_42 (dk_at dksX0_stroke_4 1 rfl rfl)
theorem dX0_stroke_97 : decode cX0_stroke 97 = .ok (.getfield 19, 3) := dk_180 0 19 (dk_at dksX0_stroke_4 2 rfl rfl)
theorem dX0_stroke_100 : decode cX0_stroke 100 = .ok (.getfield 261, 3) := dk_180 1 5 (dk_at dksX0_stroke_4 5 rfl rfl)
theorem dX0_stroke_103 : decode cX0_stroke 103 = .ok (.if_icmp .ge 7, 3) := dk_162 0 7 (dk_at dksX0_stroke_4 8 rfl rfl)
theorem dX0_stroke_106 : decode cX0_stroke 106 = .ok (.iconst 1, 1) := dk_4 (dk_at dksX0_stroke_4 11 rfl rfl)
theorem dX0_stroke_107 : decode cX0_stroke 107 = .ok (.goto 4, 3) := dk_167 0 4 (dk_at dksX0_stroke_4 12 rfl rfl)
theorem dX0_stroke_110 : decode cX0_stroke 110 = .ok (.iconst 0, 1) := dk_3 (dk_at dksX0_stroke_4 15 rfl rfl)
theorem dX0_stroke_111 : decode cX0_stroke 111 = .ok (.invokevirtual 264, 3) := dk_182 1 8 (dk_at dksX0_stroke_4 16 rfl rfl)
theorem dX0_stroke_114 : decode cX0_stroke 114 = .ok (.ireturn, 1) := dk_172 (dk_at dksX0_stroke_4 19 rfl rfl)
abbrev cX0_keepAct : ByteArray := prog_1_method_8_code
def yX0_keepAct : MethodName := ⟨RX0, "keepAct", "()V"⟩
def dkwX0_keepAct_2 : List UInt8 := [180, 0, 57, 182, 0, 124, 177]
abbrev dktX0_keepAct_2 : List UInt8 := dkwX0_keepAct_2 ++ []
def dkwX0_keepAct_1 : List UInt8 := [180, 0, 53, 187, 0, 108, 89, 42, 180, 0, 28, 184, 0, 144, 183, 0, 110, 182, 0, 148, 87, 42]
abbrev dktX0_keepAct_1 : List UInt8 := dkwX0_keepAct_1 ++ dktX0_keepAct_2
def dkwX0_keepAct_0 : List UInt8 := [42, 180, 0, 53, 182, 0, 136, 16, 40, 160, 0, 12, 42, 180, 0, 53, 3, 182, 0, 140, 87, 42]
abbrev dktX0_keepAct_0 : List UInt8 := dkwX0_keepAct_0 ++ dktX0_keepAct_1
theorem dksX0_keepAct_0 : cX0_keepAct.data.toList.drop 0 = dktX0_keepAct_0 := by decide +kernel
theorem dksX0_keepAct_1 : cX0_keepAct.data.toList.drop 22 = dktX0_keepAct_1 := dk_seg dksX0_keepAct_0 22 rfl rfl
theorem dksX0_keepAct_2 : cX0_keepAct.data.toList.drop 44 = dktX0_keepAct_2 := dk_seg dksX0_keepAct_1 22 rfl rfl
theorem dX0_keepAct_0 : decode cX0_keepAct 0 = .ok (.aload_n 0, 1) := dk_42 (dk_at dksX0_keepAct_0 0 rfl rfl)
theorem dX0_keepAct_1 : decode cX0_keepAct 1 = .ok (.getfield 53, 3) := dk_180 0 53 (dk_at dksX0_keepAct_0 1 rfl rfl)
theorem dX0_keepAct_4 : decode cX0_keepAct 4 = .ok (.invokevirtual 136, 3) := dk_182 0 136 (dk_at dksX0_keepAct_0 4 rfl rfl)
theorem dX0_keepAct_7 : decode cX0_keepAct 7 = .ok (.bipush 40, 2) := dk_16 40 (dk_at dksX0_keepAct_0 7 rfl rfl)
theorem dX0_keepAct_9 : decode cX0_keepAct 9 = .ok (.if_icmp .ne 12, 3) := dk_160 0 12 (dk_at dksX0_keepAct_0 9 rfl rfl)
theorem dX0_keepAct_12 : decode cX0_keepAct 12 = .ok (.aload_n 0, 1) := dk_42 (dk_at dksX0_keepAct_0 12 rfl rfl)
theorem dX0_keepAct_13 : decode cX0_keepAct 13 = .ok (.getfield 53, 3) := dk_180 0 53 (dk_at dksX0_keepAct_0 13 rfl rfl)
theorem dX0_keepAct_16 : decode cX0_keepAct 16 = .ok (.iconst 0, 1) := dk_3 (dk_at dksX0_keepAct_0 16 rfl rfl)
theorem dX0_keepAct_17 : decode cX0_keepAct 17 = .ok (.invokevirtual 140, 3) := dk_182 0 140 (dk_at dksX0_keepAct_0 17 rfl rfl)
theorem dX0_keepAct_20 : decode cX0_keepAct 20 = .ok (.pop, 1) := dk_87 (dk_at dksX0_keepAct_0 20 rfl rfl)
theorem dX0_keepAct_21 : decode cX0_keepAct 21 = .ok (.aload_n 0, 1) := dk_42 (dk_at dksX0_keepAct_0 21 rfl rfl)
theorem dX0_keepAct_22 : decode cX0_keepAct 22 = .ok (.getfield 53, 3) := dk_180 0 53 (dk_at dksX0_keepAct_1 0 rfl rfl)
theorem dX0_keepAct_25 : decode cX0_keepAct 25 = .ok (.new 108, 3) := dk_187 0 108 (dk_at dksX0_keepAct_1 3 rfl rfl)
theorem dX0_keepAct_28 : decode cX0_keepAct 28 = .ok (.dup, 1) := dk_89 (dk_at dksX0_keepAct_1 6 rfl rfl)
theorem dX0_keepAct_29 : decode cX0_keepAct 29 = .ok (.aload_n 0, 1) := dk_42 (dk_at dksX0_keepAct_1 7 rfl rfl)
theorem dX0_keepAct_30 : decode cX0_keepAct 30 = .ok (.getfield 28, 3) := dk_180 0 28 (dk_at dksX0_keepAct_1 8 rfl rfl)
theorem dX0_keepAct_33 : decode cX0_keepAct 33 = .ok (.invokestatic 144, 3) := dk_184 0 144 (dk_at dksX0_keepAct_1 11 rfl rfl)
theorem dX0_keepAct_36 : decode cX0_keepAct 36 = .ok (.invokespecial 110, 3) := dk_183 0 110 (dk_at dksX0_keepAct_1 14 rfl rfl)
theorem dX0_keepAct_39 : decode cX0_keepAct 39 = .ok (.invokevirtual 148, 3) := dk_182 0 148 (dk_at dksX0_keepAct_1 17 rfl rfl)
theorem dX0_keepAct_42 : decode cX0_keepAct 42 = .ok (.pop, 1) := dk_87 (dk_at dksX0_keepAct_1 20 rfl rfl)
theorem dX0_keepAct_43 : decode cX0_keepAct 43 = .ok (.aload_n 0, 1) := dk_42 (dk_at dksX0_keepAct_1 21 rfl rfl)
theorem dX0_keepAct_44 : decode cX0_keepAct 44 = .ok (.getfield 57, 3) := dk_180 0 57 (dk_at dksX0_keepAct_2 0 rfl rfl)
theorem dX0_keepAct_47 : decode cX0_keepAct 47 = .ok (.invokevirtual 124, 3) := dk_182 0 124 (dk_at dksX0_keepAct_2 3 rfl rfl)
theorem dX0_keepAct_50 : decode cX0_keepAct 50 = .ok (.return_, 1) := dk_177 (dk_at dksX0_keepAct_2 6 rfl rfl)
abbrev cX0_copy : ByteArray := prog_1_method_7_code
def yX0_copy : MethodName := ⟨RX0, "copy", "(LBoardCrossing$State;)LBoardCrossing$State;"⟩
def dkwX0_copy_0 : List UInt8 := [187, 0, 25, 89, 183, 0, 27, 76, 43, 42, 182, 0, 133, 43, 176]
abbrev dktX0_copy_0 : List UInt8 := dkwX0_copy_0 ++ []
theorem dksX0_copy_0 : cX0_copy.data.toList.drop 0 = dktX0_copy_0 := by decide +kernel
theorem dX0_copy_0 : decode cX0_copy 0 = .ok (.new 25, 3) := dk_187 0 25 (dk_at dksX0_copy_0 0 rfl rfl)
theorem dX0_copy_3 : decode cX0_copy 3 = .ok (.dup, 1) := dk_89 (dk_at dksX0_copy_0 3 rfl rfl)
theorem dX0_copy_4 : decode cX0_copy 4 = .ok (.invokespecial 27, 3) := dk_183 0 27 (dk_at dksX0_copy_0 4 rfl rfl)
theorem dX0_copy_7 : decode cX0_copy 7 = .ok (.astore_n 1, 1) := dk_76 (dk_at dksX0_copy_0 7 rfl rfl)
theorem dX0_copy_8 : decode cX0_copy 8 = .ok (.aload_n 1, 1) := dk_43 (dk_at dksX0_copy_0 8 rfl rfl)
theorem dX0_copy_9 : decode cX0_copy 9 = .ok (.aload_n 0, 1) := dk_42 (dk_at dksX0_copy_0 9 rfl rfl)
theorem dX0_copy_10 : decode cX0_copy 10 = .ok (.invokevirtual 133, 3) := dk_182 0 133 (dk_at dksX0_copy_0 10 rfl rfl)
theorem dX0_copy_13 : decode cX0_copy 13 = .ok (.aload_n 1, 1) := dk_43 (dk_at dksX0_copy_0 13 rfl rfl)
theorem dX0_copy_14 : decode cX0_copy 14 = .ok (.areturn, 1) := dk_176 (dk_at dksX0_copy_0 14 rfl rfl)
abbrev cX0_stow : ByteArray := prog_1_method_25_code
def yX0_stow : MethodName := ⟨RX0, "stow", "(II)I"⟩
def dkwX0_stow_4 : List UInt8 := [79, 42, 180, 0, 28, 42, 180, 0, 19, 28, 182, 0, 221, 172]
abbrev dktX0_stow_4 : List UInt8 := dkwX0_stow_4 ++ []
def dkwX0_stow_3 : List UInt8 := [180, 0, 233, 182, 1, 15, 154, 0, 5, 2, 172, 42, 182, 0, 255, 42, 180, 0, 28, 180, 0, 234, 27, 28]
abbrev dktX0_stow_3 : List UInt8 := dkwX0_stow_3 ++ dktX0_stow_4
def dkwX0_stow_2 : List UInt8 := [182, 1, 12, 160, 0, 28, 42, 28, 42, 180, 0, 19, 180, 0, 155, 27, 182, 0, 195, 192, 0, 231]
abbrev dktX0_stow_2 : List UInt8 := dkwX0_stow_2 ++ dktX0_stow_3
def dkwX0_stow_1 : List UInt8 := [46, 156, 0, 52, 42, 180, 0, 28, 180, 0, 234, 27, 46, 42, 180, 0, 28, 42, 180, 0, 19, 28]
abbrev dktX0_stow_1 : List UInt8 := dkwX0_stow_1 ++ dktX0_stow_2
def dkwX0_stow_0 : List UInt8 := [42, 27, 182, 0, 228, 153, 0, 72, 42, 28, 182, 0, 191, 153, 0, 64, 42, 180, 0, 28, 180, 0, 234, 27]
abbrev dktX0_stow_0 : List UInt8 := dkwX0_stow_0 ++ dktX0_stow_1
theorem dksX0_stow_0 : cX0_stow.data.toList.drop 0 = dktX0_stow_0 := by decide +kernel
theorem dksX0_stow_1 : cX0_stow.data.toList.drop 24 = dktX0_stow_1 := dk_seg dksX0_stow_0 24 rfl rfl
theorem dksX0_stow_2 : cX0_stow.data.toList.drop 46 = dktX0_stow_2 := dk_seg dksX0_stow_1 22 rfl rfl
theorem dksX0_stow_3 : cX0_stow.data.toList.drop 68 = dktX0_stow_3 := dk_seg dksX0_stow_2 22 rfl rfl
theorem dksX0_stow_4 : cX0_stow.data.toList.drop 92 = dktX0_stow_4 := dk_seg dksX0_stow_3 24 rfl rfl
theorem dX0_stow_0 : decode cX0_stow 0 = .ok (.aload_n 0, 1) := dk_42 (dk_at dksX0_stow_0 0 rfl rfl)
theorem dX0_stow_1 : decode cX0_stow 1 = .ok (.iload_n 1, 1) := dk_27 (dk_at dksX0_stow_0 1 rfl rfl)
theorem dX0_stow_2 : decode cX0_stow 2 = .ok (.invokevirtual 228, 3) := dk_182 0 228 (dk_at dksX0_stow_0 2 rfl rfl)
theorem dX0_stow_5 : decode cX0_stow 5 = .ok (.ifCond .eq 72, 3) := dk_153 0 72 (dk_at dksX0_stow_0 5 rfl rfl)
theorem dX0_stow_8 : decode cX0_stow 8 = .ok (.aload_n 0, 1) := dk_42 (dk_at dksX0_stow_0 8 rfl rfl)
theorem dX0_stow_9 : decode cX0_stow 9 = .ok (.iload_n 2, 1) := dk_28 (dk_at dksX0_stow_0 9 rfl rfl)
theorem dX0_stow_10 : decode cX0_stow 10 = .ok (.invokevirtual 191, 3) := dk_182 0 191 (dk_at dksX0_stow_0 10 rfl rfl)
theorem dX0_stow_13 : decode cX0_stow 13 = .ok (.ifCond .eq 64, 3) := dk_153 0 64 (dk_at dksX0_stow_0 13 rfl rfl)
theorem dX0_stow_16 : decode cX0_stow 16 = .ok (.aload_n 0, 1) := dk_42 (dk_at dksX0_stow_0 16 rfl rfl)
theorem dX0_stow_17 : decode cX0_stow 17 = .ok (.getfield 28, 3) := dk_180 0 28 (dk_at dksX0_stow_0 17 rfl rfl)
theorem dX0_stow_20 : decode cX0_stow 20 = .ok (.getfield 234, 3) := dk_180 0 234 (dk_at dksX0_stow_0 20 rfl rfl)
theorem dX0_stow_23 : decode cX0_stow 23 = .ok (.iload_n 1, 1) := dk_27 (dk_at dksX0_stow_0 23 rfl rfl)
theorem dX0_stow_24 : decode cX0_stow 24 = .ok (.iaload, 1) := dk_46 (dk_at dksX0_stow_1 0 rfl rfl)
theorem dX0_stow_25 : decode cX0_stow 25 = .ok (.ifCond .ge 52, 3) := dk_156 0 52 (dk_at dksX0_stow_1 1 rfl rfl)
theorem dX0_stow_28 : decode cX0_stow 28 = .ok (.aload_n 0, 1) := dk_42 (dk_at dksX0_stow_1 4 rfl rfl)
theorem dX0_stow_29 : decode cX0_stow 29 = .ok (.getfield 28, 3) := dk_180 0 28 (dk_at dksX0_stow_1 5 rfl rfl)
theorem dX0_stow_32 : decode cX0_stow 32 = .ok (.getfield 234, 3) := dk_180 0 234 (dk_at dksX0_stow_1 8 rfl rfl)
theorem dX0_stow_35 : decode cX0_stow 35 = .ok (.iload_n 1, 1) := dk_27 (dk_at dksX0_stow_1 11 rfl rfl)
theorem dX0_stow_36 : decode cX0_stow 36 = .ok (.iaload, 1) := dk_46 (dk_at dksX0_stow_1 12 rfl rfl)
theorem dX0_stow_37 : decode cX0_stow 37 = .ok (.aload_n 0, 1) := dk_42 (dk_at dksX0_stow_1 13 rfl rfl)
theorem dX0_stow_38 : decode cX0_stow 38 = .ok (.getfield 28, 3) := dk_180 0 28 (dk_at dksX0_stow_1 14 rfl rfl)
theorem dX0_stow_41 : decode cX0_stow 41 = .ok (.aload_n 0, 1) := dk_42 (dk_at dksX0_stow_1 17 rfl rfl)
theorem dX0_stow_42 : decode cX0_stow 42 = .ok (.getfield 19, 3) := dk_180 0 19 (dk_at dksX0_stow_1 18 rfl rfl)
theorem dX0_stow_45 : decode cX0_stow 45 = .ok (.iload_n 2, 1) := dk_28 (dk_at dksX0_stow_1 21 rfl rfl)
theorem dX0_stow_46 : decode cX0_stow 46 = .ok (.invokevirtual 268, 3) := dk_182 1 12 (dk_at dksX0_stow_2 0 rfl rfl)
theorem dX0_stow_49 : decode cX0_stow 49 = .ok (.if_icmp .ne 28, 3) := dk_160 0 28 (dk_at dksX0_stow_2 3 rfl rfl)
theorem dX0_stow_52 : decode cX0_stow 52 = .ok (.aload_n 0, 1) := dk_42 (dk_at dksX0_stow_2 6 rfl rfl)
theorem dX0_stow_53 : decode cX0_stow 53 = .ok (.iload_n 2, 1) := dk_28 (dk_at dksX0_stow_2 7 rfl rfl)
theorem dX0_stow_54 : decode cX0_stow 54 = .ok (.aload_n 0, 1) := dk_42 (dk_at dksX0_stow_2 8 rfl rfl)
theorem dX0_stow_55 : decode cX0_stow 55 = .ok (.getfield 19, 3) := dk_180 0 19 (dk_at dksX0_stow_2 9 rfl rfl)
theorem dX0_stow_58 : decode cX0_stow 58 = .ok (.getfield 155, 3) := dk_180 0 155 (dk_at dksX0_stow_2 12 rfl rfl)
theorem dX0_stow_61 : decode cX0_stow 61 = .ok (.iload_n 1, 1) := dk_27 (dk_at dksX0_stow_2 15 rfl rfl)
theorem dX0_stow_62 : decode cX0_stow 62 = .ok (.invokevirtual 195, 3) := dk_182 0 195 (dk_at dksX0_stow_2 16 rfl rfl)
theorem dX0_stow_65 : decode cX0_stow 65 = .ok (.checkcast 231, 3) := dk_192 0 231 (dk_at dksX0_stow_2 19 rfl rfl)
theorem dX0_stow_68 : decode cX0_stow 68 = .ok (.getfield 233, 3) := dk_180 0 233 (dk_at dksX0_stow_3 0 rfl rfl)
theorem dX0_stow_71 : decode cX0_stow 71 = .ok (.invokevirtual 271, 3) := dk_182 1 15 (dk_at dksX0_stow_3 3 rfl rfl)
theorem dX0_stow_74 : decode cX0_stow 74 = .ok (.ifCond .ne 5, 3) := dk_154 0 5 (dk_at dksX0_stow_3 6 rfl rfl)
theorem dX0_stow_77 : decode cX0_stow 77 = .ok (.iconst (-1), 1) := dk_2 (dk_at dksX0_stow_3 9 rfl rfl)
theorem dX0_stow_78 : decode cX0_stow 78 = .ok (.ireturn, 1) := dk_172 (dk_at dksX0_stow_3 10 rfl rfl)
theorem dX0_stow_79 : decode cX0_stow 79 = .ok (.aload_n 0, 1) := dk_42 (dk_at dksX0_stow_3 11 rfl rfl)
theorem dX0_stow_80 : decode cX0_stow 80 = .ok (.invokevirtual 255, 3) := dk_182 0 255 (dk_at dksX0_stow_3 12 rfl rfl)
theorem dX0_stow_83 : decode cX0_stow 83 = .ok (.aload_n 0, 1) := dk_42 (dk_at dksX0_stow_3 15 rfl rfl)
theorem dX0_stow_84 : decode cX0_stow 84 = .ok (.getfield 28, 3) := dk_180 0 28 (dk_at dksX0_stow_3 16 rfl rfl)
theorem dX0_stow_87 : decode cX0_stow 87 = .ok (.getfield 234, 3) := dk_180 0 234 (dk_at dksX0_stow_3 19 rfl rfl)
theorem dX0_stow_90 : decode cX0_stow 90 = .ok (.iload_n 1, 1) := dk_27 (dk_at dksX0_stow_3 22 rfl rfl)
theorem dX0_stow_91 : decode cX0_stow 91 = .ok (.iload_n 2, 1) := dk_28 (dk_at dksX0_stow_3 23 rfl rfl)
theorem dX0_stow_92 : decode cX0_stow 92 = .ok (.iastore, 1) := dk_79 (dk_at dksX0_stow_4 0 rfl rfl)
theorem dX0_stow_93 : decode cX0_stow 93 = .ok (.aload_n 0, 1) := dk_42 (dk_at dksX0_stow_4 1 rfl rfl)
theorem dX0_stow_94 : decode cX0_stow 94 = .ok (.getfield 28, 3) := dk_180 0 28 (dk_at dksX0_stow_4 2 rfl rfl)
theorem dX0_stow_97 : decode cX0_stow 97 = .ok (.aload_n 0, 1) := dk_42 (dk_at dksX0_stow_4 5 rfl rfl)
theorem dX0_stow_98 : decode cX0_stow 98 = .ok (.getfield 19, 3) := dk_180 0 19 (dk_at dksX0_stow_4 6 rfl rfl)
theorem dX0_stow_101 : decode cX0_stow 101 = .ok (.iload_n 2, 1) := dk_28 (dk_at dksX0_stow_4 9 rfl rfl)
theorem dX0_stow_102 : decode cX0_stow 102 = .ok (.invokevirtual 221, 3) := dk_182 0 221 (dk_at dksX0_stow_4 10 rfl rfl)
theorem dX0_stow_105 : decode cX0_stow 105 = .ok (.ireturn, 1) := dk_172 (dk_at dksX0_stow_4 13 rfl rfl)
abbrev cX0_liesFlat : ByteArray := prog_1_method_24_code
def yX0_liesFlat : MethodName := ⟨RX0, "liesFlat", "(II)Z"⟩
def dkwX0_liesFlat_1 : List UInt8 := [182, 0, 195, 192, 0, 198, 180, 0, 215, 163, 0, 7, 4, 167, 0, 4, 3, 172]
abbrev dktX0_liesFlat_1 : List UInt8 := dkwX0_liesFlat_1 ++ []
def dkwX0_liesFlat_0 : List UInt8 := [42, 180, 0, 28, 42, 180, 0, 19, 27, 182, 0, 221, 28, 96, 42, 180, 0, 19, 180, 0, 152, 27]
abbrev dktX0_liesFlat_0 : List UInt8 := dkwX0_liesFlat_0 ++ dktX0_liesFlat_1
theorem dksX0_liesFlat_0 : cX0_liesFlat.data.toList.drop 0 = dktX0_liesFlat_0 := by decide +kernel
theorem dksX0_liesFlat_1 : cX0_liesFlat.data.toList.drop 22 = dktX0_liesFlat_1 := dk_seg dksX0_liesFlat_0 22 rfl rfl
theorem dX0_liesFlat_0 : decode cX0_liesFlat 0 = .ok (.aload_n 0, 1) := dk_42 (dk_at dksX0_liesFlat_0 0 rfl rfl)
theorem dX0_liesFlat_1 : decode cX0_liesFlat 1 = .ok (.getfield 28, 3) := dk_180 0 28 (dk_at dksX0_liesFlat_0 1 rfl rfl)
theorem dX0_liesFlat_4 : decode cX0_liesFlat 4 = .ok (.aload_n 0, 1) := dk_42 (dk_at dksX0_liesFlat_0 4 rfl rfl)
theorem dX0_liesFlat_5 : decode cX0_liesFlat 5 = .ok (.getfield 19, 3) := dk_180 0 19 (dk_at dksX0_liesFlat_0 5 rfl rfl)
theorem dX0_liesFlat_8 : decode cX0_liesFlat 8 = .ok (.iload_n 1, 1) := dk_27 (dk_at dksX0_liesFlat_0 8 rfl rfl)
theorem dX0_liesFlat_9 : decode cX0_liesFlat 9 = .ok (.invokevirtual 221, 3) := dk_182 0 221 (dk_at dksX0_liesFlat_0 9 rfl rfl)
theorem dX0_liesFlat_12 : decode cX0_liesFlat 12 = .ok (.iload_n 2, 1) := dk_28 (dk_at dksX0_liesFlat_0 12 rfl rfl)
theorem dX0_liesFlat_13 : decode cX0_liesFlat 13 = .ok (.iadd, 1) := dk_96 (dk_at dksX0_liesFlat_0 13 rfl rfl)
theorem dX0_liesFlat_14 : decode cX0_liesFlat 14 = .ok (.aload_n 0, 1) := dk_42 (dk_at dksX0_liesFlat_0 14 rfl rfl)
theorem dX0_liesFlat_15 : decode cX0_liesFlat 15 = .ok (.getfield 19, 3) := dk_180 0 19 (dk_at dksX0_liesFlat_0 15 rfl rfl)
theorem dX0_liesFlat_18 : decode cX0_liesFlat 18 = .ok (.getfield 152, 3) := dk_180 0 152 (dk_at dksX0_liesFlat_0 18 rfl rfl)
theorem dX0_liesFlat_21 : decode cX0_liesFlat 21 = .ok (.iload_n 1, 1) := dk_27 (dk_at dksX0_liesFlat_0 21 rfl rfl)
theorem dX0_liesFlat_22 : decode cX0_liesFlat 22 = .ok (.invokevirtual 195, 3) := dk_182 0 195 (dk_at dksX0_liesFlat_1 0 rfl rfl)
theorem dX0_liesFlat_25 : decode cX0_liesFlat 25 = .ok (.checkcast 198, 3) := dk_192 0 198 (dk_at dksX0_liesFlat_1 3 rfl rfl)
theorem dX0_liesFlat_28 : decode cX0_liesFlat 28 = .ok (.getfield 215, 3) := dk_180 0 215 (dk_at dksX0_liesFlat_1 6 rfl rfl)
theorem dX0_liesFlat_31 : decode cX0_liesFlat 31 = .ok (.if_icmp .gt 7, 3) := dk_163 0 7 (dk_at dksX0_liesFlat_1 9 rfl rfl)
theorem dX0_liesFlat_34 : decode cX0_liesFlat 34 = .ok (.iconst 1, 1) := dk_4 (dk_at dksX0_liesFlat_1 12 rfl rfl)
theorem dX0_liesFlat_35 : decode cX0_liesFlat 35 = .ok (.goto 4, 3) := dk_167 0 4 (dk_at dksX0_liesFlat_1 13 rfl rfl)
theorem dX0_liesFlat_38 : decode cX0_liesFlat 38 = .ok (.iconst 0, 1) := dk_3 (dk_at dksX0_liesFlat_1 16 rfl rfl)
theorem dX0_liesFlat_39 : decode cX0_liesFlat 39 = .ok (.ireturn, 1) := dk_172 (dk_at dksX0_liesFlat_1 17 rfl rfl)
abbrev cX0_take : ByteArray := prog_1_method_26_code
def yX0_take : MethodName := ⟨RX0, "take", "(I)I"⟩
def dkwX0_take_3 : List UInt8 := [180, 0, 28, 42, 180, 0, 19, 28, 182, 1, 12, 79, 28, 172]
abbrev dktX0_take_3 : List UInt8 := dkwX0_take_3 ++ []
def dkwX0_take_2 : List UInt8 := [182, 0, 255, 42, 180, 0, 28, 180, 0, 234, 27, 46, 61, 42, 180, 0, 28, 180, 0, 234, 27, 42]
abbrev dktX0_take_2 : List UInt8 := dkwX0_take_2 ++ dktX0_take_3
def dkwX0_take_1 : List UInt8 := [42, 180, 0, 19, 42, 180, 0, 28, 180, 0, 234, 27, 46, 182, 1, 12, 154, 0, 5, 2, 172, 42]
abbrev dktX0_take_1 : List UInt8 := dkwX0_take_1 ++ dktX0_take_2
def dkwX0_take_0 : List UInt8 := [42, 27, 182, 0, 228, 153, 0, 38, 42, 180, 0, 28, 180, 0, 234, 27, 46, 155, 0, 26, 42, 180, 0, 28]
abbrev dktX0_take_0 : List UInt8 := dkwX0_take_0 ++ dktX0_take_1
theorem dksX0_take_0 : cX0_take.data.toList.drop 0 = dktX0_take_0 := by decide +kernel
theorem dksX0_take_1 : cX0_take.data.toList.drop 24 = dktX0_take_1 := dk_seg dksX0_take_0 24 rfl rfl
theorem dksX0_take_2 : cX0_take.data.toList.drop 46 = dktX0_take_2 := dk_seg dksX0_take_1 22 rfl rfl
theorem dksX0_take_3 : cX0_take.data.toList.drop 68 = dktX0_take_3 := dk_seg dksX0_take_2 22 rfl rfl
theorem dX0_take_0 : decode cX0_take 0 = .ok (.aload_n 0, 1) := dk_42 (dk_at dksX0_take_0 0 rfl rfl)
theorem dX0_take_1 : decode cX0_take 1 = .ok (.iload_n 1, 1) := dk_27 (dk_at dksX0_take_0 1 rfl rfl)
theorem dX0_take_2 : decode cX0_take 2 = .ok (.invokevirtual 228, 3) := dk_182 0 228 (dk_at dksX0_take_0 2 rfl rfl)
theorem dX0_take_5 : decode cX0_take 5 = .ok (.ifCond .eq 38, 3) := dk_153 0 38 (dk_at dksX0_take_0 5 rfl rfl)
theorem dX0_take_8 : decode cX0_take 8 = .ok (.aload_n 0, 1) := dk_42 (dk_at dksX0_take_0 8 rfl rfl)
theorem dX0_take_9 : decode cX0_take 9 = .ok (.getfield 28, 3) := dk_180 0 28 (dk_at dksX0_take_0 9 rfl rfl)
theorem dX0_take_12 : decode cX0_take 12 = .ok (.getfield 234, 3) := dk_180 0 234 (dk_at dksX0_take_0 12 rfl rfl)
theorem dX0_take_15 : decode cX0_take 15 = .ok (.iload_n 1, 1) := dk_27 (dk_at dksX0_take_0 15 rfl rfl)
theorem dX0_take_16 : decode cX0_take 16 = .ok (.iaload, 1) := dk_46 (dk_at dksX0_take_0 16 rfl rfl)
theorem dX0_take_17 : decode cX0_take 17 = .ok (.ifCond .lt 26, 3) := dk_155 0 26 (dk_at dksX0_take_0 17 rfl rfl)
theorem dX0_take_20 : decode cX0_take 20 = .ok (.aload_n 0, 1) := dk_42 (dk_at dksX0_take_0 20 rfl rfl)
theorem dX0_take_21 : decode cX0_take 21 = .ok (.getfield 28, 3) := dk_180 0 28 (dk_at dksX0_take_0 21 rfl rfl)
theorem dX0_take_24 : decode cX0_take 24 = .ok (.aload_n 0, 1) := dk_42 (dk_at dksX0_take_1 0 rfl rfl)
theorem dX0_take_25 : decode cX0_take 25 = .ok (.getfield 19, 3) := dk_180 0 19 (dk_at dksX0_take_1 1 rfl rfl)
theorem dX0_take_28 : decode cX0_take 28 = .ok (.aload_n 0, 1) := dk_42 (dk_at dksX0_take_1 4 rfl rfl)
theorem dX0_take_29 : decode cX0_take 29 = .ok (.getfield 28, 3) := dk_180 0 28 (dk_at dksX0_take_1 5 rfl rfl)
theorem dX0_take_32 : decode cX0_take 32 = .ok (.getfield 234, 3) := dk_180 0 234 (dk_at dksX0_take_1 8 rfl rfl)
theorem dX0_take_35 : decode cX0_take 35 = .ok (.iload_n 1, 1) := dk_27 (dk_at dksX0_take_1 11 rfl rfl)
theorem dX0_take_36 : decode cX0_take 36 = .ok (.iaload, 1) := dk_46 (dk_at dksX0_take_1 12 rfl rfl)
theorem dX0_take_37 : decode cX0_take 37 = .ok (.invokevirtual 268, 3) := dk_182 1 12 (dk_at dksX0_take_1 13 rfl rfl)
theorem dX0_take_40 : decode cX0_take 40 = .ok (.ifCond .ne 5, 3) := dk_154 0 5 (dk_at dksX0_take_1 16 rfl rfl)
theorem dX0_take_43 : decode cX0_take 43 = .ok (.iconst (-1), 1) := dk_2 (dk_at dksX0_take_1 19 rfl rfl)
theorem dX0_take_44 : decode cX0_take 44 = .ok (.ireturn, 1) := dk_172 (dk_at dksX0_take_1 20 rfl rfl)
theorem dX0_take_45 : decode cX0_take 45 = .ok (.aload_n 0, 1) := dk_42 (dk_at dksX0_take_1 21 rfl rfl)
theorem dX0_take_46 : decode cX0_take 46 = .ok (.invokevirtual 255, 3) := dk_182 0 255 (dk_at dksX0_take_2 0 rfl rfl)
theorem dX0_take_49 : decode cX0_take 49 = .ok (.aload_n 0, 1) := dk_42 (dk_at dksX0_take_2 3 rfl rfl)
theorem dX0_take_50 : decode cX0_take 50 = .ok (.getfield 28, 3) := dk_180 0 28 (dk_at dksX0_take_2 4 rfl rfl)
theorem dX0_take_53 : decode cX0_take 53 = .ok (.getfield 234, 3) := dk_180 0 234 (dk_at dksX0_take_2 7 rfl rfl)
theorem dX0_take_56 : decode cX0_take 56 = .ok (.iload_n 1, 1) := dk_27 (dk_at dksX0_take_2 10 rfl rfl)
theorem dX0_take_57 : decode cX0_take 57 = .ok (.iaload, 1) := dk_46 (dk_at dksX0_take_2 11 rfl rfl)
theorem dX0_take_58 : decode cX0_take 58 = .ok (.istore_n 2, 1) := dk_61 (dk_at dksX0_take_2 12 rfl rfl)
theorem dX0_take_59 : decode cX0_take 59 = .ok (.aload_n 0, 1) := dk_42 (dk_at dksX0_take_2 13 rfl rfl)
theorem dX0_take_60 : decode cX0_take 60 = .ok (.getfield 28, 3) := dk_180 0 28 (dk_at dksX0_take_2 14 rfl rfl)
theorem dX0_take_63 : decode cX0_take 63 = .ok (.getfield 234, 3) := dk_180 0 234 (dk_at dksX0_take_2 17 rfl rfl)
theorem dX0_take_66 : decode cX0_take 66 = .ok (.iload_n 1, 1) := dk_27 (dk_at dksX0_take_2 20 rfl rfl)
theorem dX0_take_67 : decode cX0_take 67 = .ok (.aload_n 0, 1) := dk_42 (dk_at dksX0_take_2 21 rfl rfl)
theorem dX0_take_68 : decode cX0_take 68 = .ok (.getfield 28, 3) := dk_180 0 28 (dk_at dksX0_take_3 0 rfl rfl)
theorem dX0_take_71 : decode cX0_take 71 = .ok (.aload_n 0, 1) := dk_42 (dk_at dksX0_take_3 3 rfl rfl)
theorem dX0_take_72 : decode cX0_take 72 = .ok (.getfield 19, 3) := dk_180 0 19 (dk_at dksX0_take_3 4 rfl rfl)
theorem dX0_take_75 : decode cX0_take 75 = .ok (.iload_n 2, 1) := dk_28 (dk_at dksX0_take_3 7 rfl rfl)
theorem dX0_take_76 : decode cX0_take 76 = .ok (.invokevirtual 268, 3) := dk_182 1 12 (dk_at dksX0_take_3 8 rfl rfl)
theorem dX0_take_79 : decode cX0_take 79 = .ok (.iastore, 1) := dk_79 (dk_at dksX0_take_3 11 rfl rfl)
theorem dX0_take_80 : decode cX0_take 80 = .ok (.iload_n 2, 1) := dk_28 (dk_at dksX0_take_3 12 rfl rfl)
theorem dX0_take_81 : decode cX0_take 81 = .ok (.ireturn, 1) := dk_172 (dk_at dksX0_take_3 13 rfl rfl)
abbrev cX0_cool : ByteArray := prog_1_method_27_code
def yX0_cool : MethodName := ⟨RX0, "cool", "(II)I"⟩
def dkwX0_cool_2 : List UInt8 := [79, 42, 180, 0, 28, 180, 0, 206, 27, 46, 172]
abbrev dktX0_cool_2 : List UInt8 := dkwX0_cool_2 ++ []
def dkwX0_cool_1 : List UInt8 := [42, 180, 0, 28, 180, 0, 206, 27, 42, 180, 0, 28, 180, 0, 206, 27, 46, 28, 100, 16, 99, 184, 1, 19]
abbrev dktX0_cool_1 : List UInt8 := dkwX0_cool_1 ++ dktX0_cool_2
def dkwX0_cool_0 : List UInt8 := [42, 27, 182, 0, 191, 153, 0, 13, 28, 4, 16, 9, 184, 0, 160, 154, 0, 5, 2, 172, 42, 182, 0, 255]
abbrev dktX0_cool_0 : List UInt8 := dkwX0_cool_0 ++ dktX0_cool_1
theorem dksX0_cool_0 : cX0_cool.data.toList.drop 0 = dktX0_cool_0 := by decide +kernel
theorem dksX0_cool_1 : cX0_cool.data.toList.drop 24 = dktX0_cool_1 := dk_seg dksX0_cool_0 24 rfl rfl
theorem dksX0_cool_2 : cX0_cool.data.toList.drop 48 = dktX0_cool_2 := dk_seg dksX0_cool_1 24 rfl rfl
theorem dX0_cool_0 : decode cX0_cool 0 = .ok (.aload_n 0, 1) := dk_42 (dk_at dksX0_cool_0 0 rfl rfl)
theorem dX0_cool_1 : decode cX0_cool 1 = .ok (.iload_n 1, 1) := dk_27 (dk_at dksX0_cool_0 1 rfl rfl)
theorem dX0_cool_2 : decode cX0_cool 2 = .ok (.invokevirtual 191, 3) := dk_182 0 191 (dk_at dksX0_cool_0 2 rfl rfl)
theorem dX0_cool_5 : decode cX0_cool 5 = .ok (.ifCond .eq 13, 3) := dk_153 0 13 (dk_at dksX0_cool_0 5 rfl rfl)
theorem dX0_cool_8 : decode cX0_cool 8 = .ok (.iload_n 2, 1) := dk_28 (dk_at dksX0_cool_0 8 rfl rfl)
theorem dX0_cool_9 : decode cX0_cool 9 = .ok (.iconst 1, 1) := dk_4 (dk_at dksX0_cool_0 9 rfl rfl)
theorem dX0_cool_10 : decode cX0_cool 10 = .ok (.bipush 9, 2) := dk_16 9 (dk_at dksX0_cool_0 10 rfl rfl)
theorem dX0_cool_12 : decode cX0_cool 12 = .ok (.invokestatic 160, 3) := dk_184 0 160 (dk_at dksX0_cool_0 12 rfl rfl)
theorem dX0_cool_15 : decode cX0_cool 15 = .ok (.ifCond .ne 5, 3) := dk_154 0 5 (dk_at dksX0_cool_0 15 rfl rfl)
theorem dX0_cool_18 : decode cX0_cool 18 = .ok (.iconst (-1), 1) := dk_2 (dk_at dksX0_cool_0 18 rfl rfl)
theorem dX0_cool_19 : decode cX0_cool 19 = .ok (.ireturn, 1) := dk_172 (dk_at dksX0_cool_0 19 rfl rfl)
theorem dX0_cool_20 : decode cX0_cool 20 = .ok (.aload_n 0, 1) := dk_42 (dk_at dksX0_cool_0 20 rfl rfl)
theorem dX0_cool_21 : decode cX0_cool 21 = .ok (.invokevirtual 255, 3) := dk_182 0 255 (dk_at dksX0_cool_0 21 rfl rfl)
theorem dX0_cool_24 : decode cX0_cool 24 = .ok (.aload_n 0, 1) := dk_42 (dk_at dksX0_cool_1 0 rfl rfl)
theorem dX0_cool_25 : decode cX0_cool 25 = .ok (.getfield 28, 3) := dk_180 0 28 (dk_at dksX0_cool_1 1 rfl rfl)
theorem dX0_cool_28 : decode cX0_cool 28 = .ok (.getfield 206, 3) := dk_180 0 206 (dk_at dksX0_cool_1 4 rfl rfl)
theorem dX0_cool_31 : decode cX0_cool 31 = .ok (.iload_n 1, 1) := dk_27 (dk_at dksX0_cool_1 7 rfl rfl)
theorem dX0_cool_32 : decode cX0_cool 32 = .ok (.aload_n 0, 1) := dk_42 (dk_at dksX0_cool_1 8 rfl rfl)
theorem dX0_cool_33 : decode cX0_cool 33 = .ok (.getfield 28, 3) := dk_180 0 28 (dk_at dksX0_cool_1 9 rfl rfl)
theorem dX0_cool_36 : decode cX0_cool 36 = .ok (.getfield 206, 3) := dk_180 0 206 (dk_at dksX0_cool_1 12 rfl rfl)
theorem dX0_cool_39 : decode cX0_cool 39 = .ok (.iload_n 1, 1) := dk_27 (dk_at dksX0_cool_1 15 rfl rfl)
theorem dX0_cool_40 : decode cX0_cool 40 = .ok (.iaload, 1) := dk_46 (dk_at dksX0_cool_1 16 rfl rfl)
theorem dX0_cool_41 : decode cX0_cool 41 = .ok (.iload_n 2, 1) := dk_28 (dk_at dksX0_cool_1 17 rfl rfl)
theorem dX0_cool_42 : decode cX0_cool 42 = .ok (.isub, 1) := dk_100 (dk_at dksX0_cool_1 18 rfl rfl)
theorem dX0_cool_43 : decode cX0_cool 43 = .ok (.bipush 99, 2) := dk_16 99 (dk_at dksX0_cool_1 19 rfl rfl)
theorem dX0_cool_45 : decode cX0_cool 45 = .ok (.invokestatic 275, 3) := dk_184 1 19 (dk_at dksX0_cool_1 21 rfl rfl)
theorem dX0_cool_48 : decode cX0_cool 48 = .ok (.iastore, 1) := dk_79 (dk_at dksX0_cool_2 0 rfl rfl)
theorem dX0_cool_49 : decode cX0_cool 49 = .ok (.aload_n 0, 1) := dk_42 (dk_at dksX0_cool_2 1 rfl rfl)
theorem dX0_cool_50 : decode cX0_cool 50 = .ok (.getfield 28, 3) := dk_180 0 28 (dk_at dksX0_cool_2 2 rfl rfl)
theorem dX0_cool_53 : decode cX0_cool 53 = .ok (.getfield 206, 3) := dk_180 0 206 (dk_at dksX0_cool_2 5 rfl rfl)
theorem dX0_cool_56 : decode cX0_cool 56 = .ok (.iload_n 1, 1) := dk_27 (dk_at dksX0_cool_2 8 rfl rfl)
theorem dX0_cool_57 : decode cX0_cool 57 = .ok (.iaload, 1) := dk_46 (dk_at dksX0_cool_2 9 rfl rfl)
theorem dX0_cool_58 : decode cX0_cool 58 = .ok (.ireturn, 1) := dk_172 (dk_at dksX0_cool_2 10 rfl rfl)
abbrev cX0_undo : ByteArray := prog_1_method_28_code
def yX0_undo : MethodName := ⟨RX0, "undo", "()Z"⟩
def dkwX0_undo_1 : List UInt8 := [180, 0, 53, 182, 0, 136, 4, 100, 182, 0, 140, 192, 0, 108, 182, 1, 26, 182, 0, 148, 87, 4, 172]
abbrev dktX0_undo_1 : List UInt8 := dkwX0_undo_1 ++ []
def dkwX0_undo_0 : List UInt8 := [42, 180, 0, 53, 182, 1, 22, 153, 0, 5, 3, 172, 42, 180, 0, 57, 42, 42, 180, 0, 53, 42]
abbrev dktX0_undo_0 : List UInt8 := dkwX0_undo_0 ++ dktX0_undo_1
theorem dksX0_undo_0 : cX0_undo.data.toList.drop 0 = dktX0_undo_0 := by decide +kernel
theorem dksX0_undo_1 : cX0_undo.data.toList.drop 22 = dktX0_undo_1 := dk_seg dksX0_undo_0 22 rfl rfl
theorem dX0_undo_0 : decode cX0_undo 0 = .ok (.aload_n 0, 1) := dk_42 (dk_at dksX0_undo_0 0 rfl rfl)
theorem dX0_undo_1 : decode cX0_undo 1 = .ok (.getfield 53, 3) := dk_180 0 53 (dk_at dksX0_undo_0 1 rfl rfl)
theorem dX0_undo_4 : decode cX0_undo 4 = .ok (.invokevirtual 278, 3) := dk_182 1 22 (dk_at dksX0_undo_0 4 rfl rfl)
theorem dX0_undo_7 : decode cX0_undo 7 = .ok (.ifCond .eq 5, 3) := dk_153 0 5 (dk_at dksX0_undo_0 7 rfl rfl)
theorem dX0_undo_10 : decode cX0_undo 10 = .ok (.iconst 0, 1) := dk_3 (dk_at dksX0_undo_0 10 rfl rfl)
theorem dX0_undo_11 : decode cX0_undo 11 = .ok (.ireturn, 1) := dk_172 (dk_at dksX0_undo_0 11 rfl rfl)
theorem dX0_undo_12 : decode cX0_undo 12 = .ok (.aload_n 0, 1) := dk_42 (dk_at dksX0_undo_0 12 rfl rfl)
theorem dX0_undo_13 : decode cX0_undo 13 = .ok (.getfield 57, 3) := dk_180 0 57 (dk_at dksX0_undo_0 13 rfl rfl)
theorem dX0_undo_16 : decode cX0_undo 16 = .ok (.aload_n 0, 1) := dk_42 (dk_at dksX0_undo_0 16 rfl rfl)
theorem dX0_undo_17 : decode cX0_undo 17 = .ok (.aload_n 0, 1) := dk_42 (dk_at dksX0_undo_0 17 rfl rfl)
theorem dX0_undo_18 : decode cX0_undo 18 = .ok (.getfield 53, 3) := dk_180 0 53 (dk_at dksX0_undo_0 18 rfl rfl)
theorem dX0_undo_21 : decode cX0_undo 21 = .ok (.aload_n 0, 1) := dk_42 (dk_at dksX0_undo_0 21 rfl rfl)
theorem dX0_undo_22 : decode cX0_undo 22 = .ok (.getfield 53, 3) := dk_180 0 53 (dk_at dksX0_undo_1 0 rfl rfl)
theorem dX0_undo_25 : decode cX0_undo 25 = .ok (.invokevirtual 136, 3) := dk_182 0 136 (dk_at dksX0_undo_1 3 rfl rfl)
theorem dX0_undo_28 : decode cX0_undo 28 = .ok (.iconst 1, 1) := dk_4 (dk_at dksX0_undo_1 6 rfl rfl)
theorem dX0_undo_29 : decode cX0_undo 29 = .ok (.isub, 1) := dk_100 (dk_at dksX0_undo_1 7 rfl rfl)
theorem dX0_undo_30 : decode cX0_undo 30 = .ok (.invokevirtual 140, 3) := dk_182 0 140 (dk_at dksX0_undo_1 8 rfl rfl)
theorem dX0_undo_33 : decode cX0_undo 33 = .ok (.checkcast 108, 3) := dk_192 0 108 (dk_at dksX0_undo_1 11 rfl rfl)
theorem dX0_undo_36 : decode cX0_undo 36 = .ok (.invokevirtual 282, 3) := dk_182 1 26 (dk_at dksX0_undo_1 14 rfl rfl)
theorem dX0_undo_39 : decode cX0_undo 39 = .ok (.invokevirtual 148, 3) := dk_182 0 148 (dk_at dksX0_undo_1 17 rfl rfl)
theorem dX0_undo_42 : decode cX0_undo 42 = .ok (.pop, 1) := dk_87 (dk_at dksX0_undo_1 20 rfl rfl)
theorem dX0_undo_43 : decode cX0_undo 43 = .ok (.iconst 1, 1) := dk_4 (dk_at dksX0_undo_1 21 rfl rfl)
theorem dX0_undo_44 : decode cX0_undo 44 = .ok (.ireturn, 1) := dk_172 (dk_at dksX0_undo_1 22 rfl rfl)
abbrev cX0_turned : ByteArray := prog_1_method_9_code
def yX0_turned : MethodName := ⟨RX0, "turned", "(LBoardCrossing$Kept;)LBoardCrossing$Kept;"⟩
def dkwX0_turned_1 : List UInt8 := [43, 176]
abbrev dktX0_turned_1 : List UInt8 := dkwX0_turned_1 ++ []
def dkwX0_turned_0 : List UInt8 := [42, 180, 0, 28, 184, 0, 144, 77, 42, 180, 0, 28, 43, 180, 0, 130, 182, 0, 133, 43, 44, 181, 0, 130]
abbrev dktX0_turned_0 : List UInt8 := dkwX0_turned_0 ++ dktX0_turned_1
theorem dksX0_turned_0 : cX0_turned.data.toList.drop 0 = dktX0_turned_0 := by decide +kernel
theorem dksX0_turned_1 : cX0_turned.data.toList.drop 24 = dktX0_turned_1 := dk_seg dksX0_turned_0 24 rfl rfl
theorem dX0_turned_0 : decode cX0_turned 0 = .ok (.aload_n 0, 1) := dk_42 (dk_at dksX0_turned_0 0 rfl rfl)
theorem dX0_turned_1 : decode cX0_turned 1 = .ok (.getfield 28, 3) := dk_180 0 28 (dk_at dksX0_turned_0 1 rfl rfl)
theorem dX0_turned_4 : decode cX0_turned 4 = .ok (.invokestatic 144, 3) := dk_184 0 144 (dk_at dksX0_turned_0 4 rfl rfl)
theorem dX0_turned_7 : decode cX0_turned 7 = .ok (.astore_n 2, 1) := dk_77 (dk_at dksX0_turned_0 7 rfl rfl)
theorem dX0_turned_8 : decode cX0_turned 8 = .ok (.aload_n 0, 1) := dk_42 (dk_at dksX0_turned_0 8 rfl rfl)
theorem dX0_turned_9 : decode cX0_turned 9 = .ok (.getfield 28, 3) := dk_180 0 28 (dk_at dksX0_turned_0 9 rfl rfl)
theorem dX0_turned_12 : decode cX0_turned 12 = .ok (.aload_n 1, 1) := dk_43 (dk_at dksX0_turned_0 12 rfl rfl)
theorem dX0_turned_13 : decode cX0_turned 13 = .ok (.getfield 130, 3) := dk_180 0 130 (dk_at dksX0_turned_0 13 rfl rfl)
theorem dX0_turned_16 : decode cX0_turned 16 = .ok (.invokevirtual 133, 3) := dk_182 0 133 (dk_at dksX0_turned_0 16 rfl rfl)
theorem dX0_turned_19 : decode cX0_turned 19 = .ok (.aload_n 1, 1) := dk_43 (dk_at dksX0_turned_0 19 rfl rfl)
theorem dX0_turned_20 : decode cX0_turned 20 = .ok (.aload_n 2, 1) := dk_44 (dk_at dksX0_turned_0 20 rfl rfl)
theorem dX0_turned_21 : decode cX0_turned 21 = .ok (.putfield 130, 3) := dk_181 0 130 (dk_at dksX0_turned_0 21 rfl rfl)
theorem dX0_turned_24 : decode cX0_turned 24 = .ok (.aload_n 1, 1) := dk_43 (dk_at dksX0_turned_1 0 rfl rfl)
theorem dX0_turned_25 : decode cX0_turned 25 = .ok (.areturn, 1) := dk_176 (dk_at dksX0_turned_1 1 rfl rfl)
abbrev cX0_redo : ByteArray := prog_1_method_29_code
def yX0_redo : MethodName := ⟨RX0, "redo", "()Z"⟩
def dkwX0_redo_1 : List UInt8 := [180, 0, 57, 182, 0, 136, 4, 100, 182, 0, 140, 192, 0, 108, 182, 1, 26, 182, 0, 148, 87, 4, 172]
abbrev dktX0_redo_1 : List UInt8 := dkwX0_redo_1 ++ []
def dkwX0_redo_0 : List UInt8 := [42, 180, 0, 57, 182, 1, 22, 153, 0, 5, 3, 172, 42, 180, 0, 53, 42, 42, 180, 0, 57, 42]
abbrev dktX0_redo_0 : List UInt8 := dkwX0_redo_0 ++ dktX0_redo_1
theorem dksX0_redo_0 : cX0_redo.data.toList.drop 0 = dktX0_redo_0 := by decide +kernel
theorem dksX0_redo_1 : cX0_redo.data.toList.drop 22 = dktX0_redo_1 := dk_seg dksX0_redo_0 22 rfl rfl
theorem dX0_redo_0 : decode cX0_redo 0 = .ok (.aload_n 0, 1) := dk_42 (dk_at dksX0_redo_0 0 rfl rfl)
theorem dX0_redo_1 : decode cX0_redo 1 = .ok (.getfield 57, 3) := dk_180 0 57 (dk_at dksX0_redo_0 1 rfl rfl)
theorem dX0_redo_4 : decode cX0_redo 4 = .ok (.invokevirtual 278, 3) := dk_182 1 22 (dk_at dksX0_redo_0 4 rfl rfl)
theorem dX0_redo_7 : decode cX0_redo 7 = .ok (.ifCond .eq 5, 3) := dk_153 0 5 (dk_at dksX0_redo_0 7 rfl rfl)
theorem dX0_redo_10 : decode cX0_redo 10 = .ok (.iconst 0, 1) := dk_3 (dk_at dksX0_redo_0 10 rfl rfl)
theorem dX0_redo_11 : decode cX0_redo 11 = .ok (.ireturn, 1) := dk_172 (dk_at dksX0_redo_0 11 rfl rfl)
theorem dX0_redo_12 : decode cX0_redo 12 = .ok (.aload_n 0, 1) := dk_42 (dk_at dksX0_redo_0 12 rfl rfl)
theorem dX0_redo_13 : decode cX0_redo 13 = .ok (.getfield 53, 3) := dk_180 0 53 (dk_at dksX0_redo_0 13 rfl rfl)
theorem dX0_redo_16 : decode cX0_redo 16 = .ok (.aload_n 0, 1) := dk_42 (dk_at dksX0_redo_0 16 rfl rfl)
theorem dX0_redo_17 : decode cX0_redo 17 = .ok (.aload_n 0, 1) := dk_42 (dk_at dksX0_redo_0 17 rfl rfl)
theorem dX0_redo_18 : decode cX0_redo 18 = .ok (.getfield 57, 3) := dk_180 0 57 (dk_at dksX0_redo_0 18 rfl rfl)
theorem dX0_redo_21 : decode cX0_redo 21 = .ok (.aload_n 0, 1) := dk_42 (dk_at dksX0_redo_0 21 rfl rfl)
theorem dX0_redo_22 : decode cX0_redo 22 = .ok (.getfield 57, 3) := dk_180 0 57 (dk_at dksX0_redo_1 0 rfl rfl)
theorem dX0_redo_25 : decode cX0_redo 25 = .ok (.invokevirtual 136, 3) := dk_182 0 136 (dk_at dksX0_redo_1 3 rfl rfl)
theorem dX0_redo_28 : decode cX0_redo 28 = .ok (.iconst 1, 1) := dk_4 (dk_at dksX0_redo_1 6 rfl rfl)
theorem dX0_redo_29 : decode cX0_redo 29 = .ok (.isub, 1) := dk_100 (dk_at dksX0_redo_1 7 rfl rfl)
theorem dX0_redo_30 : decode cX0_redo 30 = .ok (.invokevirtual 140, 3) := dk_182 0 140 (dk_at dksX0_redo_1 8 rfl rfl)
theorem dX0_redo_33 : decode cX0_redo 33 = .ok (.checkcast 108, 3) := dk_192 0 108 (dk_at dksX0_redo_1 11 rfl rfl)
theorem dX0_redo_36 : decode cX0_redo 36 = .ok (.invokevirtual 282, 3) := dk_182 1 26 (dk_at dksX0_redo_1 14 rfl rfl)
theorem dX0_redo_39 : decode cX0_redo 39 = .ok (.invokevirtual 148, 3) := dk_182 0 148 (dk_at dksX0_redo_1 17 rfl rfl)
theorem dX0_redo_42 : decode cX0_redo 42 = .ok (.pop, 1) := dk_87 (dk_at dksX0_redo_1 20 rfl rfl)
theorem dX0_redo_43 : decode cX0_redo 43 = .ok (.iconst 1, 1) := dk_4 (dk_at dksX0_redo_1 21 rfl rfl)
theorem dX0_redo_44 : decode cX0_redo 44 = .ok (.ireturn, 1) := dk_172 (dk_at dksX0_redo_1 22 rfl rfl)
abbrev cX0_lies : ByteArray := prog_1_method_30_code
def yX0_lies : MethodName := ⟨RX0, "lies", "(I)I"⟩
def dkwX0_lies_1 : List UInt8 := [16, 254, 172]
abbrev dktX0_lies_1 : List UInt8 := dkwX0_lies_1 ++ []
def dkwX0_lies_0 : List UInt8 := [27, 3, 42, 180, 0, 127, 4, 100, 184, 0, 160, 153, 0, 12, 42, 180, 0, 60, 27, 46, 167, 0, 5]
abbrev dktX0_lies_0 : List UInt8 := dkwX0_lies_0 ++ dktX0_lies_1
theorem dksX0_lies_0 : cX0_lies.data.toList.drop 0 = dktX0_lies_0 := by decide +kernel
theorem dksX0_lies_1 : cX0_lies.data.toList.drop 23 = dktX0_lies_1 := dk_seg dksX0_lies_0 23 rfl rfl
theorem dX0_lies_0 : decode cX0_lies 0 = .ok (.iload_n 1, 1) := dk_27 (dk_at dksX0_lies_0 0 rfl rfl)
theorem dX0_lies_1 : decode cX0_lies 1 = .ok (.iconst 0, 1) := dk_3 (dk_at dksX0_lies_0 1 rfl rfl)
theorem dX0_lies_2 : decode cX0_lies 2 = .ok (.aload_n 0, 1) := dk_42 (dk_at dksX0_lies_0 2 rfl rfl)
theorem dX0_lies_3 : decode cX0_lies 3 = .ok (.getfield 127, 3) := dk_180 0 127 (dk_at dksX0_lies_0 3 rfl rfl)
theorem dX0_lies_6 : decode cX0_lies 6 = .ok (.iconst 1, 1) := dk_4 (dk_at dksX0_lies_0 6 rfl rfl)
theorem dX0_lies_7 : decode cX0_lies 7 = .ok (.isub, 1) := dk_100 (dk_at dksX0_lies_0 7 rfl rfl)
theorem dX0_lies_8 : decode cX0_lies 8 = .ok (.invokestatic 160, 3) := dk_184 0 160 (dk_at dksX0_lies_0 8 rfl rfl)
theorem dX0_lies_11 : decode cX0_lies 11 = .ok (.ifCond .eq 12, 3) := dk_153 0 12 (dk_at dksX0_lies_0 11 rfl rfl)
theorem dX0_lies_14 : decode cX0_lies 14 = .ok (.aload_n 0, 1) := dk_42 (dk_at dksX0_lies_0 14 rfl rfl)
theorem dX0_lies_15 : decode cX0_lies 15 = .ok (.getfield 60, 3) := dk_180 0 60 (dk_at dksX0_lies_0 15 rfl rfl)
theorem dX0_lies_18 : decode cX0_lies 18 = .ok (.iload_n 1, 1) := dk_27 (dk_at dksX0_lies_0 18 rfl rfl)
theorem dX0_lies_19 : decode cX0_lies 19 = .ok (.iaload, 1) := dk_46 (dk_at dksX0_lies_0 19 rfl rfl)
theorem dX0_lies_20 : decode cX0_lies 20 = .ok (.goto 5, 3) := dk_167 0 5 (dk_at dksX0_lies_0 20 rfl rfl)
theorem dX0_lies_23 : decode cX0_lies 23 = .ok (.bipush (-2), 2) := dk_16 254 (dk_at dksX0_lies_1 0 rfl rfl)
theorem dX0_lies_25 : decode cX0_lies 25 = .ok (.ireturn, 1) := dk_172 (dk_at dksX0_lies_1 2 rfl rfl)
abbrev cX0_landings : ByteArray := prog_1_method_35_code
def yX0_landings : MethodName := ⟨RX0, "landings", "(I)I"⟩
def dkwX0_landings_0 : List UInt8 := [42, 27, 182, 0, 191, 153, 0, 11, 42, 27, 182, 1, 47, 167, 0, 4, 2, 172]
abbrev dktX0_landings_0 : List UInt8 := dkwX0_landings_0 ++ []
theorem dksX0_landings_0 : cX0_landings.data.toList.drop 0 = dktX0_landings_0 := by decide +kernel
theorem dX0_landings_0 : decode cX0_landings 0 = .ok (.aload_n 0, 1) := dk_42 (dk_at dksX0_landings_0 0 rfl rfl)
theorem dX0_landings_1 : decode cX0_landings 1 = .ok (.iload_n 1, 1) := dk_27 (dk_at dksX0_landings_0 1 rfl rfl)
theorem dX0_landings_2 : decode cX0_landings 2 = .ok (.invokevirtual 191, 3) := dk_182 0 191 (dk_at dksX0_landings_0 2 rfl rfl)
theorem dX0_landings_5 : decode cX0_landings 5 = .ok (.ifCond .eq 11, 3) := dk_153 0 11 (dk_at dksX0_landings_0 5 rfl rfl)
theorem dX0_landings_8 : decode cX0_landings 8 = .ok (.aload_n 0, 1) := dk_42 (dk_at dksX0_landings_0 8 rfl rfl)
theorem dX0_landings_9 : decode cX0_landings 9 = .ok (.iload_n 1, 1) := dk_27 (dk_at dksX0_landings_0 9 rfl rfl)
theorem dX0_landings_10 : decode cX0_landings 10 = .ok (.invokevirtual 303, 3) := dk_182 1 47 (dk_at dksX0_landings_0 10 rfl rfl)
theorem dX0_landings_13 : decode cX0_landings 13 = .ok (.goto 4, 3) := dk_167 0 4 (dk_at dksX0_landings_0 13 rfl rfl)
theorem dX0_landings_16 : decode cX0_landings 16 = .ok (.iconst (-1), 1) := dk_2 (dk_at dksX0_landings_0 16 rfl rfl)
theorem dX0_landings_17 : decode cX0_landings 17 = .ok (.ireturn, 1) := dk_172 (dk_at dksX0_landings_0 17 rfl rfl)
abbrev cX0_landingsOf : ByteArray := prog_1_method_34_code
def yX0_landingsOf : MethodName := ⟨RX0, "landingsOf", "(I)I"⟩
def dkwX0_landingsOf_2 : List UInt8 := [132, 4, 1, 167, 255, 218, 29, 172]
abbrev dktX0_landingsOf_2 : List UInt8 := dkwX0_landingsOf_2 ++ []
def dkwX0_landingsOf_1 : List UInt8 := [21, 4, 28, 182, 1, 44, 155, 0, 17, 29, 4, 42, 180, 0, 32, 180, 0, 200, 27, 46, 120, 128, 62]
abbrev dktX0_landingsOf_1 : List UInt8 := dkwX0_landingsOf_1 ++ dktX0_landingsOf_2
def dkwX0_landingsOf_0 : List UInt8 := [42, 27, 182, 1, 41, 61, 3, 62, 3, 54, 4, 21, 4, 6, 28, 184, 1, 30, 162, 0, 34, 42, 27]
abbrev dktX0_landingsOf_0 : List UInt8 := dkwX0_landingsOf_0 ++ dktX0_landingsOf_1
theorem dksX0_landingsOf_0 : cX0_landingsOf.data.toList.drop 0 = dktX0_landingsOf_0 := by decide +kernel
theorem dksX0_landingsOf_1 : cX0_landingsOf.data.toList.drop 23 = dktX0_landingsOf_1 := dk_seg dksX0_landingsOf_0 23 rfl rfl
theorem dksX0_landingsOf_2 : cX0_landingsOf.data.toList.drop 46 = dktX0_landingsOf_2 := dk_seg dksX0_landingsOf_1 23 rfl rfl
theorem dX0_landingsOf_0 : decode cX0_landingsOf 0 = .ok (.aload_n 0, 1) := dk_42 (dk_at dksX0_landingsOf_0 0 rfl rfl)
theorem dX0_landingsOf_1 : decode cX0_landingsOf 1 = .ok (.iload_n 1, 1) := dk_27 (dk_at dksX0_landingsOf_0 1 rfl rfl)
theorem dX0_landingsOf_2 : decode cX0_landingsOf 2 = .ok (.invokevirtual 297, 3) := dk_182 1 41 (dk_at dksX0_landingsOf_0 2 rfl rfl)
theorem dX0_landingsOf_5 : decode cX0_landingsOf 5 = .ok (.istore_n 2, 1) := dk_61 (dk_at dksX0_landingsOf_0 5 rfl rfl)
theorem dX0_landingsOf_6 : decode cX0_landingsOf 6 = .ok (.iconst 0, 1) := dk_3 (dk_at dksX0_landingsOf_0 6 rfl rfl)
theorem dX0_landingsOf_7 : decode cX0_landingsOf 7 = .ok (.istore_n 3, 1) := dk_62 (dk_at dksX0_landingsOf_0 7 rfl rfl)
theorem dX0_landingsOf_8 : decode cX0_landingsOf 8 = .ok (.iconst 0, 1) := dk_3 (dk_at dksX0_landingsOf_0 8 rfl rfl)
theorem dX0_landingsOf_9 : decode cX0_landingsOf 9 = .ok (.istore 4, 2) := dk_54 4 (dk_at dksX0_landingsOf_0 9 rfl rfl)
theorem dX0_landingsOf_11 : decode cX0_landingsOf 11 = .ok (.iload 4, 2) := dk_21 4 (dk_at dksX0_landingsOf_0 11 rfl rfl)
theorem dX0_landingsOf_13 : decode cX0_landingsOf 13 = .ok (.iconst 3, 1) := dk_6 (dk_at dksX0_landingsOf_0 13 rfl rfl)
theorem dX0_landingsOf_14 : decode cX0_landingsOf 14 = .ok (.iload_n 2, 1) := dk_28 (dk_at dksX0_landingsOf_0 14 rfl rfl)
theorem dX0_landingsOf_15 : decode cX0_landingsOf 15 = .ok (.invokestatic 286, 3) := dk_184 1 30 (dk_at dksX0_landingsOf_0 15 rfl rfl)
theorem dX0_landingsOf_18 : decode cX0_landingsOf 18 = .ok (.if_icmp .ge 34, 3) := dk_162 0 34 (dk_at dksX0_landingsOf_0 18 rfl rfl)
theorem dX0_landingsOf_21 : decode cX0_landingsOf 21 = .ok (.aload_n 0, 1) := dk_42 (dk_at dksX0_landingsOf_0 21 rfl rfl)
theorem dX0_landingsOf_22 : decode cX0_landingsOf 22 = .ok (.iload_n 1, 1) := dk_27 (dk_at dksX0_landingsOf_0 22 rfl rfl)
theorem dX0_landingsOf_23 : decode cX0_landingsOf 23 = .ok (.iload 4, 2) := dk_21 4 (dk_at dksX0_landingsOf_1 0 rfl rfl)
theorem dX0_landingsOf_25 : decode cX0_landingsOf 25 = .ok (.iload_n 2, 1) := dk_28 (dk_at dksX0_landingsOf_1 2 rfl rfl)
theorem dX0_landingsOf_26 : decode cX0_landingsOf 26 = .ok (.invokevirtual 300, 3) := dk_182 1 44 (dk_at dksX0_landingsOf_1 3 rfl rfl)
theorem dX0_landingsOf_29 : decode cX0_landingsOf 29 = .ok (.ifCond .lt 17, 3) := dk_155 0 17 (dk_at dksX0_landingsOf_1 6 rfl rfl)
theorem dX0_landingsOf_32 : decode cX0_landingsOf 32 = .ok (.iload_n 3, 1) := dk_29 (dk_at dksX0_landingsOf_1 9 rfl rfl)
theorem dX0_landingsOf_33 : decode cX0_landingsOf 33 = .ok (.iconst 1, 1) := dk_4 (dk_at dksX0_landingsOf_1 10 rfl rfl)
theorem dX0_landingsOf_34 : decode cX0_landingsOf 34 = .ok (.aload_n 0, 1) := dk_42 (dk_at dksX0_landingsOf_1 11 rfl rfl)
theorem dX0_landingsOf_35 : decode cX0_landingsOf 35 = .ok (.getfield 32, 3) := dk_180 0 32 (dk_at dksX0_landingsOf_1 12 rfl rfl)
theorem dX0_landingsOf_38 : decode cX0_landingsOf 38 = .ok (.getfield 200, 3) := dk_180 0 200 (dk_at dksX0_landingsOf_1 15 rfl rfl)
theorem dX0_landingsOf_41 : decode cX0_landingsOf 41 = .ok (.iload_n 1, 1) := dk_27 (dk_at dksX0_landingsOf_1 18 rfl rfl)
theorem dX0_landingsOf_42 : decode cX0_landingsOf 42 = .ok (.iaload, 1) := dk_46 (dk_at dksX0_landingsOf_1 19 rfl rfl)
theorem dX0_landingsOf_43 : decode cX0_landingsOf 43 = .ok (.ishl, 1) := dk_120 (dk_at dksX0_landingsOf_1 20 rfl rfl)
theorem dX0_landingsOf_44 : decode cX0_landingsOf 44 = .ok (.ior, 1) := dk_128 (dk_at dksX0_landingsOf_1 21 rfl rfl)
theorem dX0_landingsOf_45 : decode cX0_landingsOf 45 = .ok (.istore_n 3, 1) := dk_62 (dk_at dksX0_landingsOf_1 22 rfl rfl)
theorem dX0_landingsOf_46 : decode cX0_landingsOf 46 = .ok (.iinc 4 1, 3) := dk_132 4 1 (dk_at dksX0_landingsOf_2 0 rfl rfl)
theorem dX0_landingsOf_49 : decode cX0_landingsOf 49 = .ok (.goto (-38), 3) := dk_167 255 218 (dk_at dksX0_landingsOf_2 3 rfl rfl)
theorem dX0_landingsOf_52 : decode cX0_landingsOf 52 = .ok (.iload_n 3, 1) := dk_29 (dk_at dksX0_landingsOf_2 6 rfl rfl)
theorem dX0_landingsOf_53 : decode cX0_landingsOf 53 = .ok (.ireturn, 1) := dk_172 (dk_at dksX0_landingsOf_2 7 rfl rfl)
abbrev cX0_strokesLeft : ByteArray := prog_1_method_33_code
def yX0_strokesLeft : MethodName := ⟨RX0, "strokesLeft", "(I)I"⟩
def dkwX0_strokesLeft_0 : List UInt8 := [42, 180, 0, 19, 180, 0, 240, 42, 180, 0, 28, 180, 0, 203, 27, 46, 100, 172]
abbrev dktX0_strokesLeft_0 : List UInt8 := dkwX0_strokesLeft_0 ++ []
theorem dksX0_strokesLeft_0 : cX0_strokesLeft.data.toList.drop 0 = dktX0_strokesLeft_0 := by decide +kernel
theorem dX0_strokesLeft_0 : decode cX0_strokesLeft 0 = .ok (.aload_n 0, 1) := dk_42 (dk_at dksX0_strokesLeft_0 0 rfl rfl)
theorem dX0_strokesLeft_1 : decode cX0_strokesLeft 1 = .ok (.getfield 19, 3) := dk_180 0 19 (dk_at dksX0_strokesLeft_0 1 rfl rfl)
theorem dX0_strokesLeft_4 : decode cX0_strokesLeft 4 = .ok (.getfield 240, 3) := dk_180 0 240 (dk_at dksX0_strokesLeft_0 4 rfl rfl)
theorem dX0_strokesLeft_7 : decode cX0_strokesLeft 7 = .ok (.aload_n 0, 1) := dk_42 (dk_at dksX0_strokesLeft_0 7 rfl rfl)
theorem dX0_strokesLeft_8 : decode cX0_strokesLeft 8 = .ok (.getfield 28, 3) := dk_180 0 28 (dk_at dksX0_strokesLeft_0 8 rfl rfl)
theorem dX0_strokesLeft_11 : decode cX0_strokesLeft 11 = .ok (.getfield 203, 3) := dk_180 0 203 (dk_at dksX0_strokesLeft_0 11 rfl rfl)
theorem dX0_strokesLeft_14 : decode cX0_strokesLeft 14 = .ok (.iload_n 1, 1) := dk_27 (dk_at dksX0_strokesLeft_0 14 rfl rfl)
theorem dX0_strokesLeft_15 : decode cX0_strokesLeft 15 = .ok (.iaload, 1) := dk_46 (dk_at dksX0_strokesLeft_0 15 rfl rfl)
theorem dX0_strokesLeft_16 : decode cX0_strokesLeft 16 = .ok (.isub, 1) := dk_100 (dk_at dksX0_strokesLeft_0 16 rfl rfl)
theorem dX0_strokesLeft_17 : decode cX0_strokesLeft 17 = .ok (.ireturn, 1) := dk_172 (dk_at dksX0_strokesLeft_0 17 rfl rfl)
abbrev cX0_power : ByteArray := prog_1_method_4_code
def yX0_power : MethodName := ⟨RX0, "powe\x72", "(II)I"⟩
def dkwX0_power_0 : List UInt8 := [4, 61, 3, 62, 29, 27, 162, 0, 13, 28, 26, 104, 61, 132, 3, 1, 167, 255, 244, 28, 172]
abbrev dktX0_power_0 : List UInt8 := dkwX0_power_0 ++ []
theorem dksX0_power_0 : cX0_power.data.toList.drop 0 = dktX0_power_0 := by decide +kernel
theorem dX0_power_0 : decode cX0_power 0 = .ok (.iconst 1, 1) := dk_4 (dk_at dksX0_power_0 0 rfl rfl)
theorem dX0_power_1 : decode cX0_power 1 = .ok (.istore_n 2, 1) := dk_61 (dk_at dksX0_power_0 1 rfl rfl)
theorem dX0_power_2 : decode cX0_power 2 = .ok (.iconst 0, 1) := dk_3 (dk_at dksX0_power_0 2 rfl rfl)
theorem dX0_power_3 : decode cX0_power 3 = .ok (.istore_n 3, 1) := dk_62 (dk_at dksX0_power_0 3 rfl rfl)
theorem dX0_power_4 : decode cX0_power 4 = .ok (.iload_n 3, 1) := dk_29 (dk_at dksX0_power_0 4 rfl rfl)
theorem dX0_power_5 : decode cX0_power 5 = .ok (.iload_n 1, 1) := dk_27 (dk_at dksX0_power_0 5 rfl rfl)
theorem dX0_power_6 : decode cX0_power 6 = .ok (.if_icmp .ge 13, 3) := dk_162 0 13 (dk_at dksX0_power_0 6 rfl rfl)
theorem dX0_power_9 : decode cX0_power 9 = .ok (.iload_n 2, 1) := dk_28 (dk_at dksX0_power_0 9 rfl rfl)
theorem dX0_power_10 : decode cX0_power 10 = .ok (.iload_n 0, 1) := dk_26 (dk_at dksX0_power_0 10 rfl rfl)
theorem dX0_power_11 : decode cX0_power 11 = .ok (.imul, 1) := dk_104 (dk_at dksX0_power_0 11 rfl rfl)
theorem dX0_power_12 : decode cX0_power 12 = .ok (.istore_n 2, 1) := dk_61 (dk_at dksX0_power_0 12 rfl rfl)
theorem dX0_power_13 : decode cX0_power 13 = .ok (.iinc 3 1, 3) := dk_132 3 1 (dk_at dksX0_power_0 13 rfl rfl)
theorem dX0_power_16 : decode cX0_power 16 = .ok (.goto (-12), 3) := dk_167 255 244 (dk_at dksX0_power_0 16 rfl rfl)
theorem dX0_power_19 : decode cX0_power 19 = .ok (.iload_n 2, 1) := dk_28 (dk_at dksX0_power_0 19 rfl rfl)
theorem dX0_power_20 : decode cX0_power 20 = .ok (.ireturn, 1) := dk_172 (dk_at dksX0_power_0 20 rfl rfl)
abbrev cX0_goRow : ByteArray := prog_1_method_32_code
def yX0_goRow : MethodName := ⟨RX0, "goRow", "(III)I"⟩
def dkwX0_goRow_3 : List UInt8 := [167, 255, 204, 21, 4, 172]
abbrev dktX0_goRow_3 : List UInt8 := dkwX0_goRow_3 ++ []
def dkwX0_goRow_2 : List UInt8 := [180, 0, 19, 27, 21, 6, 4, 3, 182, 1, 8, 5, 112, 4, 160, 0, 5, 2, 172, 132, 5, 1]
abbrev dktX0_goRow_2 : List UInt8 := dkwX0_goRow_2 ++ dktX0_goRow_3
def dkwX0_goRow_1 : List UInt8 := [29, 21, 5, 184, 1, 33, 54, 6, 21, 4, 21, 6, 184, 1, 37, 96, 54, 4, 42, 180, 0, 32, 42]
abbrev dktX0_goRow_1 : List UInt8 := dkwX0_goRow_1 ++ dktX0_goRow_2
def dkwX0_goRow_0 : List UInt8 := [42, 180, 0, 32, 42, 180, 0, 28, 182, 0, 133, 3, 54, 4, 3, 54, 5, 21, 5, 29, 162, 0, 52, 28]
abbrev dktX0_goRow_0 : List UInt8 := dkwX0_goRow_0 ++ dktX0_goRow_1
theorem dksX0_goRow_0 : cX0_goRow.data.toList.drop 0 = dktX0_goRow_0 := by decide +kernel
theorem dksX0_goRow_1 : cX0_goRow.data.toList.drop 24 = dktX0_goRow_1 := dk_seg dksX0_goRow_0 24 rfl rfl
theorem dksX0_goRow_2 : cX0_goRow.data.toList.drop 47 = dktX0_goRow_2 := dk_seg dksX0_goRow_1 23 rfl rfl
theorem dksX0_goRow_3 : cX0_goRow.data.toList.drop 69 = dktX0_goRow_3 := dk_seg dksX0_goRow_2 22 rfl rfl
theorem dX0_goRow_0 : decode cX0_goRow 0 = .ok (.aload_n 0, 1) := dk_42 (dk_at dksX0_goRow_0 0 rfl rfl)
theorem dX0_goRow_1 : decode cX0_goRow 1 = .ok (.getfield 32, 3) := dk_180 0 32 (dk_at dksX0_goRow_0 1 rfl rfl)
theorem dX0_goRow_4 : decode cX0_goRow 4 = .ok (.aload_n 0, 1) := dk_42 (dk_at dksX0_goRow_0 4 rfl rfl)
theorem dX0_goRow_5 : decode cX0_goRow 5 = .ok (.getfield 28, 3) := dk_180 0 28 (dk_at dksX0_goRow_0 5 rfl rfl)
theorem dX0_goRow_8 : decode cX0_goRow 8 = .ok (.invokevirtual 133, 3) := dk_182 0 133 (dk_at dksX0_goRow_0 8 rfl rfl)
theorem dX0_goRow_11 : decode cX0_goRow 11 = .ok (.iconst 0, 1) := dk_3 (dk_at dksX0_goRow_0 11 rfl rfl)
theorem dX0_goRow_12 : decode cX0_goRow 12 = .ok (.istore 4, 2) := dk_54 4 (dk_at dksX0_goRow_0 12 rfl rfl)
theorem dX0_goRow_14 : decode cX0_goRow 14 = .ok (.iconst 0, 1) := dk_3 (dk_at dksX0_goRow_0 14 rfl rfl)
theorem dX0_goRow_15 : decode cX0_goRow 15 = .ok (.istore 5, 2) := dk_54 5 (dk_at dksX0_goRow_0 15 rfl rfl)
theorem dX0_goRow_17 : decode cX0_goRow 17 = .ok (.iload 5, 2) := dk_21 5 (dk_at dksX0_goRow_0 17 rfl rfl)
theorem dX0_goRow_19 : decode cX0_goRow 19 = .ok (.iload_n 3, 1) := dk_29 (dk_at dksX0_goRow_0 19 rfl rfl)
theorem dX0_goRow_20 : decode cX0_goRow 20 = .ok (.if_icmp .ge 52, 3) := dk_162 0 52 (dk_at dksX0_goRow_0 20 rfl rfl)
theorem dX0_goRow_23 : decode cX0_goRow 23 = .ok (.iload_n 2, 1) := dk_28 (dk_at dksX0_goRow_0 23 rfl rfl)
theorem dX0_goRow_24 : decode cX0_goRow 24 = .ok (.iload_n 3, 1) := dk_29 (dk_at dksX0_goRow_1 0 rfl rfl)
theorem dX0_goRow_25 : decode cX0_goRow 25 = .ok (.iload 5, 2) := dk_21 5 (dk_at dksX0_goRow_1 1 rfl rfl)
theorem dX0_goRow_27 : decode cX0_goRow 27 = .ok (.invokestatic 289, 3) := dk_184 1 33 (dk_at dksX0_goRow_1 3 rfl rfl)
theorem dX0_goRow_30 : decode cX0_goRow 30 = .ok (.istore 6, 2) := dk_54 6 (dk_at dksX0_goRow_1 6 rfl rfl)
theorem dX0_goRow_32 : decode cX0_goRow 32 = .ok (.iload 4, 2) := dk_21 4 (dk_at dksX0_goRow_1 8 rfl rfl)
theorem dX0_goRow_34 : decode cX0_goRow 34 = .ok (.iload 6, 2) := dk_21 6 (dk_at dksX0_goRow_1 10 rfl rfl)
theorem dX0_goRow_36 : decode cX0_goRow 36 = .ok (.invokestatic 293, 3) := dk_184 1 37 (dk_at dksX0_goRow_1 12 rfl rfl)
theorem dX0_goRow_39 : decode cX0_goRow 39 = .ok (.iadd, 1) := dk_96 (dk_at dksX0_goRow_1 15 rfl rfl)
theorem dX0_goRow_40 : decode cX0_goRow 40 = .ok (.istore 4, 2) := dk_54 4 (dk_at dksX0_goRow_1 16 rfl rfl)
theorem dX0_goRow_42 : decode cX0_goRow 42 = .ok (.aload_n 0, 1) := dk_42 (dk_at dksX0_goRow_1 18 rfl rfl)
theorem dX0_goRow_43 : decode cX0_goRow 43 = .ok (.getfield 32, 3) := dk_180 0 32 (dk_at dksX0_goRow_1 19 rfl rfl)
theorem dX0_goRow_46 : decode cX0_goRow 46 = .ok (.aload_n 0, 1) := dk_42 (dk_at dksX0_goRow_1 22 rfl rfl)
theorem dX0_goRow_47 : decode cX0_goRow 47 = .ok (.getfield 19, 3) := dk_180 0 19 (dk_at dksX0_goRow_2 0 rfl rfl)
theorem dX0_goRow_50 : decode cX0_goRow 50 = .ok (.iload_n 1, 1) := dk_27 (dk_at dksX0_goRow_2 3 rfl rfl)
theorem dX0_goRow_51 : decode cX0_goRow 51 = .ok (.iload 6, 2) := dk_21 6 (dk_at dksX0_goRow_2 4 rfl rfl)
theorem dX0_goRow_53 : decode cX0_goRow 53 = .ok (.iconst 1, 1) := dk_4 (dk_at dksX0_goRow_2 6 rfl rfl)
theorem dX0_goRow_54 : decode cX0_goRow 54 = .ok (.iconst 0, 1) := dk_3 (dk_at dksX0_goRow_2 7 rfl rfl)
theorem dX0_goRow_55 : decode cX0_goRow 55 = .ok (.invokevirtual 264, 3) := dk_182 1 8 (dk_at dksX0_goRow_2 8 rfl rfl)
theorem dX0_goRow_58 : decode cX0_goRow 58 = .ok (.iconst 2, 1) := dk_5 (dk_at dksX0_goRow_2 11 rfl rfl)
theorem dX0_goRow_59 : decode cX0_goRow 59 = .ok (.irem, 1) := dk_112 (dk_at dksX0_goRow_2 12 rfl rfl)
theorem dX0_goRow_60 : decode cX0_goRow 60 = .ok (.iconst 1, 1) := dk_4 (dk_at dksX0_goRow_2 13 rfl rfl)
theorem dX0_goRow_61 : decode cX0_goRow 61 = .ok (.if_icmp .ne 5, 3) := dk_160 0 5 (dk_at dksX0_goRow_2 14 rfl rfl)
theorem dX0_goRow_64 : decode cX0_goRow 64 = .ok (.iconst (-1), 1) := dk_2 (dk_at dksX0_goRow_2 17 rfl rfl)
theorem dX0_goRow_65 : decode cX0_goRow 65 = .ok (.ireturn, 1) := dk_172 (dk_at dksX0_goRow_2 18 rfl rfl)
theorem dX0_goRow_66 : decode cX0_goRow 66 = .ok (.iinc 5 1, 3) := dk_132 5 1 (dk_at dksX0_goRow_2 19 rfl rfl)
theorem dX0_goRow_69 : decode cX0_goRow 69 = .ok (.goto (-52), 3) := dk_167 255 204 (dk_at dksX0_goRow_3 0 rfl rfl)
theorem dX0_goRow_72 : decode cX0_goRow 72 = .ok (.iload 4, 2) := dk_21 4 (dk_at dksX0_goRow_3 3 rfl rfl)
theorem dX0_goRow_74 : decode cX0_goRow 74 = .ok (.ireturn, 1) := dk_172 (dk_at dksX0_goRow_3 5 rfl rfl)
abbrev cX0_steerOf : ByteArray := prog_1_method_31_code
def yX0_steerOf : MethodName := ⟨RX0, "steerOf", "(III)I"⟩
def dkwX0_steerOf_0 : List UInt8 := [26, 6, 27, 4, 100, 28, 100, 184, 1, 30, 108, 6, 112, 4, 100, 172]
abbrev dktX0_steerOf_0 : List UInt8 := dkwX0_steerOf_0 ++ []
theorem dksX0_steerOf_0 : cX0_steerOf.data.toList.drop 0 = dktX0_steerOf_0 := by decide +kernel
theorem dX0_steerOf_0 : decode cX0_steerOf 0 = .ok (.iload_n 0, 1) := dk_26 (dk_at dksX0_steerOf_0 0 rfl rfl)
theorem dX0_steerOf_1 : decode cX0_steerOf 1 = .ok (.iconst 3, 1) := dk_6 (dk_at dksX0_steerOf_0 1 rfl rfl)
theorem dX0_steerOf_2 : decode cX0_steerOf 2 = .ok (.iload_n 1, 1) := dk_27 (dk_at dksX0_steerOf_0 2 rfl rfl)
theorem dX0_steerOf_3 : decode cX0_steerOf 3 = .ok (.iconst 1, 1) := dk_4 (dk_at dksX0_steerOf_0 3 rfl rfl)
theorem dX0_steerOf_4 : decode cX0_steerOf 4 = .ok (.isub, 1) := dk_100 (dk_at dksX0_steerOf_0 4 rfl rfl)
theorem dX0_steerOf_5 : decode cX0_steerOf 5 = .ok (.iload_n 2, 1) := dk_28 (dk_at dksX0_steerOf_0 5 rfl rfl)
theorem dX0_steerOf_6 : decode cX0_steerOf 6 = .ok (.isub, 1) := dk_100 (dk_at dksX0_steerOf_0 6 rfl rfl)
theorem dX0_steerOf_7 : decode cX0_steerOf 7 = .ok (.invokestatic 286, 3) := dk_184 1 30 (dk_at dksX0_steerOf_0 7 rfl rfl)
theorem dX0_steerOf_10 : decode cX0_steerOf 10 = .ok (.idiv, 1) := dk_108 (dk_at dksX0_steerOf_0 10 rfl rfl)
theorem dX0_steerOf_11 : decode cX0_steerOf 11 = .ok (.iconst 3, 1) := dk_6 (dk_at dksX0_steerOf_0 11 rfl rfl)
theorem dX0_steerOf_12 : decode cX0_steerOf 12 = .ok (.irem, 1) := dk_112 (dk_at dksX0_steerOf_0 12 rfl rfl)
theorem dX0_steerOf_13 : decode cX0_steerOf 13 = .ok (.iconst 1, 1) := dk_4 (dk_at dksX0_steerOf_0 13 rfl rfl)
theorem dX0_steerOf_14 : decode cX0_steerOf 14 = .ok (.isub, 1) := dk_100 (dk_at dksX0_steerOf_0 14 rfl rfl)
theorem dX0_steerOf_15 : decode cX0_steerOf 15 = .ok (.ireturn, 1) := dk_172 (dk_at dksX0_steerOf_0 15 rfl rfl)
abbrev cX0_rows : ByteArray := prog_1_method_36_code
def yX0_rows : MethodName := ⟨RX0, "rows", "(I)I"⟩
def dkwX0_rows_2 : List UInt8 := [96, 62, 132, 4, 1, 167, 255, 224, 29, 172]
abbrev dktX0_rows_2 : List UInt8 := dkwX0_rows_2 ++ []
def dkwX0_rows_1 : List UInt8 := [28, 184, 1, 30, 162, 0, 28, 29, 42, 27, 21, 4, 28, 182, 1, 44, 155, 0, 7, 4, 167, 0, 4, 3]
abbrev dktX0_rows_1 : List UInt8 := dkwX0_rows_1 ++ dktX0_rows_2
def dkwX0_rows_0 : List UInt8 := [42, 27, 182, 0, 191, 154, 0, 5, 2, 172, 42, 27, 182, 1, 41, 61, 3, 62, 3, 54, 4, 21, 4, 6]
abbrev dktX0_rows_0 : List UInt8 := dkwX0_rows_0 ++ dktX0_rows_1
theorem dksX0_rows_0 : cX0_rows.data.toList.drop 0 = dktX0_rows_0 := by decide +kernel
theorem dksX0_rows_1 : cX0_rows.data.toList.drop 24 = dktX0_rows_1 := dk_seg dksX0_rows_0 24 rfl rfl
theorem dksX0_rows_2 : cX0_rows.data.toList.drop 48 = dktX0_rows_2 := dk_seg dksX0_rows_1 24 rfl rfl
theorem dX0_rows_0 : decode cX0_rows 0 = .ok (.aload_n 0, 1) := dk_42 (dk_at dksX0_rows_0 0 rfl rfl)
theorem dX0_rows_1 : decode cX0_rows 1 = .ok (.iload_n 1, 1) := dk_27 (dk_at dksX0_rows_0 1 rfl rfl)
theorem dX0_rows_2 : decode cX0_rows 2 = .ok (.invokevirtual 191, 3) := dk_182 0 191 (dk_at dksX0_rows_0 2 rfl rfl)
theorem dX0_rows_5 : decode cX0_rows 5 = .ok (.ifCond .ne 5, 3) := dk_154 0 5 (dk_at dksX0_rows_0 5 rfl rfl)
theorem dX0_rows_8 : decode cX0_rows 8 = .ok (.iconst (-1), 1) := dk_2 (dk_at dksX0_rows_0 8 rfl rfl)
theorem dX0_rows_9 : decode cX0_rows 9 = .ok (.ireturn, 1) := dk_172 (dk_at dksX0_rows_0 9 rfl rfl)
theorem dX0_rows_10 : decode cX0_rows 10 = .ok (.aload_n 0, 1) := dk_42 (dk_at dksX0_rows_0 10 rfl rfl)
theorem dX0_rows_11 : decode cX0_rows 11 = .ok (.iload_n 1, 1) := dk_27 (dk_at dksX0_rows_0 11 rfl rfl)
theorem dX0_rows_12 : decode cX0_rows 12 = .ok (.invokevirtual 297, 3) := dk_182 1 41 (dk_at dksX0_rows_0 12 rfl rfl)
theorem dX0_rows_15 : decode cX0_rows 15 = .ok (.istore_n 2, 1) := dk_61 (dk_at dksX0_rows_0 15 rfl rfl)
theorem dX0_rows_16 : decode cX0_rows 16 = .ok (.iconst 0, 1) := dk_3 (dk_at dksX0_rows_0 16 rfl rfl)
theorem dX0_rows_17 : decode cX0_rows 17 = .ok (.istore_n 3, 1) := dk_62 (dk_at dksX0_rows_0 17 rfl rfl)
theorem dX0_rows_18 : decode cX0_rows 18 = .ok (.iconst 0, 1) := dk_3 (dk_at dksX0_rows_0 18 rfl rfl)
theorem dX0_rows_19 : decode cX0_rows 19 = .ok (.istore 4, 2) := dk_54 4 (dk_at dksX0_rows_0 19 rfl rfl)
theorem dX0_rows_21 : decode cX0_rows 21 = .ok (.iload 4, 2) := dk_21 4 (dk_at dksX0_rows_0 21 rfl rfl)
theorem dX0_rows_23 : decode cX0_rows 23 = .ok (.iconst 3, 1) := dk_6 (dk_at dksX0_rows_0 23 rfl rfl)
theorem dX0_rows_24 : decode cX0_rows 24 = .ok (.iload_n 2, 1) := dk_28 (dk_at dksX0_rows_1 0 rfl rfl)
theorem dX0_rows_25 : decode cX0_rows 25 = .ok (.invokestatic 286, 3) := dk_184 1 30 (dk_at dksX0_rows_1 1 rfl rfl)
theorem dX0_rows_28 : decode cX0_rows 28 = .ok (.if_icmp .ge 28, 3) := dk_162 0 28 (dk_at dksX0_rows_1 4 rfl rfl)
theorem dX0_rows_31 : decode cX0_rows 31 = .ok (.iload_n 3, 1) := dk_29 (dk_at dksX0_rows_1 7 rfl rfl)
theorem dX0_rows_32 : decode cX0_rows 32 = .ok (.aload_n 0, 1) := dk_42 (dk_at dksX0_rows_1 8 rfl rfl)
theorem dX0_rows_33 : decode cX0_rows 33 = .ok (.iload_n 1, 1) := dk_27 (dk_at dksX0_rows_1 9 rfl rfl)
theorem dX0_rows_34 : decode cX0_rows 34 = .ok (.iload 4, 2) := dk_21 4 (dk_at dksX0_rows_1 10 rfl rfl)
theorem dX0_rows_36 : decode cX0_rows 36 = .ok (.iload_n 2, 1) := dk_28 (dk_at dksX0_rows_1 12 rfl rfl)
theorem dX0_rows_37 : decode cX0_rows 37 = .ok (.invokevirtual 300, 3) := dk_182 1 44 (dk_at dksX0_rows_1 13 rfl rfl)
theorem dX0_rows_40 : decode cX0_rows 40 = .ok (.ifCond .lt 7, 3) := dk_155 0 7 (dk_at dksX0_rows_1 16 rfl rfl)
theorem dX0_rows_43 : decode cX0_rows 43 = .ok (.iconst 1, 1) := dk_4 (dk_at dksX0_rows_1 19 rfl rfl)
theorem dX0_rows_44 : decode cX0_rows 44 = .ok (.goto 4, 3) := dk_167 0 4 (dk_at dksX0_rows_1 20 rfl rfl)
theorem dX0_rows_47 : decode cX0_rows 47 = .ok (.iconst 0, 1) := dk_3 (dk_at dksX0_rows_1 23 rfl rfl)
theorem dX0_rows_48 : decode cX0_rows 48 = .ok (.iadd, 1) := dk_96 (dk_at dksX0_rows_2 0 rfl rfl)
theorem dX0_rows_49 : decode cX0_rows 49 = .ok (.istore_n 3, 1) := dk_62 (dk_at dksX0_rows_2 1 rfl rfl)
theorem dX0_rows_50 : decode cX0_rows 50 = .ok (.iinc 4 1, 3) := dk_132 4 1 (dk_at dksX0_rows_2 2 rfl rfl)
theorem dX0_rows_53 : decode cX0_rows 53 = .ok (.goto (-32), 3) := dk_167 255 224 (dk_at dksX0_rows_2 5 rfl rfl)
theorem dX0_rows_56 : decode cX0_rows 56 = .ok (.iload_n 3, 1) := dk_29 (dk_at dksX0_rows_2 8 rfl rfl)
theorem dX0_rows_57 : decode cX0_rows 57 = .ok (.ireturn, 1) := dk_172 (dk_at dksX0_rows_2 9 rfl rfl)
abbrev cX0_drift : ByteArray := prog_1_method_38_code
def yX0_drift : MethodName := ⟨RX0, "drift", "(I)I"⟩
def dkwX0_drift_1 : List UInt8 := [182, 1, 44, 156, 0, 7, 2, 167, 0, 12, 42, 180, 0, 32, 180, 0, 200, 27, 46, 172]
abbrev dktX0_drift_1 : List UInt8 := dkwX0_drift_1 ++ []
def dkwX0_drift_0 : List UInt8 := [42, 27, 182, 0, 191, 154, 0, 5, 2, 172, 42, 27, 182, 1, 41, 61, 42, 27, 28, 184, 1, 50, 28]
abbrev dktX0_drift_0 : List UInt8 := dkwX0_drift_0 ++ dktX0_drift_1
theorem dksX0_drift_0 : cX0_drift.data.toList.drop 0 = dktX0_drift_0 := by decide +kernel
theorem dksX0_drift_1 : cX0_drift.data.toList.drop 23 = dktX0_drift_1 := dk_seg dksX0_drift_0 23 rfl rfl
theorem dX0_drift_0 : decode cX0_drift 0 = .ok (.aload_n 0, 1) := dk_42 (dk_at dksX0_drift_0 0 rfl rfl)
theorem dX0_drift_1 : decode cX0_drift 1 = .ok (.iload_n 1, 1) := dk_27 (dk_at dksX0_drift_0 1 rfl rfl)
theorem dX0_drift_2 : decode cX0_drift 2 = .ok (.invokevirtual 191, 3) := dk_182 0 191 (dk_at dksX0_drift_0 2 rfl rfl)
theorem dX0_drift_5 : decode cX0_drift 5 = .ok (.ifCond .ne 5, 3) := dk_154 0 5 (dk_at dksX0_drift_0 5 rfl rfl)
theorem dX0_drift_8 : decode cX0_drift 8 = .ok (.iconst (-1), 1) := dk_2 (dk_at dksX0_drift_0 8 rfl rfl)
theorem dX0_drift_9 : decode cX0_drift 9 = .ok (.ireturn, 1) := dk_172 (dk_at dksX0_drift_0 9 rfl rfl)
theorem dX0_drift_10 : decode cX0_drift 10 = .ok (.aload_n 0, 1) := dk_42 (dk_at dksX0_drift_0 10 rfl rfl)
theorem dX0_drift_11 : decode cX0_drift 11 = .ok (.iload_n 1, 1) := dk_27 (dk_at dksX0_drift_0 11 rfl rfl)
theorem dX0_drift_12 : decode cX0_drift 12 = .ok (.invokevirtual 297, 3) := dk_182 1 41 (dk_at dksX0_drift_0 12 rfl rfl)
theorem dX0_drift_15 : decode cX0_drift 15 = .ok (.istore_n 2, 1) := dk_61 (dk_at dksX0_drift_0 15 rfl rfl)
theorem dX0_drift_16 : decode cX0_drift 16 = .ok (.aload_n 0, 1) := dk_42 (dk_at dksX0_drift_0 16 rfl rfl)
theorem dX0_drift_17 : decode cX0_drift 17 = .ok (.iload_n 1, 1) := dk_27 (dk_at dksX0_drift_0 17 rfl rfl)
theorem dX0_drift_18 : decode cX0_drift 18 = .ok (.iload_n 2, 1) := dk_28 (dk_at dksX0_drift_0 18 rfl rfl)
theorem dX0_drift_19 : decode cX0_drift 19 = .ok (.invokestatic 306, 3) := dk_184 1 50 (dk_at dksX0_drift_0 19 rfl rfl)
theorem dX0_drift_22 : decode cX0_drift 22 = .ok (.iload_n 2, 1) := dk_28 (dk_at dksX0_drift_0 22 rfl rfl)
theorem dX0_drift_23 : decode cX0_drift 23 = .ok (.invokevirtual 300, 3) := dk_182 1 44 (dk_at dksX0_drift_1 0 rfl rfl)
theorem dX0_drift_26 : decode cX0_drift 26 = .ok (.ifCond .ge 7, 3) := dk_156 0 7 (dk_at dksX0_drift_1 3 rfl rfl)
theorem dX0_drift_29 : decode cX0_drift 29 = .ok (.iconst (-1), 1) := dk_2 (dk_at dksX0_drift_1 6 rfl rfl)
theorem dX0_drift_30 : decode cX0_drift 30 = .ok (.goto 12, 3) := dk_167 0 12 (dk_at dksX0_drift_1 7 rfl rfl)
theorem dX0_drift_33 : decode cX0_drift 33 = .ok (.aload_n 0, 1) := dk_42 (dk_at dksX0_drift_1 10 rfl rfl)
theorem dX0_drift_34 : decode cX0_drift 34 = .ok (.getfield 32, 3) := dk_180 0 32 (dk_at dksX0_drift_1 11 rfl rfl)
theorem dX0_drift_37 : decode cX0_drift 37 = .ok (.getfield 200, 3) := dk_180 0 200 (dk_at dksX0_drift_1 14 rfl rfl)
theorem dX0_drift_40 : decode cX0_drift 40 = .ok (.iload_n 1, 1) := dk_27 (dk_at dksX0_drift_1 17 rfl rfl)
theorem dX0_drift_41 : decode cX0_drift 41 = .ok (.iaload, 1) := dk_46 (dk_at dksX0_drift_1 18 rfl rfl)
theorem dX0_drift_42 : decode cX0_drift 42 = .ok (.ireturn, 1) := dk_172 (dk_at dksX0_drift_1 19 rfl rfl)
abbrev cX0_straightOn : ByteArray := prog_1_method_37_code
def yX0_straightOn : MethodName := ⟨RX0, "straightOn", "(I)I"⟩
def dkwX0_straightOn_0 : List UInt8 := [6, 26, 184, 1, 30, 4, 100, 5, 108, 172]
abbrev dktX0_straightOn_0 : List UInt8 := dkwX0_straightOn_0 ++ []
theorem dksX0_straightOn_0 : cX0_straightOn.data.toList.drop 0 = dktX0_straightOn_0 := by decide +kernel
theorem dX0_straightOn_0 : decode cX0_straightOn 0 = .ok (.iconst 3, 1) := dk_6 (dk_at dksX0_straightOn_0 0 rfl rfl)
theorem dX0_straightOn_1 : decode cX0_straightOn 1 = .ok (.iload_n 0, 1) := dk_26 (dk_at dksX0_straightOn_0 1 rfl rfl)
theorem dX0_straightOn_2 : decode cX0_straightOn 2 = .ok (.invokestatic 286, 3) := dk_184 1 30 (dk_at dksX0_straightOn_0 2 rfl rfl)
theorem dX0_straightOn_5 : decode cX0_straightOn 5 = .ok (.iconst 1, 1) := dk_4 (dk_at dksX0_straightOn_0 5 rfl rfl)
theorem dX0_straightOn_6 : decode cX0_straightOn 6 = .ok (.isub, 1) := dk_100 (dk_at dksX0_straightOn_0 6 rfl rfl)
theorem dX0_straightOn_7 : decode cX0_straightOn 7 = .ok (.iconst 2, 1) := dk_5 (dk_at dksX0_straightOn_0 7 rfl rfl)
theorem dX0_straightOn_8 : decode cX0_straightOn 8 = .ok (.idiv, 1) := dk_108 (dk_at dksX0_straightOn_0 8 rfl rfl)
theorem dX0_straightOn_9 : decode cX0_straightOn 9 = .ok (.ireturn, 1) := dk_172 (dk_at dksX0_straightOn_0 9 rfl rfl)
abbrev cX0_coolest : ByteArray := prog_1_method_39_code
def yX0_coolest : MethodName := ⟨RX0, "coolest", "(II)I"⟩
def dkwX0_coolest_4 : List UInt8 := [167, 0, 12, 42, 180, 0, 32, 180, 0, 200, 27, 46, 172]
abbrev dktX0_coolest_4 : List UInt8 := dkwX0_coolest_4 ++ []
def dkwX0_coolest_3 : List UInt8 := [180, 0, 209, 27, 46, 100, 167, 0, 29, 28, 4, 160, 0, 15, 42, 180, 0, 32, 180, 0, 206, 27, 46]
abbrev dktX0_coolest_3 : List UInt8 := dkwX0_coolest_3 ++ dktX0_coolest_4
def dkwX0_coolest_2 : List UInt8 := [180, 0, 127, 182, 1, 44, 62, 28, 154, 0, 25, 42, 180, 0, 32, 180, 0, 209, 27, 46, 42, 180, 0, 28]
abbrev dktX0_coolest_2 : List UInt8 := dkwX0_coolest_2 ++ dktX0_coolest_3
def dkwX0_coolest_1 : List UInt8 := [180, 0, 72, 27, 182, 1, 53, 154, 0, 5, 2, 172, 42, 27, 42, 180, 0, 72, 180, 1, 58, 42]
abbrev dktX0_coolest_1 : List UInt8 := dkwX0_coolest_1 ++ dktX0_coolest_2
def dkwX0_coolest_0 : List UInt8 := [42, 3, 181, 0, 127, 42, 27, 182, 0, 191, 153, 0, 23, 28, 3, 5, 184, 0, 160, 153, 0, 14, 42]
abbrev dktX0_coolest_0 : List UInt8 := dkwX0_coolest_0 ++ dktX0_coolest_1
theorem dksX0_coolest_0 : cX0_coolest.data.toList.drop 0 = dktX0_coolest_0 := by decide +kernel
theorem dksX0_coolest_1 : cX0_coolest.data.toList.drop 23 = dktX0_coolest_1 := dk_seg dksX0_coolest_0 23 rfl rfl
theorem dksX0_coolest_2 : cX0_coolest.data.toList.drop 45 = dktX0_coolest_2 := dk_seg dksX0_coolest_1 22 rfl rfl
theorem dksX0_coolest_3 : cX0_coolest.data.toList.drop 69 = dktX0_coolest_3 := dk_seg dksX0_coolest_2 24 rfl rfl
theorem dksX0_coolest_4 : cX0_coolest.data.toList.drop 92 = dktX0_coolest_4 := dk_seg dksX0_coolest_3 23 rfl rfl
theorem dX0_coolest_0 : decode cX0_coolest 0 = .ok (.aload_n 0, 1) := dk_42 (dk_at dksX0_coolest_0 0 rfl rfl)
theorem dX0_coolest_1 : decode cX0_coolest 1 = .ok (.iconst 0, 1) := dk_3 (dk_at dksX0_coolest_0 1 rfl rfl)
theorem dX0_coolest_2 : decode cX0_coolest 2 = .ok (.putfield 127, 3) := dk_181 0 127 (dk_at dksX0_coolest_0 2 rfl rfl)
theorem dX0_coolest_5 : decode cX0_coolest 5 = .ok (.aload_n 0, 1) := dk_42 (dk_at dksX0_coolest_0 5 rfl rfl)
theorem dX0_coolest_6 : decode cX0_coolest 6 = .ok (.iload_n 1, 1) := dk_27 (dk_at dksX0_coolest_0 6 rfl rfl)
theorem dX0_coolest_7 : decode cX0_coolest 7 = .ok (.invokevirtual 191, 3) := dk_182 0 191 (dk_at dksX0_coolest_0 7 rfl rfl)
theorem dX0_coolest_10 : decode cX0_coolest 10 = .ok (.ifCond .eq 23, 3) := dk_153 0 23 (dk_at dksX0_coolest_0 10 rfl rfl)
theorem dX0_coolest_13 : decode cX0_coolest 13 = .ok (.iload_n 2, 1) := dk_28 (dk_at dksX0_coolest_0 13 rfl rfl)
theorem dX0_coolest_14 : decode cX0_coolest 14 = .ok (.iconst 0, 1) := dk_3 (dk_at dksX0_coolest_0 14 rfl rfl)
theorem dX0_coolest_15 : decode cX0_coolest 15 = .ok (.iconst 2, 1) := dk_5 (dk_at dksX0_coolest_0 15 rfl rfl)
theorem dX0_coolest_16 : decode cX0_coolest 16 = .ok (.invokestatic 160, 3) := dk_184 0 160 (dk_at dksX0_coolest_0 16 rfl rfl)
theorem dX0_coolest_19 : decode cX0_coolest 19 = .ok (.ifCond .eq 14, 3) := dk_153 0 14 (dk_at dksX0_coolest_0 19 rfl rfl)
theorem dX0_coolest_22 : decode cX0_coolest 22 = .ok (.aload_n 0, 1) := dk_42 (dk_at dksX0_coolest_0 22 rfl rfl)
theorem dX0_coolest_23 : decode cX0_coolest 23 = .ok (.getfield 72, 3) := dk_180 0 72 (dk_at dksX0_coolest_1 0 rfl rfl)
theorem dX0_coolest_26 : decode cX0_coolest 26 = .ok (.iload_n 1, 1) := dk_27 (dk_at dksX0_coolest_1 3 rfl rfl)
theorem dX0_coolest_27 : decode cX0_coolest 27 = .ok (.invokevirtual 309, 3) := dk_182 1 53 (dk_at dksX0_coolest_1 4 rfl rfl)
theorem dX0_coolest_30 : decode cX0_coolest 30 = .ok (.ifCond .ne 5, 3) := dk_154 0 5 (dk_at dksX0_coolest_1 7 rfl rfl)
theorem dX0_coolest_33 : decode cX0_coolest 33 = .ok (.iconst (-1), 1) := dk_2 (dk_at dksX0_coolest_1 10 rfl rfl)
theorem dX0_coolest_34 : decode cX0_coolest 34 = .ok (.ireturn, 1) := dk_172 (dk_at dksX0_coolest_1 11 rfl rfl)
theorem dX0_coolest_35 : decode cX0_coolest 35 = .ok (.aload_n 0, 1) := dk_42 (dk_at dksX0_coolest_1 12 rfl rfl)
theorem dX0_coolest_36 : decode cX0_coolest 36 = .ok (.iload_n 1, 1) := dk_27 (dk_at dksX0_coolest_1 13 rfl rfl)
theorem dX0_coolest_37 : decode cX0_coolest 37 = .ok (.aload_n 0, 1) := dk_42 (dk_at dksX0_coolest_1 14 rfl rfl)
theorem dX0_coolest_38 : decode cX0_coolest 38 = .ok (.getfield 72, 3) := dk_180 0 72 (dk_at dksX0_coolest_1 15 rfl rfl)
theorem dX0_coolest_41 : decode cX0_coolest 41 = .ok (.getfield 314, 3) := dk_180 1 58 (dk_at dksX0_coolest_1 18 rfl rfl)
theorem dX0_coolest_44 : decode cX0_coolest 44 = .ok (.aload_n 0, 1) := dk_42 (dk_at dksX0_coolest_1 21 rfl rfl)
theorem dX0_coolest_45 : decode cX0_coolest 45 = .ok (.getfield 127, 3) := dk_180 0 127 (dk_at dksX0_coolest_2 0 rfl rfl)
theorem dX0_coolest_48 : decode cX0_coolest 48 = .ok (.invokevirtual 300, 3) := dk_182 1 44 (dk_at dksX0_coolest_2 3 rfl rfl)
theorem dX0_coolest_51 : decode cX0_coolest 51 = .ok (.istore_n 3, 1) := dk_62 (dk_at dksX0_coolest_2 6 rfl rfl)
theorem dX0_coolest_52 : decode cX0_coolest 52 = .ok (.iload_n 2, 1) := dk_28 (dk_at dksX0_coolest_2 7 rfl rfl)
theorem dX0_coolest_53 : decode cX0_coolest 53 = .ok (.ifCond .ne 25, 3) := dk_154 0 25 (dk_at dksX0_coolest_2 8 rfl rfl)
theorem dX0_coolest_56 : decode cX0_coolest 56 = .ok (.aload_n 0, 1) := dk_42 (dk_at dksX0_coolest_2 11 rfl rfl)
theorem dX0_coolest_57 : decode cX0_coolest 57 = .ok (.getfield 32, 3) := dk_180 0 32 (dk_at dksX0_coolest_2 12 rfl rfl)
theorem dX0_coolest_60 : decode cX0_coolest 60 = .ok (.getfield 209, 3) := dk_180 0 209 (dk_at dksX0_coolest_2 15 rfl rfl)
theorem dX0_coolest_63 : decode cX0_coolest 63 = .ok (.iload_n 1, 1) := dk_27 (dk_at dksX0_coolest_2 18 rfl rfl)
theorem dX0_coolest_64 : decode cX0_coolest 64 = .ok (.iaload, 1) := dk_46 (dk_at dksX0_coolest_2 19 rfl rfl)
theorem dX0_coolest_65 : decode cX0_coolest 65 = .ok (.aload_n 0, 1) := dk_42 (dk_at dksX0_coolest_2 20 rfl rfl)
theorem dX0_coolest_66 : decode cX0_coolest 66 = .ok (.getfield 28, 3) := dk_180 0 28 (dk_at dksX0_coolest_2 21 rfl rfl)
theorem dX0_coolest_69 : decode cX0_coolest 69 = .ok (.getfield 209, 3) := dk_180 0 209 (dk_at dksX0_coolest_3 0 rfl rfl)
theorem dX0_coolest_72 : decode cX0_coolest 72 = .ok (.iload_n 1, 1) := dk_27 (dk_at dksX0_coolest_3 3 rfl rfl)
theorem dX0_coolest_73 : decode cX0_coolest 73 = .ok (.iaload, 1) := dk_46 (dk_at dksX0_coolest_3 4 rfl rfl)
theorem dX0_coolest_74 : decode cX0_coolest 74 = .ok (.isub, 1) := dk_100 (dk_at dksX0_coolest_3 5 rfl rfl)
theorem dX0_coolest_75 : decode cX0_coolest 75 = .ok (.goto 29, 3) := dk_167 0 29 (dk_at dksX0_coolest_3 6 rfl rfl)
theorem dX0_coolest_78 : decode cX0_coolest 78 = .ok (.iload_n 2, 1) := dk_28 (dk_at dksX0_coolest_3 9 rfl rfl)
theorem dX0_coolest_79 : decode cX0_coolest 79 = .ok (.iconst 1, 1) := dk_4 (dk_at dksX0_coolest_3 10 rfl rfl)
theorem dX0_coolest_80 : decode cX0_coolest 80 = .ok (.if_icmp .ne 15, 3) := dk_160 0 15 (dk_at dksX0_coolest_3 11 rfl rfl)
theorem dX0_coolest_83 : decode cX0_coolest 83 = .ok (.aload_n 0, 1) := dk_42 (dk_at dksX0_coolest_3 14 rfl rfl)
theorem dX0_coolest_84 : decode cX0_coolest 84 = .ok (.getfield 32, 3) := dk_180 0 32 (dk_at dksX0_coolest_3 15 rfl rfl)
theorem dX0_coolest_87 : decode cX0_coolest 87 = .ok (.getfield 206, 3) := dk_180 0 206 (dk_at dksX0_coolest_3 18 rfl rfl)
theorem dX0_coolest_90 : decode cX0_coolest 90 = .ok (.iload_n 1, 1) := dk_27 (dk_at dksX0_coolest_3 21 rfl rfl)
theorem dX0_coolest_91 : decode cX0_coolest 91 = .ok (.iaload, 1) := dk_46 (dk_at dksX0_coolest_3 22 rfl rfl)
theorem dX0_coolest_92 : decode cX0_coolest 92 = .ok (.goto 12, 3) := dk_167 0 12 (dk_at dksX0_coolest_4 0 rfl rfl)
theorem dX0_coolest_95 : decode cX0_coolest 95 = .ok (.aload_n 0, 1) := dk_42 (dk_at dksX0_coolest_4 3 rfl rfl)
theorem dX0_coolest_96 : decode cX0_coolest 96 = .ok (.getfield 32, 3) := dk_180 0 32 (dk_at dksX0_coolest_4 4 rfl rfl)
theorem dX0_coolest_99 : decode cX0_coolest 99 = .ok (.getfield 200, 3) := dk_180 0 200 (dk_at dksX0_coolest_4 7 rfl rfl)
theorem dX0_coolest_102 : decode cX0_coolest 102 = .ok (.iload_n 1, 1) := dk_27 (dk_at dksX0_coolest_4 10 rfl rfl)
theorem dX0_coolest_103 : decode cX0_coolest 103 = .ok (.iaload, 1) := dk_46 (dk_at dksX0_coolest_4 11 rfl rfl)
theorem dX0_coolest_104 : decode cX0_coolest 104 = .ok (.ireturn, 1) := dk_172 (dk_at dksX0_coolest_4 12 rfl rfl)
abbrev cX0_straight : ByteArray := prog_1_method_40_code
def yX0_straight : MethodName := ⟨RX0, "straight", "(II)I"⟩
def dkwX0_straight_2 : List UInt8 := [153, 0, 13, 42, 180, 0, 79, 180, 1, 65, 167, 0, 4, 2, 172]
abbrev dktX0_straight_2 : List UInt8 := dkwX0_straight_2 ++ []
def dkwX0_straight_1 : List UInt8 := [184, 0, 160, 154, 0, 5, 2, 172, 42, 180, 0, 79, 28, 181, 1, 61, 42, 180, 0, 79, 27, 182, 1, 64]
abbrev dktX0_straight_1 : List UInt8 := dkwX0_straight_1 ++ dktX0_straight_2
def dkwX0_straight_0 : List UInt8 := [42, 3, 181, 0, 127, 42, 27, 182, 0, 191, 153, 0, 20, 28, 3, 42, 180, 0, 19, 180, 0, 237, 4, 100]
abbrev dktX0_straight_0 : List UInt8 := dkwX0_straight_0 ++ dktX0_straight_1
theorem dksX0_straight_0 : cX0_straight.data.toList.drop 0 = dktX0_straight_0 := by decide +kernel
theorem dksX0_straight_1 : cX0_straight.data.toList.drop 24 = dktX0_straight_1 := dk_seg dksX0_straight_0 24 rfl rfl
theorem dksX0_straight_2 : cX0_straight.data.toList.drop 48 = dktX0_straight_2 := dk_seg dksX0_straight_1 24 rfl rfl
theorem dX0_straight_0 : decode cX0_straight 0 = .ok (.aload_n 0, 1) := dk_42 (dk_at dksX0_straight_0 0 rfl rfl)
theorem dX0_straight_1 : decode cX0_straight 1 = .ok (.iconst 0, 1) := dk_3 (dk_at dksX0_straight_0 1 rfl rfl)
theorem dX0_straight_2 : decode cX0_straight 2 = .ok (.putfield 127, 3) := dk_181 0 127 (dk_at dksX0_straight_0 2 rfl rfl)
theorem dX0_straight_5 : decode cX0_straight 5 = .ok (.aload_n 0, 1) := dk_42 (dk_at dksX0_straight_0 5 rfl rfl)
theorem dX0_straight_6 : decode cX0_straight 6 = .ok (.iload_n 1, 1) := dk_27 (dk_at dksX0_straight_0 6 rfl rfl)
theorem dX0_straight_7 : decode cX0_straight 7 = .ok (.invokevirtual 191, 3) := dk_182 0 191 (dk_at dksX0_straight_0 7 rfl rfl)
theorem dX0_straight_10 : decode cX0_straight 10 = .ok (.ifCond .eq 20, 3) := dk_153 0 20 (dk_at dksX0_straight_0 10 rfl rfl)
theorem dX0_straight_13 : decode cX0_straight 13 = .ok (.iload_n 2, 1) := dk_28 (dk_at dksX0_straight_0 13 rfl rfl)
theorem dX0_straight_14 : decode cX0_straight 14 = .ok (.iconst 0, 1) := dk_3 (dk_at dksX0_straight_0 14 rfl rfl)
theorem dX0_straight_15 : decode cX0_straight 15 = .ok (.aload_n 0, 1) := dk_42 (dk_at dksX0_straight_0 15 rfl rfl)
theorem dX0_straight_16 : decode cX0_straight 16 = .ok (.getfield 19, 3) := dk_180 0 19 (dk_at dksX0_straight_0 16 rfl rfl)
theorem dX0_straight_19 : decode cX0_straight 19 = .ok (.getfield 237, 3) := dk_180 0 237 (dk_at dksX0_straight_0 19 rfl rfl)
theorem dX0_straight_22 : decode cX0_straight 22 = .ok (.iconst 1, 1) := dk_4 (dk_at dksX0_straight_0 22 rfl rfl)
theorem dX0_straight_23 : decode cX0_straight 23 = .ok (.isub, 1) := dk_100 (dk_at dksX0_straight_0 23 rfl rfl)
theorem dX0_straight_24 : decode cX0_straight 24 = .ok (.invokestatic 160, 3) := dk_184 0 160 (dk_at dksX0_straight_1 0 rfl rfl)
theorem dX0_straight_27 : decode cX0_straight 27 = .ok (.ifCond .ne 5, 3) := dk_154 0 5 (dk_at dksX0_straight_1 3 rfl rfl)
theorem dX0_straight_30 : decode cX0_straight 30 = .ok (.iconst (-1), 1) := dk_2 (dk_at dksX0_straight_1 6 rfl rfl)
theorem dX0_straight_31 : decode cX0_straight 31 = .ok (.ireturn, 1) := dk_172 (dk_at dksX0_straight_1 7 rfl rfl)
theorem dX0_straight_32 : decode cX0_straight 32 = .ok (.aload_n 0, 1) := dk_42 (dk_at dksX0_straight_1 8 rfl rfl)
theorem dX0_straight_33 : decode cX0_straight 33 = .ok (.getfield 79, 3) := dk_180 0 79 (dk_at dksX0_straight_1 9 rfl rfl)
theorem dX0_straight_36 : decode cX0_straight 36 = .ok (.iload_n 2, 1) := dk_28 (dk_at dksX0_straight_1 12 rfl rfl)
theorem dX0_straight_37 : decode cX0_straight 37 = .ok (.putfield 317, 3) := dk_181 1 61 (dk_at dksX0_straight_1 13 rfl rfl)
theorem dX0_straight_40 : decode cX0_straight 40 = .ok (.aload_n 0, 1) := dk_42 (dk_at dksX0_straight_1 16 rfl rfl)
theorem dX0_straight_41 : decode cX0_straight 41 = .ok (.getfield 79, 3) := dk_180 0 79 (dk_at dksX0_straight_1 17 rfl rfl)
theorem dX0_straight_44 : decode cX0_straight 44 = .ok (.iload_n 1, 1) := dk_27 (dk_at dksX0_straight_1 20 rfl rfl)
theorem dX0_straight_45 : decode cX0_straight 45 = .ok (.invokevirtual 320, 3) := dk_182 1 64 (dk_at dksX0_straight_1 21 rfl rfl)
theorem dX0_straight_48 : decode cX0_straight 48 = .ok (.ifCond .eq 13, 3) := dk_153 0 13 (dk_at dksX0_straight_2 0 rfl rfl)
theorem dX0_straight_51 : decode cX0_straight 51 = .ok (.aload_n 0, 1) := dk_42 (dk_at dksX0_straight_2 3 rfl rfl)
theorem dX0_straight_52 : decode cX0_straight 52 = .ok (.getfield 79, 3) := dk_180 0 79 (dk_at dksX0_straight_2 4 rfl rfl)
theorem dX0_straight_55 : decode cX0_straight 55 = .ok (.getfield 321, 3) := dk_180 1 65 (dk_at dksX0_straight_2 7 rfl rfl)
theorem dX0_straight_58 : decode cX0_straight 58 = .ok (.goto 4, 3) := dk_167 0 4 (dk_at dksX0_straight_2 10 rfl rfl)
theorem dX0_straight_61 : decode cX0_straight 61 = .ok (.iconst (-1), 1) := dk_2 (dk_at dksX0_straight_2 13 rfl rfl)
theorem dX0_straight_62 : decode cX0_straight 62 = .ok (.ireturn, 1) := dk_172 (dk_at dksX0_straight_2 14 rfl rfl)
abbrev cX0_singe : ByteArray := prog_1_method_41_code
def yX0_singe : MethodName := ⟨RX0, "singe", "(I)I"⟩
def dkwX0_singe_2 : List UInt8 := [29, 153, 0, 14, 29, 5, 160, 0, 7, 28, 167, 0, 4, 2, 172, 132, 2, 1, 167, 255, 213, 2, 172]
abbrev dktX0_singe_2 : List UInt8 := dkwX0_singe_2 ++ []
def dkwX0_singe_1 : List UInt8 := [42, 27, 182, 1, 41, 163, 0, 40, 42, 180, 0, 32, 42, 180, 0, 19, 27, 3, 4, 3, 182, 1, 8, 62]
abbrev dktX0_singe_1 : List UInt8 := dkwX0_singe_1 ++ dktX0_singe_2
def dkwX0_singe_0 : List UInt8 := [42, 27, 182, 0, 191, 154, 0, 5, 2, 172, 42, 180, 0, 32, 42, 180, 0, 28, 182, 0, 133, 4, 61, 28]
abbrev dktX0_singe_0 : List UInt8 := dkwX0_singe_0 ++ dktX0_singe_1
theorem dksX0_singe_0 : cX0_singe.data.toList.drop 0 = dktX0_singe_0 := by decide +kernel
theorem dksX0_singe_1 : cX0_singe.data.toList.drop 24 = dktX0_singe_1 := dk_seg dksX0_singe_0 24 rfl rfl
theorem dksX0_singe_2 : cX0_singe.data.toList.drop 48 = dktX0_singe_2 := dk_seg dksX0_singe_1 24 rfl rfl
theorem dX0_singe_0 : decode cX0_singe 0 = .ok (.aload_n 0, 1) := dk_42 (dk_at dksX0_singe_0 0 rfl rfl)
theorem dX0_singe_1 : decode cX0_singe 1 = .ok (.iload_n 1, 1) := dk_27 (dk_at dksX0_singe_0 1 rfl rfl)
theorem dX0_singe_2 : decode cX0_singe 2 = .ok (.invokevirtual 191, 3) := dk_182 0 191 (dk_at dksX0_singe_0 2 rfl rfl)
theorem dX0_singe_5 : decode cX0_singe 5 = .ok (.ifCond .ne 5, 3) := dk_154 0 5 (dk_at dksX0_singe_0 5 rfl rfl)
theorem dX0_singe_8 : decode cX0_singe 8 = .ok (.iconst (-1), 1) := dk_2 (dk_at dksX0_singe_0 8 rfl rfl)
theorem dX0_singe_9 : decode cX0_singe 9 = .ok (.ireturn, 1) := dk_172 (dk_at dksX0_singe_0 9 rfl rfl)
theorem dX0_singe_10 : decode cX0_singe 10 = .ok (.aload_n 0, 1) := dk_42 (dk_at dksX0_singe_0 10 rfl rfl)
theorem dX0_singe_11 : decode cX0_singe 11 = .ok (.getfield 32, 3) := dk_180 0 32 (dk_at dksX0_singe_0 11 rfl rfl)
theorem dX0_singe_14 : decode cX0_singe 14 = .ok (.aload_n 0, 1) := dk_42 (dk_at dksX0_singe_0 14 rfl rfl)
theorem dX0_singe_15 : decode cX0_singe 15 = .ok (.getfield 28, 3) := dk_180 0 28 (dk_at dksX0_singe_0 15 rfl rfl)
theorem dX0_singe_18 : decode cX0_singe 18 = .ok (.invokevirtual 133, 3) := dk_182 0 133 (dk_at dksX0_singe_0 18 rfl rfl)
theorem dX0_singe_21 : decode cX0_singe 21 = .ok (.iconst 1, 1) := dk_4 (dk_at dksX0_singe_0 21 rfl rfl)
theorem dX0_singe_22 : decode cX0_singe 22 = .ok (.istore_n 2, 1) := dk_61 (dk_at dksX0_singe_0 22 rfl rfl)
theorem dX0_singe_23 : decode cX0_singe 23 = .ok (.iload_n 2, 1) := dk_28 (dk_at dksX0_singe_0 23 rfl rfl)
theorem dX0_singe_24 : decode cX0_singe 24 = .ok (.aload_n 0, 1) := dk_42 (dk_at dksX0_singe_1 0 rfl rfl)
theorem dX0_singe_25 : decode cX0_singe 25 = .ok (.iload_n 1, 1) := dk_27 (dk_at dksX0_singe_1 1 rfl rfl)
theorem dX0_singe_26 : decode cX0_singe 26 = .ok (.invokevirtual 297, 3) := dk_182 1 41 (dk_at dksX0_singe_1 2 rfl rfl)
theorem dX0_singe_29 : decode cX0_singe 29 = .ok (.if_icmp .gt 40, 3) := dk_163 0 40 (dk_at dksX0_singe_1 5 rfl rfl)
theorem dX0_singe_32 : decode cX0_singe 32 = .ok (.aload_n 0, 1) := dk_42 (dk_at dksX0_singe_1 8 rfl rfl)
theorem dX0_singe_33 : decode cX0_singe 33 = .ok (.getfield 32, 3) := dk_180 0 32 (dk_at dksX0_singe_1 9 rfl rfl)
theorem dX0_singe_36 : decode cX0_singe 36 = .ok (.aload_n 0, 1) := dk_42 (dk_at dksX0_singe_1 12 rfl rfl)
theorem dX0_singe_37 : decode cX0_singe 37 = .ok (.getfield 19, 3) := dk_180 0 19 (dk_at dksX0_singe_1 13 rfl rfl)
theorem dX0_singe_40 : decode cX0_singe 40 = .ok (.iload_n 1, 1) := dk_27 (dk_at dksX0_singe_1 16 rfl rfl)
theorem dX0_singe_41 : decode cX0_singe 41 = .ok (.iconst 0, 1) := dk_3 (dk_at dksX0_singe_1 17 rfl rfl)
theorem dX0_singe_42 : decode cX0_singe 42 = .ok (.iconst 1, 1) := dk_4 (dk_at dksX0_singe_1 18 rfl rfl)
theorem dX0_singe_43 : decode cX0_singe 43 = .ok (.iconst 0, 1) := dk_3 (dk_at dksX0_singe_1 19 rfl rfl)
theorem dX0_singe_44 : decode cX0_singe 44 = .ok (.invokevirtual 264, 3) := dk_182 1 8 (dk_at dksX0_singe_1 20 rfl rfl)
theorem dX0_singe_47 : decode cX0_singe 47 = .ok (.istore_n 3, 1) := dk_62 (dk_at dksX0_singe_1 23 rfl rfl)
theorem dX0_singe_48 : decode cX0_singe 48 = .ok (.iload_n 3, 1) := dk_29 (dk_at dksX0_singe_2 0 rfl rfl)
theorem dX0_singe_49 : decode cX0_singe 49 = .ok (.ifCond .eq 14, 3) := dk_153 0 14 (dk_at dksX0_singe_2 1 rfl rfl)
theorem dX0_singe_52 : decode cX0_singe 52 = .ok (.iload_n 3, 1) := dk_29 (dk_at dksX0_singe_2 4 rfl rfl)
theorem dX0_singe_53 : decode cX0_singe 53 = .ok (.iconst 2, 1) := dk_5 (dk_at dksX0_singe_2 5 rfl rfl)
theorem dX0_singe_54 : decode cX0_singe 54 = .ok (.if_icmp .ne 7, 3) := dk_160 0 7 (dk_at dksX0_singe_2 6 rfl rfl)
theorem dX0_singe_57 : decode cX0_singe 57 = .ok (.iload_n 2, 1) := dk_28 (dk_at dksX0_singe_2 9 rfl rfl)
theorem dX0_singe_58 : decode cX0_singe 58 = .ok (.goto 4, 3) := dk_167 0 4 (dk_at dksX0_singe_2 10 rfl rfl)
theorem dX0_singe_61 : decode cX0_singe 61 = .ok (.iconst (-1), 1) := dk_2 (dk_at dksX0_singe_2 13 rfl rfl)
theorem dX0_singe_62 : decode cX0_singe 62 = .ok (.ireturn, 1) := dk_172 (dk_at dksX0_singe_2 14 rfl rfl)
theorem dX0_singe_63 : decode cX0_singe 63 = .ok (.iinc 2 1, 3) := dk_132 2 1 (dk_at dksX0_singe_2 15 rfl rfl)
theorem dX0_singe_66 : decode cX0_singe 66 = .ok (.goto (-43), 3) := dk_167 255 213 (dk_at dksX0_singe_2 18 rfl rfl)
theorem dX0_singe_69 : decode cX0_singe 69 = .ok (.iconst (-1), 1) := dk_2 (dk_at dksX0_singe_2 21 rfl rfl)
theorem dX0_singe_70 : decode cX0_singe 70 = .ok (.ireturn, 1) := dk_172 (dk_at dksX0_singe_2 22 rfl rfl)
abbrev cX0_widest : ByteArray := prog_1_method_42_code
def yX0_widest : MethodName := ⟨RX0, "widest", "(II)I"⟩
def dkwX0_widest_6 : List UInt8 := [21, 4, 182, 1, 68, 167, 0, 5, 21, 4, 172]
abbrev dktX0_widest_6 : List UInt8 := dkwX0_widest_6 ++ []
def dkwX0_widest_5 : List UInt8 := [182, 1, 68, 164, 0, 7, 21, 5, 54, 4, 132, 5, 1, 167, 255, 191, 28, 154, 0, 15, 42, 180, 0, 19]
abbrev dktX0_widest_5 : List UInt8 := dkwX0_widest_5 ++ dktX0_widest_6
def dkwX0_widest_4 : List UInt8 := [182, 1, 68, 182, 1, 15, 153, 0, 28, 42, 180, 0, 19, 21, 5, 182, 1, 68, 42, 180, 0, 19, 21, 4]
abbrev dktX0_widest_4 : List UInt8 := dkwX0_widest_4 ++ dktX0_widest_5
def dkwX0_widest_3 : List UInt8 := [182, 0, 164, 120, 162, 0, 60, 21, 5, 29, 2, 130, 126, 154, 0, 45, 42, 27, 42, 180, 0, 19, 21, 5]
abbrev dktX0_widest_3 : List UInt8 := dkwX0_widest_3 ++ dktX0_widest_4
def dkwX0_widest_2 : List UInt8 := [42, 180, 0, 19, 27, 182, 1, 12, 182, 0, 225, 62, 3, 54, 4, 4, 54, 5, 21, 5, 4, 42]
abbrev dktX0_widest_2 : List UInt8 := dkwX0_widest_2 ++ dktX0_widest_3
def dkwX0_widest_1 : List UInt8 := [180, 0, 19, 27, 182, 1, 12, 154, 0, 5, 2, 172, 42, 180, 0, 28, 42, 180, 0, 19, 42, 180, 0, 28]
abbrev dktX0_widest_1 : List UInt8 := dkwX0_widest_1 ++ dktX0_widest_2
def dkwX0_widest_0 : List UInt8 := [42, 27, 182, 0, 191, 153, 0, 27, 28, 3, 4, 184, 0, 160, 153, 0, 18, 42, 180, 0, 28, 42]
abbrev dktX0_widest_0 : List UInt8 := dkwX0_widest_0 ++ dktX0_widest_1
theorem dksX0_widest_0 : cX0_widest.data.toList.drop 0 = dktX0_widest_0 := by decide +kernel
theorem dksX0_widest_1 : cX0_widest.data.toList.drop 22 = dktX0_widest_1 := dk_seg dksX0_widest_0 22 rfl rfl
theorem dksX0_widest_2 : cX0_widest.data.toList.drop 46 = dktX0_widest_2 := dk_seg dksX0_widest_1 24 rfl rfl
theorem dksX0_widest_3 : cX0_widest.data.toList.drop 68 = dktX0_widest_3 := dk_seg dksX0_widest_2 22 rfl rfl
theorem dksX0_widest_4 : cX0_widest.data.toList.drop 92 = dktX0_widest_4 := dk_seg dksX0_widest_3 24 rfl rfl
theorem dksX0_widest_5 : cX0_widest.data.toList.drop 116 = dktX0_widest_5 := dk_seg dksX0_widest_4 24 rfl rfl
theorem dksX0_widest_6 : cX0_widest.data.toList.drop 140 = dktX0_widest_6 := dk_seg dksX0_widest_5 24 rfl rfl
theorem dX0_widest_0 : decode cX0_widest 0 = .ok (.aload_n 0, 1) := dk_42 (dk_at dksX0_widest_0 0 rfl rfl)
theorem dX0_widest_1 : decode cX0_widest 1 = .ok (.iload_n 1, 1) := dk_27 (dk_at dksX0_widest_0 1 rfl rfl)
theorem dX0_widest_2 : decode cX0_widest 2 = .ok (.invokevirtual 191, 3) := dk_182 0 191 (dk_at dksX0_widest_0 2 rfl rfl)
theorem dX0_widest_5 : decode cX0_widest 5 = .ok (.ifCond .eq 27, 3) := dk_153 0 27 (dk_at dksX0_widest_0 5 rfl rfl)
theorem dX0_widest_8 : decode cX0_widest 8 = .ok (.iload_n 2, 1) := dk_28 (dk_at dksX0_widest_0 8 rfl rfl)
theorem dX0_widest_9 : decode cX0_widest 9 = .ok (.iconst 0, 1) := dk_3 (dk_at dksX0_widest_0 9 rfl rfl)
theorem dX0_widest_10 : decode cX0_widest 10 = .ok (.iconst 1, 1) := dk_4 (dk_at dksX0_widest_0 10 rfl rfl)
theorem dX0_widest_11 : decode cX0_widest 11 = .ok (.invokestatic 160, 3) := dk_184 0 160 (dk_at dksX0_widest_0 11 rfl rfl)
theorem dX0_widest_14 : decode cX0_widest 14 = .ok (.ifCond .eq 18, 3) := dk_153 0 18 (dk_at dksX0_widest_0 14 rfl rfl)
theorem dX0_widest_17 : decode cX0_widest 17 = .ok (.aload_n 0, 1) := dk_42 (dk_at dksX0_widest_0 17 rfl rfl)
theorem dX0_widest_18 : decode cX0_widest 18 = .ok (.getfield 28, 3) := dk_180 0 28 (dk_at dksX0_widest_0 18 rfl rfl)
theorem dX0_widest_21 : decode cX0_widest 21 = .ok (.aload_n 0, 1) := dk_42 (dk_at dksX0_widest_0 21 rfl rfl)
theorem dX0_widest_22 : decode cX0_widest 22 = .ok (.getfield 19, 3) := dk_180 0 19 (dk_at dksX0_widest_1 0 rfl rfl)
theorem dX0_widest_25 : decode cX0_widest 25 = .ok (.iload_n 1, 1) := dk_27 (dk_at dksX0_widest_1 3 rfl rfl)
theorem dX0_widest_26 : decode cX0_widest 26 = .ok (.invokevirtual 268, 3) := dk_182 1 12 (dk_at dksX0_widest_1 4 rfl rfl)
theorem dX0_widest_29 : decode cX0_widest 29 = .ok (.ifCond .ne 5, 3) := dk_154 0 5 (dk_at dksX0_widest_1 7 rfl rfl)
theorem dX0_widest_32 : decode cX0_widest 32 = .ok (.iconst (-1), 1) := dk_2 (dk_at dksX0_widest_1 10 rfl rfl)
theorem dX0_widest_33 : decode cX0_widest 33 = .ok (.ireturn, 1) := dk_172 (dk_at dksX0_widest_1 11 rfl rfl)
theorem dX0_widest_34 : decode cX0_widest 34 = .ok (.aload_n 0, 1) := dk_42 (dk_at dksX0_widest_1 12 rfl rfl)
theorem dX0_widest_35 : decode cX0_widest 35 = .ok (.getfield 28, 3) := dk_180 0 28 (dk_at dksX0_widest_1 13 rfl rfl)
theorem dX0_widest_38 : decode cX0_widest 38 = .ok (.aload_n 0, 1) := dk_42 (dk_at dksX0_widest_1 16 rfl rfl)
theorem dX0_widest_39 : decode cX0_widest 39 = .ok (.getfield 19, 3) := dk_180 0 19 (dk_at dksX0_widest_1 17 rfl rfl)
theorem dX0_widest_42 : decode cX0_widest 42 = .ok (.aload_n 0, 1) := dk_42 (dk_at dksX0_widest_1 20 rfl rfl)
theorem dX0_widest_43 : decode cX0_widest 43 = .ok (.getfield 28, 3) := dk_180 0 28 (dk_at dksX0_widest_1 21 rfl rfl)
theorem dX0_widest_46 : decode cX0_widest 46 = .ok (.aload_n 0, 1) := dk_42 (dk_at dksX0_widest_2 0 rfl rfl)
theorem dX0_widest_47 : decode cX0_widest 47 = .ok (.getfield 19, 3) := dk_180 0 19 (dk_at dksX0_widest_2 1 rfl rfl)
theorem dX0_widest_50 : decode cX0_widest 50 = .ok (.iload_n 1, 1) := dk_27 (dk_at dksX0_widest_2 4 rfl rfl)
theorem dX0_widest_51 : decode cX0_widest 51 = .ok (.invokevirtual 268, 3) := dk_182 1 12 (dk_at dksX0_widest_2 5 rfl rfl)
theorem dX0_widest_54 : decode cX0_widest 54 = .ok (.invokevirtual 225, 3) := dk_182 0 225 (dk_at dksX0_widest_2 8 rfl rfl)
theorem dX0_widest_57 : decode cX0_widest 57 = .ok (.istore_n 3, 1) := dk_62 (dk_at dksX0_widest_2 11 rfl rfl)
theorem dX0_widest_58 : decode cX0_widest 58 = .ok (.iconst 0, 1) := dk_3 (dk_at dksX0_widest_2 12 rfl rfl)
theorem dX0_widest_59 : decode cX0_widest 59 = .ok (.istore 4, 2) := dk_54 4 (dk_at dksX0_widest_2 13 rfl rfl)
theorem dX0_widest_61 : decode cX0_widest 61 = .ok (.iconst 1, 1) := dk_4 (dk_at dksX0_widest_2 15 rfl rfl)
theorem dX0_widest_62 : decode cX0_widest 62 = .ok (.istore 5, 2) := dk_54 5 (dk_at dksX0_widest_2 16 rfl rfl)
theorem dX0_widest_64 : decode cX0_widest 64 = .ok (.iload 5, 2) := dk_21 5 (dk_at dksX0_widest_2 18 rfl rfl)
theorem dX0_widest_66 : decode cX0_widest 66 = .ok (.iconst 1, 1) := dk_4 (dk_at dksX0_widest_2 20 rfl rfl)
theorem dX0_widest_67 : decode cX0_widest 67 = .ok (.aload_n 0, 1) := dk_42 (dk_at dksX0_widest_2 21 rfl rfl)
theorem dX0_widest_68 : decode cX0_widest 68 = .ok (.invokevirtual 164, 3) := dk_182 0 164 (dk_at dksX0_widest_3 0 rfl rfl)
theorem dX0_widest_71 : decode cX0_widest 71 = .ok (.ishl, 1) := dk_120 (dk_at dksX0_widest_3 3 rfl rfl)
theorem dX0_widest_72 : decode cX0_widest 72 = .ok (.if_icmp .ge 60, 3) := dk_162 0 60 (dk_at dksX0_widest_3 4 rfl rfl)
theorem dX0_widest_75 : decode cX0_widest 75 = .ok (.iload 5, 2) := dk_21 5 (dk_at dksX0_widest_3 7 rfl rfl)
theorem dX0_widest_77 : decode cX0_widest 77 = .ok (.iload_n 3, 1) := dk_29 (dk_at dksX0_widest_3 9 rfl rfl)
theorem dX0_widest_78 : decode cX0_widest 78 = .ok (.iconst (-1), 1) := dk_2 (dk_at dksX0_widest_3 10 rfl rfl)
theorem dX0_widest_79 : decode cX0_widest 79 = .ok (.ixor, 1) := dk_130 (dk_at dksX0_widest_3 11 rfl rfl)
theorem dX0_widest_80 : decode cX0_widest 80 = .ok (.iand, 1) := dk_126 (dk_at dksX0_widest_3 12 rfl rfl)
theorem dX0_widest_81 : decode cX0_widest 81 = .ok (.ifCond .ne 45, 3) := dk_154 0 45 (dk_at dksX0_widest_3 13 rfl rfl)
theorem dX0_widest_84 : decode cX0_widest 84 = .ok (.aload_n 0, 1) := dk_42 (dk_at dksX0_widest_3 16 rfl rfl)
theorem dX0_widest_85 : decode cX0_widest 85 = .ok (.iload_n 1, 1) := dk_27 (dk_at dksX0_widest_3 17 rfl rfl)
theorem dX0_widest_86 : decode cX0_widest 86 = .ok (.aload_n 0, 1) := dk_42 (dk_at dksX0_widest_3 18 rfl rfl)
theorem dX0_widest_87 : decode cX0_widest 87 = .ok (.getfield 19, 3) := dk_180 0 19 (dk_at dksX0_widest_3 19 rfl rfl)
theorem dX0_widest_90 : decode cX0_widest 90 = .ok (.iload 5, 2) := dk_21 5 (dk_at dksX0_widest_3 22 rfl rfl)
theorem dX0_widest_92 : decode cX0_widest 92 = .ok (.invokevirtual 324, 3) := dk_182 1 68 (dk_at dksX0_widest_4 0 rfl rfl)
theorem dX0_widest_95 : decode cX0_widest 95 = .ok (.invokevirtual 271, 3) := dk_182 1 15 (dk_at dksX0_widest_4 3 rfl rfl)
theorem dX0_widest_98 : decode cX0_widest 98 = .ok (.ifCond .eq 28, 3) := dk_153 0 28 (dk_at dksX0_widest_4 6 rfl rfl)
theorem dX0_widest_101 : decode cX0_widest 101 = .ok (.aload_n 0, 1) := dk_42 (dk_at dksX0_widest_4 9 rfl rfl)
theorem dX0_widest_102 : decode cX0_widest 102 = .ok (.getfield 19, 3) := dk_180 0 19 (dk_at dksX0_widest_4 10 rfl rfl)
theorem dX0_widest_105 : decode cX0_widest 105 = .ok (.iload 5, 2) := dk_21 5 (dk_at dksX0_widest_4 13 rfl rfl)
theorem dX0_widest_107 : decode cX0_widest 107 = .ok (.invokevirtual 324, 3) := dk_182 1 68 (dk_at dksX0_widest_4 15 rfl rfl)
theorem dX0_widest_110 : decode cX0_widest 110 = .ok (.aload_n 0, 1) := dk_42 (dk_at dksX0_widest_4 18 rfl rfl)
theorem dX0_widest_111 : decode cX0_widest 111 = .ok (.getfield 19, 3) := dk_180 0 19 (dk_at dksX0_widest_4 19 rfl rfl)
theorem dX0_widest_114 : decode cX0_widest 114 = .ok (.iload 4, 2) := dk_21 4 (dk_at dksX0_widest_4 22 rfl rfl)
theorem dX0_widest_116 : decode cX0_widest 116 = .ok (.invokevirtual 324, 3) := dk_182 1 68 (dk_at dksX0_widest_5 0 rfl rfl)
theorem dX0_widest_119 : decode cX0_widest 119 = .ok (.if_icmp .le 7, 3) := dk_164 0 7 (dk_at dksX0_widest_5 3 rfl rfl)
theorem dX0_widest_122 : decode cX0_widest 122 = .ok (.iload 5, 2) := dk_21 5 (dk_at dksX0_widest_5 6 rfl rfl)
theorem dX0_widest_124 : decode cX0_widest 124 = .ok (.istore 4, 2) := dk_54 4 (dk_at dksX0_widest_5 8 rfl rfl)
theorem dX0_widest_126 : decode cX0_widest 126 = .ok (.iinc 5 1, 3) := dk_132 5 1 (dk_at dksX0_widest_5 10 rfl rfl)
theorem dX0_widest_129 : decode cX0_widest 129 = .ok (.goto (-65), 3) := dk_167 255 191 (dk_at dksX0_widest_5 13 rfl rfl)
theorem dX0_widest_132 : decode cX0_widest 132 = .ok (.iload_n 2, 1) := dk_28 (dk_at dksX0_widest_5 16 rfl rfl)
theorem dX0_widest_133 : decode cX0_widest 133 = .ok (.ifCond .ne 15, 3) := dk_154 0 15 (dk_at dksX0_widest_5 17 rfl rfl)
theorem dX0_widest_136 : decode cX0_widest 136 = .ok (.aload_n 0, 1) := dk_42 (dk_at dksX0_widest_5 20 rfl rfl)
theorem dX0_widest_137 : decode cX0_widest 137 = .ok (.getfield 19, 3) := dk_180 0 19 (dk_at dksX0_widest_5 21 rfl rfl)
theorem dX0_widest_140 : decode cX0_widest 140 = .ok (.iload 4, 2) := dk_21 4 (dk_at dksX0_widest_6 0 rfl rfl)
theorem dX0_widest_142 : decode cX0_widest 142 = .ok (.invokevirtual 324, 3) := dk_182 1 68 (dk_at dksX0_widest_6 2 rfl rfl)
theorem dX0_widest_145 : decode cX0_widest 145 = .ok (.goto 5, 3) := dk_167 0 5 (dk_at dksX0_widest_6 5 rfl rfl)
theorem dX0_widest_148 : decode cX0_widest 148 = .ok (.iload 4, 2) := dk_21 4 (dk_at dksX0_widest_6 8 rfl rfl)
theorem dX0_widest_150 : decode cX0_widest 150 = .ok (.ireturn, 1) := dk_172 (dk_at dksX0_widest_6 10 rfl rfl)
abbrev cX0_trips : ByteArray := prog_1_method_44_code
def yX0_trips : MethodName := ⟨RX0, "trips", "(I)I"⟩
def dkwX0_trips_3 : List UInt8 := [180, 1, 71, 172]
abbrev dktX0_trips_3 : List UInt8 := dkwX0_trips_3 ++ []
def dkwX0_trips_2 : List UInt8 := [182, 1, 80, 42, 42, 180, 1, 71, 156, 0, 7, 3, 167, 0, 7, 42, 182, 0, 164, 181, 0, 127, 42]
abbrev dktX0_trips_2 : List UInt8 := dkwX0_trips_2 ++ dktX0_trips_3
def dkwX0_trips_1 : List UInt8 := [180, 0, 19, 180, 0, 152, 27, 182, 0, 195, 192, 0, 198, 180, 0, 215, 3, 3, 42, 180, 0, 83]
abbrev dktX0_trips_1 : List UInt8 := dkwX0_trips_1 ++ dktX0_trips_2
def dkwX0_trips_0 : List UInt8 := [42, 3, 181, 0, 127, 42, 27, 182, 0, 191, 154, 0, 5, 2, 172, 42, 2, 181, 1, 71, 42, 42]
abbrev dktX0_trips_0 : List UInt8 := dkwX0_trips_0 ++ dktX0_trips_1
theorem dksX0_trips_0 : cX0_trips.data.toList.drop 0 = dktX0_trips_0 := by decide +kernel
theorem dksX0_trips_1 : cX0_trips.data.toList.drop 22 = dktX0_trips_1 := dk_seg dksX0_trips_0 22 rfl rfl
theorem dksX0_trips_2 : cX0_trips.data.toList.drop 44 = dktX0_trips_2 := dk_seg dksX0_trips_1 22 rfl rfl
theorem dksX0_trips_3 : cX0_trips.data.toList.drop 67 = dktX0_trips_3 := dk_seg dksX0_trips_2 23 rfl rfl
theorem dX0_trips_0 : decode cX0_trips 0 = .ok (.aload_n 0, 1) := dk_42 (dk_at dksX0_trips_0 0 rfl rfl)
theorem dX0_trips_1 : decode cX0_trips 1 = .ok (.iconst 0, 1) := dk_3 (dk_at dksX0_trips_0 1 rfl rfl)
theorem dX0_trips_2 : decode cX0_trips 2 = .ok (.putfield 127, 3) := dk_181 0 127 (dk_at dksX0_trips_0 2 rfl rfl)
theorem dX0_trips_5 : decode cX0_trips 5 = .ok (.aload_n 0, 1) := dk_42 (dk_at dksX0_trips_0 5 rfl rfl)
theorem dX0_trips_6 : decode cX0_trips 6 = .ok (.iload_n 1, 1) := dk_27 (dk_at dksX0_trips_0 6 rfl rfl)
theorem dX0_trips_7 : decode cX0_trips 7 = .ok (.invokevirtual 191, 3) := dk_182 0 191 (dk_at dksX0_trips_0 7 rfl rfl)
theorem dX0_trips_10 : decode cX0_trips 10 = .ok (.ifCond .ne 5, 3) := dk_154 0 5 (dk_at dksX0_trips_0 10 rfl rfl)
theorem dX0_trips_13 : decode cX0_trips 13 = .ok (.iconst (-1), 1) := dk_2 (dk_at dksX0_trips_0 13 rfl rfl)
theorem dX0_trips_14 : decode cX0_trips 14 = .ok (.ireturn, 1) := dk_172 (dk_at dksX0_trips_0 14 rfl rfl)
theorem dX0_trips_15 : decode cX0_trips 15 = .ok (.aload_n 0, 1) := dk_42 (dk_at dksX0_trips_0 15 rfl rfl)
theorem dX0_trips_16 : decode cX0_trips 16 = .ok (.iconst (-1), 1) := dk_2 (dk_at dksX0_trips_0 16 rfl rfl)
theorem dX0_trips_17 : decode cX0_trips 17 = .ok (.putfield 327, 3) := dk_181 1 71 (dk_at dksX0_trips_0 17 rfl rfl)
theorem dX0_trips_20 : decode cX0_trips 20 = .ok (.aload_n 0, 1) := dk_42 (dk_at dksX0_trips_0 20 rfl rfl)
theorem dX0_trips_21 : decode cX0_trips 21 = .ok (.aload_n 0, 1) := dk_42 (dk_at dksX0_trips_0 21 rfl rfl)
theorem dX0_trips_22 : decode cX0_trips 22 = .ok (.getfield 19, 3) := dk_180 0 19 (dk_at dksX0_trips_1 0 rfl rfl)
theorem dX0_trips_25 : decode cX0_trips 25 = .ok (.getfield 152, 3) := dk_180 0 152 (dk_at dksX0_trips_1 3 rfl rfl)
theorem dX0_trips_28 : decode cX0_trips 28 = .ok (.iload_n 1, 1) := dk_27 (dk_at dksX0_trips_1 6 rfl rfl)
theorem dX0_trips_29 : decode cX0_trips 29 = .ok (.invokevirtual 195, 3) := dk_182 0 195 (dk_at dksX0_trips_1 7 rfl rfl)
theorem dX0_trips_32 : decode cX0_trips 32 = .ok (.checkcast 198, 3) := dk_192 0 198 (dk_at dksX0_trips_1 10 rfl rfl)
theorem dX0_trips_35 : decode cX0_trips 35 = .ok (.getfield 215, 3) := dk_180 0 215 (dk_at dksX0_trips_1 13 rfl rfl)
theorem dX0_trips_38 : decode cX0_trips 38 = .ok (.iconst 0, 1) := dk_3 (dk_at dksX0_trips_1 16 rfl rfl)
theorem dX0_trips_39 : decode cX0_trips 39 = .ok (.iconst 0, 1) := dk_3 (dk_at dksX0_trips_1 17 rfl rfl)
theorem dX0_trips_40 : decode cX0_trips 40 = .ok (.aload_n 0, 1) := dk_42 (dk_at dksX0_trips_1 18 rfl rfl)
theorem dX0_trips_41 : decode cX0_trips 41 = .ok (.getfield 83, 3) := dk_180 0 83 (dk_at dksX0_trips_1 19 rfl rfl)
theorem dX0_trips_44 : decode cX0_trips 44 = .ok (.invokevirtual 336, 3) := dk_182 1 80 (dk_at dksX0_trips_2 0 rfl rfl)
theorem dX0_trips_47 : decode cX0_trips 47 = .ok (.aload_n 0, 1) := dk_42 (dk_at dksX0_trips_2 3 rfl rfl)
theorem dX0_trips_48 : decode cX0_trips 48 = .ok (.aload_n 0, 1) := dk_42 (dk_at dksX0_trips_2 4 rfl rfl)
theorem dX0_trips_49 : decode cX0_trips 49 = .ok (.getfield 327, 3) := dk_180 1 71 (dk_at dksX0_trips_2 5 rfl rfl)
theorem dX0_trips_52 : decode cX0_trips 52 = .ok (.ifCond .ge 7, 3) := dk_156 0 7 (dk_at dksX0_trips_2 8 rfl rfl)
theorem dX0_trips_55 : decode cX0_trips 55 = .ok (.iconst 0, 1) := dk_3 (dk_at dksX0_trips_2 11 rfl rfl)
theorem dX0_trips_56 : decode cX0_trips 56 = .ok (.goto 7, 3) := dk_167 0 7 (dk_at dksX0_trips_2 12 rfl rfl)
theorem dX0_trips_59 : decode cX0_trips 59 = .ok (.aload_n 0, 1) := dk_42 (dk_at dksX0_trips_2 15 rfl rfl)
theorem dX0_trips_60 : decode cX0_trips 60 = .ok (.invokevirtual 164, 3) := dk_182 0 164 (dk_at dksX0_trips_2 16 rfl rfl)
theorem dX0_trips_63 : decode cX0_trips 63 = .ok (.putfield 127, 3) := dk_181 0 127 (dk_at dksX0_trips_2 19 rfl rfl)
theorem dX0_trips_66 : decode cX0_trips 66 = .ok (.aload_n 0, 1) := dk_42 (dk_at dksX0_trips_2 22 rfl rfl)
theorem dX0_trips_67 : decode cX0_trips 67 = .ok (.getfield 327, 3) := dk_180 1 71 (dk_at dksX0_trips_3 0 rfl rfl)
theorem dX0_trips_70 : decode cX0_trips 70 = .ok (.ireturn, 1) := dk_172 (dk_at dksX0_trips_3 3 rfl rfl)
abbrev cX0_goTrips : ByteArray := prog_1_method_43_code
def yX0_goTrips : MethodName := ⟨RX0, "goTrips", "(III[I)V"⟩
def dkwX0_goTrips_7 : List UInt8 := [132, 6, 1, 167, 255, 186, 177]
abbrev dktX0_goTrips_7 : List UInt8 := dkwX0_goTrips_7 ++ []
def dkwX0_goTrips_6 : List UInt8 := [21, 6, 4, 96, 184, 0, 7, 25, 4, 182, 1, 80, 25, 4, 21, 6, 92, 46, 21, 5, 100, 79]
abbrev dktX0_goTrips_6 : List UInt8 := dkwX0_goTrips_6 ++ dktX0_goTrips_7
def dkwX0_goTrips_5 : List UInt8 := [180, 0, 64, 28, 21, 6, 79, 25, 4, 21, 6, 92, 46, 21, 5, 96, 79, 42, 27, 28, 4, 96, 29]
abbrev dktX0_goTrips_5 : List UInt8 := dkwX0_goTrips_5 ++ dktX0_goTrips_6
def dkwX0_goTrips_4 : List UInt8 := [54, 6, 21, 6, 29, 163, 0, 70, 25, 4, 21, 6, 46, 21, 5, 96, 27, 164, 0, 6, 167, 0, 49, 42]
abbrev dktX0_goTrips_4 : List UInt8 := dkwX0_goTrips_4 ++ dktX0_goTrips_5
def dkwX0_goTrips_3 : List UInt8 := [182, 1, 80, 177, 42, 180, 0, 19, 180, 0, 155, 28, 182, 0, 195, 192, 0, 231, 180, 0, 233, 54, 5, 3]
abbrev dktX0_goTrips_3 : List UInt8 := dkwX0_goTrips_3 ++ dktX0_goTrips_4
def dkwX0_goTrips_2 : List UInt8 := [28, 2, 79, 42, 180, 0, 28, 180, 0, 234, 28, 46, 2, 159, 0, 15, 42, 27, 28, 4, 96, 29, 25, 4]
abbrev dktX0_goTrips_2 : List UInt8 := dkwX0_goTrips_2 ++ dktX0_goTrips_3
def dkwX0_goTrips_1 : List UInt8 := [42, 29, 181, 1, 71, 42, 180, 0, 64, 3, 42, 180, 0, 60, 3, 28, 184, 1, 74, 177, 42, 180, 0, 64]
abbrev dktX0_goTrips_1 : List UInt8 := dkwX0_goTrips_1 ++ dktX0_goTrips_2
def dkwX0_goTrips_0 : List UInt8 := [42, 180, 1, 71, 155, 0, 12, 29, 42, 180, 1, 71, 161, 0, 4, 177, 28, 42, 182, 0, 164, 160, 0, 23]
abbrev dktX0_goTrips_0 : List UInt8 := dkwX0_goTrips_0 ++ dktX0_goTrips_1
theorem dksX0_goTrips_0 : cX0_goTrips.data.toList.drop 0 = dktX0_goTrips_0 := by decide +kernel
theorem dksX0_goTrips_1 : cX0_goTrips.data.toList.drop 24 = dktX0_goTrips_1 := dk_seg dksX0_goTrips_0 24 rfl rfl
theorem dksX0_goTrips_2 : cX0_goTrips.data.toList.drop 48 = dktX0_goTrips_2 := dk_seg dksX0_goTrips_1 24 rfl rfl
theorem dksX0_goTrips_3 : cX0_goTrips.data.toList.drop 72 = dktX0_goTrips_3 := dk_seg dksX0_goTrips_2 24 rfl rfl
theorem dksX0_goTrips_4 : cX0_goTrips.data.toList.drop 96 = dktX0_goTrips_4 := dk_seg dksX0_goTrips_3 24 rfl rfl
theorem dksX0_goTrips_5 : cX0_goTrips.data.toList.drop 120 = dktX0_goTrips_5 := dk_seg dksX0_goTrips_4 24 rfl rfl
theorem dksX0_goTrips_6 : cX0_goTrips.data.toList.drop 143 = dktX0_goTrips_6 := dk_seg dksX0_goTrips_5 23 rfl rfl
theorem dksX0_goTrips_7 : cX0_goTrips.data.toList.drop 165 = dktX0_goTrips_7 := dk_seg dksX0_goTrips_6 22 rfl rfl
theorem dX0_goTrips_0 : decode cX0_goTrips 0 = .ok (.aload_n 0, 1) := dk_42 (dk_at dksX0_goTrips_0 0 rfl rfl)
theorem dX0_goTrips_1 : decode cX0_goTrips 1 = .ok (.getfield 327, 3) := dk_180 1 71 (dk_at dksX0_goTrips_0 1 rfl rfl)
theorem dX0_goTrips_4 : decode cX0_goTrips 4 = .ok (.ifCond .lt 12, 3) := dk_155 0 12 (dk_at dksX0_goTrips_0 4 rfl rfl)
theorem dX0_goTrips_7 : decode cX0_goTrips 7 = .ok (.iload_n 3, 1) := dk_29 (dk_at dksX0_goTrips_0 7 rfl rfl)
theorem dX0_goTrips_8 : decode cX0_goTrips 8 = .ok (.aload_n 0, 1) := dk_42 (dk_at dksX0_goTrips_0 8 rfl rfl)
theorem dX0_goTrips_9 : decode cX0_goTrips 9 = .ok (.getfield 327, 3) := dk_180 1 71 (dk_at dksX0_goTrips_0 9 rfl rfl)
theorem dX0_goTrips_12 : decode cX0_goTrips 12 = .ok (.if_icmp .lt 4, 3) := dk_161 0 4 (dk_at dksX0_goTrips_0 12 rfl rfl)
theorem dX0_goTrips_15 : decode cX0_goTrips 15 = .ok (.return_, 1) := dk_177 (dk_at dksX0_goTrips_0 15 rfl rfl)
theorem dX0_goTrips_16 : decode cX0_goTrips 16 = .ok (.iload_n 2, 1) := dk_28 (dk_at dksX0_goTrips_0 16 rfl rfl)
theorem dX0_goTrips_17 : decode cX0_goTrips 17 = .ok (.aload_n 0, 1) := dk_42 (dk_at dksX0_goTrips_0 17 rfl rfl)
theorem dX0_goTrips_18 : decode cX0_goTrips 18 = .ok (.invokevirtual 164, 3) := dk_182 0 164 (dk_at dksX0_goTrips_0 18 rfl rfl)
theorem dX0_goTrips_21 : decode cX0_goTrips 21 = .ok (.if_icmp .ne 23, 3) := dk_160 0 23 (dk_at dksX0_goTrips_0 21 rfl rfl)
theorem dX0_goTrips_24 : decode cX0_goTrips 24 = .ok (.aload_n 0, 1) := dk_42 (dk_at dksX0_goTrips_1 0 rfl rfl)
theorem dX0_goTrips_25 : decode cX0_goTrips 25 = .ok (.iload_n 3, 1) := dk_29 (dk_at dksX0_goTrips_1 1 rfl rfl)
theorem dX0_goTrips_26 : decode cX0_goTrips 26 = .ok (.putfield 327, 3) := dk_181 1 71 (dk_at dksX0_goTrips_1 2 rfl rfl)
theorem dX0_goTrips_29 : decode cX0_goTrips 29 = .ok (.aload_n 0, 1) := dk_42 (dk_at dksX0_goTrips_1 5 rfl rfl)
theorem dX0_goTrips_30 : decode cX0_goTrips 30 = .ok (.getfield 64, 3) := dk_180 0 64 (dk_at dksX0_goTrips_1 6 rfl rfl)
theorem dX0_goTrips_33 : decode cX0_goTrips 33 = .ok (.iconst 0, 1) := dk_3 (dk_at dksX0_goTrips_1 9 rfl rfl)
theorem dX0_goTrips_34 : decode cX0_goTrips 34 = .ok (.aload_n 0, 1) := dk_42 (dk_at dksX0_goTrips_1 10 rfl rfl)
theorem dX0_goTrips_35 : decode cX0_goTrips 35 = .ok (.getfield 60, 3) := dk_180 0 60 (dk_at dksX0_goTrips_1 11 rfl rfl)
theorem dX0_goTrips_38 : decode cX0_goTrips 38 = .ok (.iconst 0, 1) := dk_3 (dk_at dksX0_goTrips_1 14 rfl rfl)
theorem dX0_goTrips_39 : decode cX0_goTrips 39 = .ok (.iload_n 2, 1) := dk_28 (dk_at dksX0_goTrips_1 15 rfl rfl)
theorem dX0_goTrips_40 : decode cX0_goTrips 40 = .ok (.invokestatic 330, 3) := dk_184 1 74 (dk_at dksX0_goTrips_1 16 rfl rfl)
theorem dX0_goTrips_43 : decode cX0_goTrips 43 = .ok (.return_, 1) := dk_177 (dk_at dksX0_goTrips_1 19 rfl rfl)
theorem dX0_goTrips_44 : decode cX0_goTrips 44 = .ok (.aload_n 0, 1) := dk_42 (dk_at dksX0_goTrips_1 20 rfl rfl)
theorem dX0_goTrips_45 : decode cX0_goTrips 45 = .ok (.getfield 64, 3) := dk_180 0 64 (dk_at dksX0_goTrips_1 21 rfl rfl)
theorem dX0_goTrips_48 : decode cX0_goTrips 48 = .ok (.iload_n 2, 1) := dk_28 (dk_at dksX0_goTrips_2 0 rfl rfl)
theorem dX0_goTrips_49 : decode cX0_goTrips 49 = .ok (.iconst (-1), 1) := dk_2 (dk_at dksX0_goTrips_2 1 rfl rfl)
theorem dX0_goTrips_50 : decode cX0_goTrips 50 = .ok (.iastore, 1) := dk_79 (dk_at dksX0_goTrips_2 2 rfl rfl)
theorem dX0_goTrips_51 : decode cX0_goTrips 51 = .ok (.aload_n 0, 1) := dk_42 (dk_at dksX0_goTrips_2 3 rfl rfl)
theorem dX0_goTrips_52 : decode cX0_goTrips 52 = .ok (.getfield 28, 3) := dk_180 0 28 (dk_at dksX0_goTrips_2 4 rfl rfl)
theorem dX0_goTrips_55 : decode cX0_goTrips 55 = .ok (.getfield 234, 3) := dk_180 0 234 (dk_at dksX0_goTrips_2 7 rfl rfl)
theorem dX0_goTrips_58 : decode cX0_goTrips 58 = .ok (.iload_n 2, 1) := dk_28 (dk_at dksX0_goTrips_2 10 rfl rfl)
theorem dX0_goTrips_59 : decode cX0_goTrips 59 = .ok (.iaload, 1) := dk_46 (dk_at dksX0_goTrips_2 11 rfl rfl)
theorem dX0_goTrips_60 : decode cX0_goTrips 60 = .ok (.iconst (-1), 1) := dk_2 (dk_at dksX0_goTrips_2 12 rfl rfl)
theorem dX0_goTrips_61 : decode cX0_goTrips 61 = .ok (.if_icmp .eq 15, 3) := dk_159 0 15 (dk_at dksX0_goTrips_2 13 rfl rfl)
theorem dX0_goTrips_64 : decode cX0_goTrips 64 = .ok (.aload_n 0, 1) := dk_42 (dk_at dksX0_goTrips_2 16 rfl rfl)
theorem dX0_goTrips_65 : decode cX0_goTrips 65 = .ok (.iload_n 1, 1) := dk_27 (dk_at dksX0_goTrips_2 17 rfl rfl)
theorem dX0_goTrips_66 : decode cX0_goTrips 66 = .ok (.iload_n 2, 1) := dk_28 (dk_at dksX0_goTrips_2 18 rfl rfl)
theorem dX0_goTrips_67 : decode cX0_goTrips 67 = .ok (.iconst 1, 1) := dk_4 (dk_at dksX0_goTrips_2 19 rfl rfl)
theorem dX0_goTrips_68 : decode cX0_goTrips 68 = .ok (.iadd, 1) := dk_96 (dk_at dksX0_goTrips_2 20 rfl rfl)
theorem dX0_goTrips_69 : decode cX0_goTrips 69 = .ok (.iload_n 3, 1) := dk_29 (dk_at dksX0_goTrips_2 21 rfl rfl)
theorem dX0_goTrips_70 : decode cX0_goTrips 70 = .ok (.aload 4, 2) := dk_25 4 (dk_at dksX0_goTrips_2 22 rfl rfl)
theorem dX0_goTrips_72 : decode cX0_goTrips 72 = .ok (.invokevirtual 336, 3) := dk_182 1 80 (dk_at dksX0_goTrips_3 0 rfl rfl)
theorem dX0_goTrips_75 : decode cX0_goTrips 75 = .ok (.return_, 1) := dk_177 (dk_at dksX0_goTrips_3 3 rfl rfl)
theorem dX0_goTrips_76 : decode cX0_goTrips 76 = .ok (.aload_n 0, 1) := dk_42 (dk_at dksX0_goTrips_3 4 rfl rfl)
theorem dX0_goTrips_77 : decode cX0_goTrips 77 = .ok (.getfield 19, 3) := dk_180 0 19 (dk_at dksX0_goTrips_3 5 rfl rfl)
theorem dX0_goTrips_80 : decode cX0_goTrips 80 = .ok (.getfield 155, 3) := dk_180 0 155 (dk_at dksX0_goTrips_3 8 rfl rfl)
theorem dX0_goTrips_83 : decode cX0_goTrips 83 = .ok (.iload_n 2, 1) := dk_28 (dk_at dksX0_goTrips_3 11 rfl rfl)
theorem dX0_goTrips_84 : decode cX0_goTrips 84 = .ok (.invokevirtual 195, 3) := dk_182 0 195 (dk_at dksX0_goTrips_3 12 rfl rfl)
theorem dX0_goTrips_87 : decode cX0_goTrips 87 = .ok (.checkcast 231, 3) := dk_192 0 231 (dk_at dksX0_goTrips_3 15 rfl rfl)
theorem dX0_goTrips_90 : decode cX0_goTrips 90 = .ok (.getfield 233, 3) := dk_180 0 233 (dk_at dksX0_goTrips_3 18 rfl rfl)
theorem dX0_goTrips_93 : decode cX0_goTrips 93 = .ok (.istore 5, 2) := dk_54 5 (dk_at dksX0_goTrips_3 21 rfl rfl)
theorem dX0_goTrips_95 : decode cX0_goTrips 95 = .ok (.iconst 0, 1) := dk_3 (dk_at dksX0_goTrips_3 23 rfl rfl)
theorem dX0_goTrips_96 : decode cX0_goTrips 96 = .ok (.istore 6, 2) := dk_54 6 (dk_at dksX0_goTrips_4 0 rfl rfl)
theorem dX0_goTrips_98 : decode cX0_goTrips 98 = .ok (.iload 6, 2) := dk_21 6 (dk_at dksX0_goTrips_4 2 rfl rfl)
theorem dX0_goTrips_100 : decode cX0_goTrips 100 = .ok (.iload_n 3, 1) := dk_29 (dk_at dksX0_goTrips_4 4 rfl rfl)
theorem dX0_goTrips_101 : decode cX0_goTrips 101 = .ok (.if_icmp .gt 70, 3) := dk_163 0 70 (dk_at dksX0_goTrips_4 5 rfl rfl)
theorem dX0_goTrips_104 : decode cX0_goTrips 104 = .ok (.aload 4, 2) := dk_25 4 (dk_at dksX0_goTrips_4 8 rfl rfl)
theorem dX0_goTrips_106 : decode cX0_goTrips 106 = .ok (.iload 6, 2) := dk_21 6 (dk_at dksX0_goTrips_4 10 rfl rfl)
theorem dX0_goTrips_108 : decode cX0_goTrips 108 = .ok (.iaload, 1) := dk_46 (dk_at dksX0_goTrips_4 12 rfl rfl)
theorem dX0_goTrips_109 : decode cX0_goTrips 109 = .ok (.iload 5, 2) := dk_21 5 (dk_at dksX0_goTrips_4 13 rfl rfl)
theorem dX0_goTrips_111 : decode cX0_goTrips 111 = .ok (.iadd, 1) := dk_96 (dk_at dksX0_goTrips_4 15 rfl rfl)
theorem dX0_goTrips_112 : decode cX0_goTrips 112 = .ok (.iload_n 1, 1) := dk_27 (dk_at dksX0_goTrips_4 16 rfl rfl)
theorem dX0_goTrips_113 : decode cX0_goTrips 113 = .ok (.if_icmp .le 6, 3) := dk_164 0 6 (dk_at dksX0_goTrips_4 17 rfl rfl)
theorem dX0_goTrips_116 : decode cX0_goTrips 116 = .ok (.goto 49, 3) := dk_167 0 49 (dk_at dksX0_goTrips_4 20 rfl rfl)
theorem dX0_goTrips_119 : decode cX0_goTrips 119 = .ok (.aload_n 0, 1) := dk_42 (dk_at dksX0_goTrips_4 23 rfl rfl)
theorem dX0_goTrips_120 : decode cX0_goTrips 120 = .ok (.getfield 64, 3) := dk_180 0 64 (dk_at dksX0_goTrips_5 0 rfl rfl)
theorem dX0_goTrips_123 : decode cX0_goTrips 123 = .ok (.iload_n 2, 1) := dk_28 (dk_at dksX0_goTrips_5 3 rfl rfl)
theorem dX0_goTrips_124 : decode cX0_goTrips 124 = .ok (.iload 6, 2) := dk_21 6 (dk_at dksX0_goTrips_5 4 rfl rfl)
theorem dX0_goTrips_126 : decode cX0_goTrips 126 = .ok (.iastore, 1) := dk_79 (dk_at dksX0_goTrips_5 6 rfl rfl)
theorem dX0_goTrips_127 : decode cX0_goTrips 127 = .ok (.aload 4, 2) := dk_25 4 (dk_at dksX0_goTrips_5 7 rfl rfl)
theorem dX0_goTrips_129 : decode cX0_goTrips 129 = .ok (.iload 6, 2) := dk_21 6 (dk_at dksX0_goTrips_5 9 rfl rfl)
theorem dX0_goTrips_131 : decode cX0_goTrips 131 = .ok (.dup2, 1) := dk_92 (dk_at dksX0_goTrips_5 11 rfl rfl)
theorem dX0_goTrips_132 : decode cX0_goTrips 132 = .ok (.iaload, 1) := dk_46 (dk_at dksX0_goTrips_5 12 rfl rfl)
theorem dX0_goTrips_133 : decode cX0_goTrips 133 = .ok (.iload 5, 2) := dk_21 5 (dk_at dksX0_goTrips_5 13 rfl rfl)
theorem dX0_goTrips_135 : decode cX0_goTrips 135 = .ok (.iadd, 1) := dk_96 (dk_at dksX0_goTrips_5 15 rfl rfl)
theorem dX0_goTrips_136 : decode cX0_goTrips 136 = .ok (.iastore, 1) := dk_79 (dk_at dksX0_goTrips_5 16 rfl rfl)
theorem dX0_goTrips_137 : decode cX0_goTrips 137 = .ok (.aload_n 0, 1) := dk_42 (dk_at dksX0_goTrips_5 17 rfl rfl)
theorem dX0_goTrips_138 : decode cX0_goTrips 138 = .ok (.iload_n 1, 1) := dk_27 (dk_at dksX0_goTrips_5 18 rfl rfl)
theorem dX0_goTrips_139 : decode cX0_goTrips 139 = .ok (.iload_n 2, 1) := dk_28 (dk_at dksX0_goTrips_5 19 rfl rfl)
theorem dX0_goTrips_140 : decode cX0_goTrips 140 = .ok (.iconst 1, 1) := dk_4 (dk_at dksX0_goTrips_5 20 rfl rfl)
theorem dX0_goTrips_141 : decode cX0_goTrips 141 = .ok (.iadd, 1) := dk_96 (dk_at dksX0_goTrips_5 21 rfl rfl)
theorem dX0_goTrips_142 : decode cX0_goTrips 142 = .ok (.iload_n 3, 1) := dk_29 (dk_at dksX0_goTrips_5 22 rfl rfl)
theorem dX0_goTrips_143 : decode cX0_goTrips 143 = .ok (.iload 6, 2) := dk_21 6 (dk_at dksX0_goTrips_6 0 rfl rfl)
theorem dX0_goTrips_145 : decode cX0_goTrips 145 = .ok (.iconst 1, 1) := dk_4 (dk_at dksX0_goTrips_6 2 rfl rfl)
theorem dX0_goTrips_146 : decode cX0_goTrips 146 = .ok (.iadd, 1) := dk_96 (dk_at dksX0_goTrips_6 3 rfl rfl)
theorem dX0_goTrips_147 : decode cX0_goTrips 147 = .ok (.invokestatic 7, 3) := dk_184 0 7 (dk_at dksX0_goTrips_6 4 rfl rfl)
theorem dX0_goTrips_150 : decode cX0_goTrips 150 = .ok (.aload 4, 2) := dk_25 4 (dk_at dksX0_goTrips_6 7 rfl rfl)
theorem dX0_goTrips_152 : decode cX0_goTrips 152 = .ok (.invokevirtual 336, 3) := dk_182 1 80 (dk_at dksX0_goTrips_6 9 rfl rfl)
theorem dX0_goTrips_155 : decode cX0_goTrips 155 = .ok (.aload 4, 2) := dk_25 4 (dk_at dksX0_goTrips_6 12 rfl rfl)
theorem dX0_goTrips_157 : decode cX0_goTrips 157 = .ok (.iload 6, 2) := dk_21 6 (dk_at dksX0_goTrips_6 14 rfl rfl)
theorem dX0_goTrips_159 : decode cX0_goTrips 159 = .ok (.dup2, 1) := dk_92 (dk_at dksX0_goTrips_6 16 rfl rfl)
theorem dX0_goTrips_160 : decode cX0_goTrips 160 = .ok (.iaload, 1) := dk_46 (dk_at dksX0_goTrips_6 17 rfl rfl)
theorem dX0_goTrips_161 : decode cX0_goTrips 161 = .ok (.iload 5, 2) := dk_21 5 (dk_at dksX0_goTrips_6 18 rfl rfl)
theorem dX0_goTrips_163 : decode cX0_goTrips 163 = .ok (.isub, 1) := dk_100 (dk_at dksX0_goTrips_6 20 rfl rfl)
theorem dX0_goTrips_164 : decode cX0_goTrips 164 = .ok (.iastore, 1) := dk_79 (dk_at dksX0_goTrips_6 21 rfl rfl)
theorem dX0_goTrips_165 : decode cX0_goTrips 165 = .ok (.iinc 6 1, 3) := dk_132 6 1 (dk_at dksX0_goTrips_7 0 rfl rfl)
theorem dX0_goTrips_168 : decode cX0_goTrips 168 = .ok (.goto (-70), 3) := dk_167 255 186 (dk_at dksX0_goTrips_7 3 rfl rfl)
theorem dX0_goTrips_171 : decode cX0_goTrips 171 = .ok (.return_, 1) := dk_177 (dk_at dksX0_goTrips_7 6 rfl rfl)
abbrev cX0_stowing : ByteArray := prog_1_method_46_code
def yX0_stowing : MethodName := ⟨RX0, "stowing", "()I"⟩
def dkwX0_stowing_1 : List UInt8 := [167, 0, 7, 42, 182, 0, 164, 181, 0, 127, 42, 180, 1, 71, 172]
abbrev dktX0_stowing_1 : List UInt8 := dkwX0_stowing_1 ++ []
def dkwX0_stowing_0 : List UInt8 := [42, 2, 181, 1, 71, 42, 3, 3, 42, 180, 0, 83, 182, 1, 89, 42, 42, 180, 1, 71, 156, 0, 7, 3]
abbrev dktX0_stowing_0 : List UInt8 := dkwX0_stowing_0 ++ dktX0_stowing_1
theorem dksX0_stowing_0 : cX0_stowing.data.toList.drop 0 = dktX0_stowing_0 := by decide +kernel
theorem dksX0_stowing_1 : cX0_stowing.data.toList.drop 24 = dktX0_stowing_1 := dk_seg dksX0_stowing_0 24 rfl rfl
theorem dX0_stowing_0 : decode cX0_stowing 0 = .ok (.aload_n 0, 1) := dk_42 (dk_at dksX0_stowing_0 0 rfl rfl)
theorem dX0_stowing_1 : decode cX0_stowing 1 = .ok (.iconst (-1), 1) := dk_2 (dk_at dksX0_stowing_0 1 rfl rfl)
theorem dX0_stowing_2 : decode cX0_stowing 2 = .ok (.putfield 327, 3) := dk_181 1 71 (dk_at dksX0_stowing_0 2 rfl rfl)
theorem dX0_stowing_5 : decode cX0_stowing 5 = .ok (.aload_n 0, 1) := dk_42 (dk_at dksX0_stowing_0 5 rfl rfl)
theorem dX0_stowing_6 : decode cX0_stowing 6 = .ok (.iconst 0, 1) := dk_3 (dk_at dksX0_stowing_0 6 rfl rfl)
theorem dX0_stowing_7 : decode cX0_stowing 7 = .ok (.iconst 0, 1) := dk_3 (dk_at dksX0_stowing_0 7 rfl rfl)
theorem dX0_stowing_8 : decode cX0_stowing 8 = .ok (.aload_n 0, 1) := dk_42 (dk_at dksX0_stowing_0 8 rfl rfl)
theorem dX0_stowing_9 : decode cX0_stowing 9 = .ok (.getfield 83, 3) := dk_180 0 83 (dk_at dksX0_stowing_0 9 rfl rfl)
theorem dX0_stowing_12 : decode cX0_stowing 12 = .ok (.invokevirtual 345, 3) := dk_182 1 89 (dk_at dksX0_stowing_0 12 rfl rfl)
theorem dX0_stowing_15 : decode cX0_stowing 15 = .ok (.aload_n 0, 1) := dk_42 (dk_at dksX0_stowing_0 15 rfl rfl)
theorem dX0_stowing_16 : decode cX0_stowing 16 = .ok (.aload_n 0, 1) := dk_42 (dk_at dksX0_stowing_0 16 rfl rfl)
theorem dX0_stowing_17 : decode cX0_stowing 17 = .ok (.getfield 327, 3) := dk_180 1 71 (dk_at dksX0_stowing_0 17 rfl rfl)
theorem dX0_stowing_20 : decode cX0_stowing 20 = .ok (.ifCond .ge 7, 3) := dk_156 0 7 (dk_at dksX0_stowing_0 20 rfl rfl)
theorem dX0_stowing_23 : decode cX0_stowing 23 = .ok (.iconst 0, 1) := dk_3 (dk_at dksX0_stowing_0 23 rfl rfl)
theorem dX0_stowing_24 : decode cX0_stowing 24 = .ok (.goto 7, 3) := dk_167 0 7 (dk_at dksX0_stowing_1 0 rfl rfl)
theorem dX0_stowing_27 : decode cX0_stowing 27 = .ok (.aload_n 0, 1) := dk_42 (dk_at dksX0_stowing_1 3 rfl rfl)
theorem dX0_stowing_28 : decode cX0_stowing 28 = .ok (.invokevirtual 164, 3) := dk_182 0 164 (dk_at dksX0_stowing_1 4 rfl rfl)
theorem dX0_stowing_31 : decode cX0_stowing 31 = .ok (.putfield 127, 3) := dk_181 0 127 (dk_at dksX0_stowing_1 7 rfl rfl)
theorem dX0_stowing_34 : decode cX0_stowing 34 = .ok (.aload_n 0, 1) := dk_42 (dk_at dksX0_stowing_1 10 rfl rfl)
theorem dX0_stowing_35 : decode cX0_stowing 35 = .ok (.getfield 327, 3) := dk_180 1 71 (dk_at dksX0_stowing_1 11 rfl rfl)
theorem dX0_stowing_38 : decode cX0_stowing 38 = .ok (.ireturn, 1) := dk_172 (dk_at dksX0_stowing_1 14 rfl rfl)
abbrev cX0_goStow : ByteArray := prog_1_method_45_code
def yX0_goStow : MethodName := ⟨RX0, "goStow", "(II[I)V"⟩
def dkwX0_goStow_8 : List UInt8 := [167, 255, 172, 177]
abbrev dktX0_goStow_8 : List UInt8 := dkwX0_goStow_8 ++ []
def dkwX0_goStow_7 : List UInt8 := [28, 4, 21, 5, 120, 128, 45, 182, 1, 89, 45, 21, 5, 92, 46, 21, 4, 100, 79, 132, 5, 1]
abbrev dktX0_goStow_7 : List UInt8 := dkwX0_goStow_7 ++ dktX0_goStow_8
def dkwX0_goStow_6 : List UInt8 := [167, 0, 43, 42, 180, 0, 64, 27, 21, 5, 79, 45, 21, 5, 92, 46, 21, 4, 96, 79, 42, 27, 4, 96]
abbrev dktX0_goStow_6 : List UInt8 := dkwX0_goStow_6 ++ dktX0_goStow_7
def dkwX0_goStow_5 : List UInt8 := [21, 5, 46, 154, 0, 62, 42, 21, 5, 45, 21, 5, 46, 21, 4, 96, 182, 1, 15, 154, 0, 6]
abbrev dktX0_goStow_5 : List UInt8 := dkwX0_goStow_5 ++ dktX0_goStow_6
def dkwX0_goStow_4 : List UInt8 := [180, 0, 233, 54, 4, 3, 54, 5, 21, 5, 42, 182, 0, 158, 162, 0, 81, 42, 180, 0, 28, 180, 0, 203]
abbrev dktX0_goStow_4 : List UInt8 := dkwX0_goStow_4 ++ dktX0_goStow_5
def dkwX0_goStow_3 : List UInt8 := [42, 27, 4, 96, 28, 45, 182, 1, 89, 177, 42, 180, 0, 19, 180, 0, 155, 27, 182, 0, 195, 192, 0, 231]
abbrev dktX0_goStow_3 : List UInt8 := dkwX0_goStow_3 ++ dktX0_goStow_4
def dkwX0_goStow_2 : List UInt8 := [184, 1, 74, 177, 42, 180, 0, 64, 27, 2, 79, 42, 180, 0, 28, 180, 0, 234, 27, 46, 2, 159, 0, 13]
abbrev dktX0_goStow_2 : List UInt8 := dkwX0_goStow_2 ++ dktX0_goStow_3
def dkwX0_goStow_1 : List UInt8 := [160, 0, 26, 42, 28, 184, 1, 84, 181, 1, 71, 42, 180, 0, 64, 3, 42, 180, 0, 60, 3, 27]
abbrev dktX0_goStow_1 : List UInt8 := dkwX0_goStow_1 ++ dktX0_goStow_2
def dkwX0_goStow_0 : List UInt8 := [42, 180, 1, 71, 155, 0, 15, 28, 184, 1, 84, 42, 180, 1, 71, 161, 0, 4, 177, 27, 42, 182, 0, 164]
abbrev dktX0_goStow_0 : List UInt8 := dkwX0_goStow_0 ++ dktX0_goStow_1
theorem dksX0_goStow_0 : cX0_goStow.data.toList.drop 0 = dktX0_goStow_0 := by decide +kernel
theorem dksX0_goStow_1 : cX0_goStow.data.toList.drop 24 = dktX0_goStow_1 := dk_seg dksX0_goStow_0 24 rfl rfl
theorem dksX0_goStow_2 : cX0_goStow.data.toList.drop 46 = dktX0_goStow_2 := dk_seg dksX0_goStow_1 22 rfl rfl
theorem dksX0_goStow_3 : cX0_goStow.data.toList.drop 70 = dktX0_goStow_3 := dk_seg dksX0_goStow_2 24 rfl rfl
theorem dksX0_goStow_4 : cX0_goStow.data.toList.drop 94 = dktX0_goStow_4 := dk_seg dksX0_goStow_3 24 rfl rfl
theorem dksX0_goStow_5 : cX0_goStow.data.toList.drop 118 = dktX0_goStow_5 := dk_seg dksX0_goStow_4 24 rfl rfl
theorem dksX0_goStow_6 : cX0_goStow.data.toList.drop 140 = dktX0_goStow_6 := dk_seg dksX0_goStow_5 22 rfl rfl
theorem dksX0_goStow_7 : cX0_goStow.data.toList.drop 164 = dktX0_goStow_7 := dk_seg dksX0_goStow_6 24 rfl rfl
theorem dksX0_goStow_8 : cX0_goStow.data.toList.drop 186 = dktX0_goStow_8 := dk_seg dksX0_goStow_7 22 rfl rfl
theorem dX0_goStow_0 : decode cX0_goStow 0 = .ok (.aload_n 0, 1) := dk_42 (dk_at dksX0_goStow_0 0 rfl rfl)
theorem dX0_goStow_1 : decode cX0_goStow 1 = .ok (.getfield 327, 3) := dk_180 1 71 (dk_at dksX0_goStow_0 1 rfl rfl)
theorem dX0_goStow_4 : decode cX0_goStow 4 = .ok (.ifCond .lt 15, 3) := dk_155 0 15 (dk_at dksX0_goStow_0 4 rfl rfl)
theorem dX0_goStow_7 : decode cX0_goStow 7 = .ok (.iload_n 2, 1) := dk_28 (dk_at dksX0_goStow_0 7 rfl rfl)
theorem dX0_goStow_8 : decode cX0_goStow 8 = .ok (.invokestatic 340, 3) := dk_184 1 84 (dk_at dksX0_goStow_0 8 rfl rfl)
theorem dX0_goStow_11 : decode cX0_goStow 11 = .ok (.aload_n 0, 1) := dk_42 (dk_at dksX0_goStow_0 11 rfl rfl)
theorem dX0_goStow_12 : decode cX0_goStow 12 = .ok (.getfield 327, 3) := dk_180 1 71 (dk_at dksX0_goStow_0 12 rfl rfl)
theorem dX0_goStow_15 : decode cX0_goStow 15 = .ok (.if_icmp .lt 4, 3) := dk_161 0 4 (dk_at dksX0_goStow_0 15 rfl rfl)
theorem dX0_goStow_18 : decode cX0_goStow 18 = .ok (.return_, 1) := dk_177 (dk_at dksX0_goStow_0 18 rfl rfl)
theorem dX0_goStow_19 : decode cX0_goStow 19 = .ok (.iload_n 1, 1) := dk_27 (dk_at dksX0_goStow_0 19 rfl rfl)
theorem dX0_goStow_20 : decode cX0_goStow 20 = .ok (.aload_n 0, 1) := dk_42 (dk_at dksX0_goStow_0 20 rfl rfl)
theorem dX0_goStow_21 : decode cX0_goStow 21 = .ok (.invokevirtual 164, 3) := dk_182 0 164 (dk_at dksX0_goStow_0 21 rfl rfl)
theorem dX0_goStow_24 : decode cX0_goStow 24 = .ok (.if_icmp .ne 26, 3) := dk_160 0 26 (dk_at dksX0_goStow_1 0 rfl rfl)
theorem dX0_goStow_27 : decode cX0_goStow 27 = .ok (.aload_n 0, 1) := dk_42 (dk_at dksX0_goStow_1 3 rfl rfl)
theorem dX0_goStow_28 : decode cX0_goStow 28 = .ok (.iload_n 2, 1) := dk_28 (dk_at dksX0_goStow_1 4 rfl rfl)
theorem dX0_goStow_29 : decode cX0_goStow 29 = .ok (.invokestatic 340, 3) := dk_184 1 84 (dk_at dksX0_goStow_1 5 rfl rfl)
theorem dX0_goStow_32 : decode cX0_goStow 32 = .ok (.putfield 327, 3) := dk_181 1 71 (dk_at dksX0_goStow_1 8 rfl rfl)
theorem dX0_goStow_35 : decode cX0_goStow 35 = .ok (.aload_n 0, 1) := dk_42 (dk_at dksX0_goStow_1 11 rfl rfl)
theorem dX0_goStow_36 : decode cX0_goStow 36 = .ok (.getfield 64, 3) := dk_180 0 64 (dk_at dksX0_goStow_1 12 rfl rfl)
theorem dX0_goStow_39 : decode cX0_goStow 39 = .ok (.iconst 0, 1) := dk_3 (dk_at dksX0_goStow_1 15 rfl rfl)
theorem dX0_goStow_40 : decode cX0_goStow 40 = .ok (.aload_n 0, 1) := dk_42 (dk_at dksX0_goStow_1 16 rfl rfl)
theorem dX0_goStow_41 : decode cX0_goStow 41 = .ok (.getfield 60, 3) := dk_180 0 60 (dk_at dksX0_goStow_1 17 rfl rfl)
theorem dX0_goStow_44 : decode cX0_goStow 44 = .ok (.iconst 0, 1) := dk_3 (dk_at dksX0_goStow_1 20 rfl rfl)
theorem dX0_goStow_45 : decode cX0_goStow 45 = .ok (.iload_n 1, 1) := dk_27 (dk_at dksX0_goStow_1 21 rfl rfl)
theorem dX0_goStow_46 : decode cX0_goStow 46 = .ok (.invokestatic 330, 3) := dk_184 1 74 (dk_at dksX0_goStow_2 0 rfl rfl)
theorem dX0_goStow_49 : decode cX0_goStow 49 = .ok (.return_, 1) := dk_177 (dk_at dksX0_goStow_2 3 rfl rfl)
theorem dX0_goStow_50 : decode cX0_goStow 50 = .ok (.aload_n 0, 1) := dk_42 (dk_at dksX0_goStow_2 4 rfl rfl)
theorem dX0_goStow_51 : decode cX0_goStow 51 = .ok (.getfield 64, 3) := dk_180 0 64 (dk_at dksX0_goStow_2 5 rfl rfl)
theorem dX0_goStow_54 : decode cX0_goStow 54 = .ok (.iload_n 1, 1) := dk_27 (dk_at dksX0_goStow_2 8 rfl rfl)
theorem dX0_goStow_55 : decode cX0_goStow 55 = .ok (.iconst (-1), 1) := dk_2 (dk_at dksX0_goStow_2 9 rfl rfl)
theorem dX0_goStow_56 : decode cX0_goStow 56 = .ok (.iastore, 1) := dk_79 (dk_at dksX0_goStow_2 10 rfl rfl)
theorem dX0_goStow_57 : decode cX0_goStow 57 = .ok (.aload_n 0, 1) := dk_42 (dk_at dksX0_goStow_2 11 rfl rfl)
theorem dX0_goStow_58 : decode cX0_goStow 58 = .ok (.getfield 28, 3) := dk_180 0 28 (dk_at dksX0_goStow_2 12 rfl rfl)
theorem dX0_goStow_61 : decode cX0_goStow 61 = .ok (.getfield 234, 3) := dk_180 0 234 (dk_at dksX0_goStow_2 15 rfl rfl)
theorem dX0_goStow_64 : decode cX0_goStow 64 = .ok (.iload_n 1, 1) := dk_27 (dk_at dksX0_goStow_2 18 rfl rfl)
theorem dX0_goStow_65 : decode cX0_goStow 65 = .ok (.iaload, 1) := dk_46 (dk_at dksX0_goStow_2 19 rfl rfl)
theorem dX0_goStow_66 : decode cX0_goStow 66 = .ok (.iconst (-1), 1) := dk_2 (dk_at dksX0_goStow_2 20 rfl rfl)
theorem dX0_goStow_67 : decode cX0_goStow 67 = .ok (.if_icmp .eq 13, 3) := dk_159 0 13 (dk_at dksX0_goStow_2 21 rfl rfl)
theorem dX0_goStow_70 : decode cX0_goStow 70 = .ok (.aload_n 0, 1) := dk_42 (dk_at dksX0_goStow_3 0 rfl rfl)
theorem dX0_goStow_71 : decode cX0_goStow 71 = .ok (.iload_n 1, 1) := dk_27 (dk_at dksX0_goStow_3 1 rfl rfl)
theorem dX0_goStow_72 : decode cX0_goStow 72 = .ok (.iconst 1, 1) := dk_4 (dk_at dksX0_goStow_3 2 rfl rfl)
theorem dX0_goStow_73 : decode cX0_goStow 73 = .ok (.iadd, 1) := dk_96 (dk_at dksX0_goStow_3 3 rfl rfl)
theorem dX0_goStow_74 : decode cX0_goStow 74 = .ok (.iload_n 2, 1) := dk_28 (dk_at dksX0_goStow_3 4 rfl rfl)
theorem dX0_goStow_75 : decode cX0_goStow 75 = .ok (.aload_n 3, 1) := dk_45 (dk_at dksX0_goStow_3 5 rfl rfl)
theorem dX0_goStow_76 : decode cX0_goStow 76 = .ok (.invokevirtual 345, 3) := dk_182 1 89 (dk_at dksX0_goStow_3 6 rfl rfl)
theorem dX0_goStow_79 : decode cX0_goStow 79 = .ok (.return_, 1) := dk_177 (dk_at dksX0_goStow_3 9 rfl rfl)
theorem dX0_goStow_80 : decode cX0_goStow 80 = .ok (.aload_n 0, 1) := dk_42 (dk_at dksX0_goStow_3 10 rfl rfl)
theorem dX0_goStow_81 : decode cX0_goStow 81 = .ok (.getfield 19, 3) := dk_180 0 19 (dk_at dksX0_goStow_3 11 rfl rfl)
theorem dX0_goStow_84 : decode cX0_goStow 84 = .ok (.getfield 155, 3) := dk_180 0 155 (dk_at dksX0_goStow_3 14 rfl rfl)
theorem dX0_goStow_87 : decode cX0_goStow 87 = .ok (.iload_n 1, 1) := dk_27 (dk_at dksX0_goStow_3 17 rfl rfl)
theorem dX0_goStow_88 : decode cX0_goStow 88 = .ok (.invokevirtual 195, 3) := dk_182 0 195 (dk_at dksX0_goStow_3 18 rfl rfl)
theorem dX0_goStow_91 : decode cX0_goStow 91 = .ok (.checkcast 231, 3) := dk_192 0 231 (dk_at dksX0_goStow_3 21 rfl rfl)
theorem dX0_goStow_94 : decode cX0_goStow 94 = .ok (.getfield 233, 3) := dk_180 0 233 (dk_at dksX0_goStow_4 0 rfl rfl)
theorem dX0_goStow_97 : decode cX0_goStow 97 = .ok (.istore 4, 2) := dk_54 4 (dk_at dksX0_goStow_4 3 rfl rfl)
theorem dX0_goStow_99 : decode cX0_goStow 99 = .ok (.iconst 0, 1) := dk_3 (dk_at dksX0_goStow_4 5 rfl rfl)
theorem dX0_goStow_100 : decode cX0_goStow 100 = .ok (.istore 5, 2) := dk_54 5 (dk_at dksX0_goStow_4 6 rfl rfl)
theorem dX0_goStow_102 : decode cX0_goStow 102 = .ok (.iload 5, 2) := dk_21 5 (dk_at dksX0_goStow_4 8 rfl rfl)
theorem dX0_goStow_104 : decode cX0_goStow 104 = .ok (.aload_n 0, 1) := dk_42 (dk_at dksX0_goStow_4 10 rfl rfl)
theorem dX0_goStow_105 : decode cX0_goStow 105 = .ok (.invokevirtual 158, 3) := dk_182 0 158 (dk_at dksX0_goStow_4 11 rfl rfl)
theorem dX0_goStow_108 : decode cX0_goStow 108 = .ok (.if_icmp .ge 81, 3) := dk_162 0 81 (dk_at dksX0_goStow_4 14 rfl rfl)
theorem dX0_goStow_111 : decode cX0_goStow 111 = .ok (.aload_n 0, 1) := dk_42 (dk_at dksX0_goStow_4 17 rfl rfl)
theorem dX0_goStow_112 : decode cX0_goStow 112 = .ok (.getfield 28, 3) := dk_180 0 28 (dk_at dksX0_goStow_4 18 rfl rfl)
theorem dX0_goStow_115 : decode cX0_goStow 115 = .ok (.getfield 203, 3) := dk_180 0 203 (dk_at dksX0_goStow_4 21 rfl rfl)
theorem dX0_goStow_118 : decode cX0_goStow 118 = .ok (.iload 5, 2) := dk_21 5 (dk_at dksX0_goStow_5 0 rfl rfl)
theorem dX0_goStow_120 : decode cX0_goStow 120 = .ok (.iaload, 1) := dk_46 (dk_at dksX0_goStow_5 2 rfl rfl)
theorem dX0_goStow_121 : decode cX0_goStow 121 = .ok (.ifCond .ne 62, 3) := dk_154 0 62 (dk_at dksX0_goStow_5 3 rfl rfl)
theorem dX0_goStow_124 : decode cX0_goStow 124 = .ok (.aload_n 0, 1) := dk_42 (dk_at dksX0_goStow_5 6 rfl rfl)
theorem dX0_goStow_125 : decode cX0_goStow 125 = .ok (.iload 5, 2) := dk_21 5 (dk_at dksX0_goStow_5 7 rfl rfl)
theorem dX0_goStow_127 : decode cX0_goStow 127 = .ok (.aload_n 3, 1) := dk_45 (dk_at dksX0_goStow_5 9 rfl rfl)
theorem dX0_goStow_128 : decode cX0_goStow 128 = .ok (.iload 5, 2) := dk_21 5 (dk_at dksX0_goStow_5 10 rfl rfl)
theorem dX0_goStow_130 : decode cX0_goStow 130 = .ok (.iaload, 1) := dk_46 (dk_at dksX0_goStow_5 12 rfl rfl)
theorem dX0_goStow_131 : decode cX0_goStow 131 = .ok (.iload 4, 2) := dk_21 4 (dk_at dksX0_goStow_5 13 rfl rfl)
theorem dX0_goStow_133 : decode cX0_goStow 133 = .ok (.iadd, 1) := dk_96 (dk_at dksX0_goStow_5 15 rfl rfl)
theorem dX0_goStow_134 : decode cX0_goStow 134 = .ok (.invokevirtual 271, 3) := dk_182 1 15 (dk_at dksX0_goStow_5 16 rfl rfl)
theorem dX0_goStow_137 : decode cX0_goStow 137 = .ok (.ifCond .ne 6, 3) := dk_154 0 6 (dk_at dksX0_goStow_5 19 rfl rfl)
theorem dX0_goStow_140 : decode cX0_goStow 140 = .ok (.goto 43, 3) := dk_167 0 43 (dk_at dksX0_goStow_6 0 rfl rfl)
theorem dX0_goStow_143 : decode cX0_goStow 143 = .ok (.aload_n 0, 1) := dk_42 (dk_at dksX0_goStow_6 3 rfl rfl)
theorem dX0_goStow_144 : decode cX0_goStow 144 = .ok (.getfield 64, 3) := dk_180 0 64 (dk_at dksX0_goStow_6 4 rfl rfl)
theorem dX0_goStow_147 : decode cX0_goStow 147 = .ok (.iload_n 1, 1) := dk_27 (dk_at dksX0_goStow_6 7 rfl rfl)
theorem dX0_goStow_148 : decode cX0_goStow 148 = .ok (.iload 5, 2) := dk_21 5 (dk_at dksX0_goStow_6 8 rfl rfl)
theorem dX0_goStow_150 : decode cX0_goStow 150 = .ok (.iastore, 1) := dk_79 (dk_at dksX0_goStow_6 10 rfl rfl)
theorem dX0_goStow_151 : decode cX0_goStow 151 = .ok (.aload_n 3, 1) := dk_45 (dk_at dksX0_goStow_6 11 rfl rfl)
theorem dX0_goStow_152 : decode cX0_goStow 152 = .ok (.iload 5, 2) := dk_21 5 (dk_at dksX0_goStow_6 12 rfl rfl)
theorem dX0_goStow_154 : decode cX0_goStow 154 = .ok (.dup2, 1) := dk_92 (dk_at dksX0_goStow_6 14 rfl rfl)
theorem dX0_goStow_155 : decode cX0_goStow 155 = .ok (.iaload, 1) := dk_46 (dk_at dksX0_goStow_6 15 rfl rfl)
theorem dX0_goStow_156 : decode cX0_goStow 156 = .ok (.iload 4, 2) := dk_21 4 (dk_at dksX0_goStow_6 16 rfl rfl)
theorem dX0_goStow_158 : decode cX0_goStow 158 = .ok (.iadd, 1) := dk_96 (dk_at dksX0_goStow_6 18 rfl rfl)
theorem dX0_goStow_159 : decode cX0_goStow 159 = .ok (.iastore, 1) := dk_79 (dk_at dksX0_goStow_6 19 rfl rfl)
theorem dX0_goStow_160 : decode cX0_goStow 160 = .ok (.aload_n 0, 1) := dk_42 (dk_at dksX0_goStow_6 20 rfl rfl)
theorem dX0_goStow_161 : decode cX0_goStow 161 = .ok (.iload_n 1, 1) := dk_27 (dk_at dksX0_goStow_6 21 rfl rfl)
theorem dX0_goStow_162 : decode cX0_goStow 162 = .ok (.iconst 1, 1) := dk_4 (dk_at dksX0_goStow_6 22 rfl rfl)
theorem dX0_goStow_163 : decode cX0_goStow 163 = .ok (.iadd, 1) := dk_96 (dk_at dksX0_goStow_6 23 rfl rfl)
theorem dX0_goStow_164 : decode cX0_goStow 164 = .ok (.iload_n 2, 1) := dk_28 (dk_at dksX0_goStow_7 0 rfl rfl)
theorem dX0_goStow_165 : decode cX0_goStow 165 = .ok (.iconst 1, 1) := dk_4 (dk_at dksX0_goStow_7 1 rfl rfl)
theorem dX0_goStow_166 : decode cX0_goStow 166 = .ok (.iload 5, 2) := dk_21 5 (dk_at dksX0_goStow_7 2 rfl rfl)
theorem dX0_goStow_168 : decode cX0_goStow 168 = .ok (.ishl, 1) := dk_120 (dk_at dksX0_goStow_7 4 rfl rfl)
theorem dX0_goStow_169 : decode cX0_goStow 169 = .ok (.ior, 1) := dk_128 (dk_at dksX0_goStow_7 5 rfl rfl)
theorem dX0_goStow_170 : decode cX0_goStow 170 = .ok (.aload_n 3, 1) := dk_45 (dk_at dksX0_goStow_7 6 rfl rfl)
theorem dX0_goStow_171 : decode cX0_goStow 171 = .ok (.invokevirtual 345, 3) := dk_182 1 89 (dk_at dksX0_goStow_7 7 rfl rfl)
theorem dX0_goStow_174 : decode cX0_goStow 174 = .ok (.aload_n 3, 1) := dk_45 (dk_at dksX0_goStow_7 10 rfl rfl)
theorem dX0_goStow_175 : decode cX0_goStow 175 = .ok (.iload 5, 2) := dk_21 5 (dk_at dksX0_goStow_7 11 rfl rfl)
theorem dX0_goStow_177 : decode cX0_goStow 177 = .ok (.dup2, 1) := dk_92 (dk_at dksX0_goStow_7 13 rfl rfl)
theorem dX0_goStow_178 : decode cX0_goStow 178 = .ok (.iaload, 1) := dk_46 (dk_at dksX0_goStow_7 14 rfl rfl)
theorem dX0_goStow_179 : decode cX0_goStow 179 = .ok (.iload 4, 2) := dk_21 4 (dk_at dksX0_goStow_7 15 rfl rfl)
theorem dX0_goStow_181 : decode cX0_goStow 181 = .ok (.isub, 1) := dk_100 (dk_at dksX0_goStow_7 17 rfl rfl)
theorem dX0_goStow_182 : decode cX0_goStow 182 = .ok (.iastore, 1) := dk_79 (dk_at dksX0_goStow_7 18 rfl rfl)
theorem dX0_goStow_183 : decode cX0_goStow 183 = .ok (.iinc 5 1, 3) := dk_132 5 1 (dk_at dksX0_goStow_7 19 rfl rfl)
theorem dX0_goStow_186 : decode cX0_goStow 186 = .ok (.goto (-84), 3) := dk_167 255 172 (dk_at dksX0_goStow_8 0 rfl rfl)
theorem dX0_goStow_189 : decode cX0_goStow 189 = .ok (.return_, 1) := dk_177 (dk_at dksX0_goStow_8 3 rfl rfl)
abbrev cX0_meet : ByteArray := prog_1_method_50_code
def yX0_meet : MethodName := ⟨RX0, "meet", "(II)I"⟩
def dkwX0_meet_6 : List UInt8 := [182, 1, 99, 132, 3, 1, 167, 255, 211, 2, 172]
abbrev dktX0_meet_6 : List UInt8 := dkwX0_meet_6 ++ []
def dkwX0_meet_5 : List UInt8 := [29, 172, 29, 42, 27, 182, 1, 41, 162, 0, 18, 42, 42, 180, 0, 28, 180, 0, 203, 27, 46, 29, 96]
abbrev dktX0_meet_5 : List UInt8 := dkwX0_meet_5 ++ dktX0_meet_6
def dkwX0_meet_4 : List UInt8 := [132, 3, 1, 167, 255, 207, 3, 62, 29, 42, 27, 182, 1, 41, 163, 0, 42, 42, 182, 1, 96, 153, 0, 5]
abbrev dktX0_meet_4 : List UInt8 := dkwX0_meet_4 ++ dktX0_meet_5
def dkwX0_meet_3 : List UInt8 := [27, 46, 104, 42, 180, 0, 28, 180, 0, 200, 28, 46, 96, 160, 0, 7, 4, 167, 0, 4, 3, 84]
abbrev dktX0_meet_3 : List UInt8 := dkwX0_meet_3 ++ dktX0_meet_4
def dkwX0_meet_2 : List UInt8 := [29, 42, 180, 0, 86, 190, 162, 0, 46, 42, 180, 0, 86, 29, 29, 16, 8, 42, 180, 0, 28, 180, 0, 200]
abbrev dktX0_meet_2 : List UInt8 := dkwX0_meet_2 ++ dktX0_meet_3
def dkwX0_meet_1 : List UInt8 := [180, 0, 28, 180, 0, 203, 27, 46, 42, 180, 0, 28, 180, 0, 203, 28, 46, 159, 0, 5, 2, 172, 3, 62]
abbrev dktX0_meet_1 : List UInt8 := dkwX0_meet_1 ++ dktX0_meet_2
def dkwX0_meet_0 : List UInt8 := [42, 27, 182, 0, 191, 153, 0, 37, 42, 28, 182, 0, 191, 153, 0, 29, 27, 28, 159, 0, 24, 42]
abbrev dktX0_meet_0 : List UInt8 := dkwX0_meet_0 ++ dktX0_meet_1
theorem dksX0_meet_0 : cX0_meet.data.toList.drop 0 = dktX0_meet_0 := by decide +kernel
theorem dksX0_meet_1 : cX0_meet.data.toList.drop 22 = dktX0_meet_1 := dk_seg dksX0_meet_0 22 rfl rfl
theorem dksX0_meet_2 : cX0_meet.data.toList.drop 46 = dktX0_meet_2 := dk_seg dksX0_meet_1 24 rfl rfl
theorem dksX0_meet_3 : cX0_meet.data.toList.drop 70 = dktX0_meet_3 := dk_seg dksX0_meet_2 24 rfl rfl
theorem dksX0_meet_4 : cX0_meet.data.toList.drop 92 = dktX0_meet_4 := dk_seg dksX0_meet_3 22 rfl rfl
theorem dksX0_meet_5 : cX0_meet.data.toList.drop 116 = dktX0_meet_5 := dk_seg dksX0_meet_4 24 rfl rfl
theorem dksX0_meet_6 : cX0_meet.data.toList.drop 139 = dktX0_meet_6 := dk_seg dksX0_meet_5 23 rfl rfl
theorem dX0_meet_0 : decode cX0_meet 0 = .ok (.aload_n 0, 1) := dk_42 (dk_at dksX0_meet_0 0 rfl rfl)
theorem dX0_meet_1 : decode cX0_meet 1 = .ok (.iload_n 1, 1) := dk_27 (dk_at dksX0_meet_0 1 rfl rfl)
theorem dX0_meet_2 : decode cX0_meet 2 = .ok (.invokevirtual 191, 3) := dk_182 0 191 (dk_at dksX0_meet_0 2 rfl rfl)
theorem dX0_meet_5 : decode cX0_meet 5 = .ok (.ifCond .eq 37, 3) := dk_153 0 37 (dk_at dksX0_meet_0 5 rfl rfl)
theorem dX0_meet_8 : decode cX0_meet 8 = .ok (.aload_n 0, 1) := dk_42 (dk_at dksX0_meet_0 8 rfl rfl)
theorem dX0_meet_9 : decode cX0_meet 9 = .ok (.iload_n 2, 1) := dk_28 (dk_at dksX0_meet_0 9 rfl rfl)
theorem dX0_meet_10 : decode cX0_meet 10 = .ok (.invokevirtual 191, 3) := dk_182 0 191 (dk_at dksX0_meet_0 10 rfl rfl)
theorem dX0_meet_13 : decode cX0_meet 13 = .ok (.ifCond .eq 29, 3) := dk_153 0 29 (dk_at dksX0_meet_0 13 rfl rfl)
theorem dX0_meet_16 : decode cX0_meet 16 = .ok (.iload_n 1, 1) := dk_27 (dk_at dksX0_meet_0 16 rfl rfl)
theorem dX0_meet_17 : decode cX0_meet 17 = .ok (.iload_n 2, 1) := dk_28 (dk_at dksX0_meet_0 17 rfl rfl)
theorem dX0_meet_18 : decode cX0_meet 18 = .ok (.if_icmp .eq 24, 3) := dk_159 0 24 (dk_at dksX0_meet_0 18 rfl rfl)
theorem dX0_meet_21 : decode cX0_meet 21 = .ok (.aload_n 0, 1) := dk_42 (dk_at dksX0_meet_0 21 rfl rfl)
theorem dX0_meet_22 : decode cX0_meet 22 = .ok (.getfield 28, 3) := dk_180 0 28 (dk_at dksX0_meet_1 0 rfl rfl)
theorem dX0_meet_25 : decode cX0_meet 25 = .ok (.getfield 203, 3) := dk_180 0 203 (dk_at dksX0_meet_1 3 rfl rfl)
theorem dX0_meet_28 : decode cX0_meet 28 = .ok (.iload_n 1, 1) := dk_27 (dk_at dksX0_meet_1 6 rfl rfl)
theorem dX0_meet_29 : decode cX0_meet 29 = .ok (.iaload, 1) := dk_46 (dk_at dksX0_meet_1 7 rfl rfl)
theorem dX0_meet_30 : decode cX0_meet 30 = .ok (.aload_n 0, 1) := dk_42 (dk_at dksX0_meet_1 8 rfl rfl)
theorem dX0_meet_31 : decode cX0_meet 31 = .ok (.getfield 28, 3) := dk_180 0 28 (dk_at dksX0_meet_1 9 rfl rfl)
theorem dX0_meet_34 : decode cX0_meet 34 = .ok (.getfield 203, 3) := dk_180 0 203 (dk_at dksX0_meet_1 12 rfl rfl)
theorem dX0_meet_37 : decode cX0_meet 37 = .ok (.iload_n 2, 1) := dk_28 (dk_at dksX0_meet_1 15 rfl rfl)
theorem dX0_meet_38 : decode cX0_meet 38 = .ok (.iaload, 1) := dk_46 (dk_at dksX0_meet_1 16 rfl rfl)
theorem dX0_meet_39 : decode cX0_meet 39 = .ok (.if_icmp .eq 5, 3) := dk_159 0 5 (dk_at dksX0_meet_1 17 rfl rfl)
theorem dX0_meet_42 : decode cX0_meet 42 = .ok (.iconst (-1), 1) := dk_2 (dk_at dksX0_meet_1 20 rfl rfl)
theorem dX0_meet_43 : decode cX0_meet 43 = .ok (.ireturn, 1) := dk_172 (dk_at dksX0_meet_1 21 rfl rfl)
theorem dX0_meet_44 : decode cX0_meet 44 = .ok (.iconst 0, 1) := dk_3 (dk_at dksX0_meet_1 22 rfl rfl)
theorem dX0_meet_45 : decode cX0_meet 45 = .ok (.istore_n 3, 1) := dk_62 (dk_at dksX0_meet_1 23 rfl rfl)
theorem dX0_meet_46 : decode cX0_meet 46 = .ok (.iload_n 3, 1) := dk_29 (dk_at dksX0_meet_2 0 rfl rfl)
theorem dX0_meet_47 : decode cX0_meet 47 = .ok (.aload_n 0, 1) := dk_42 (dk_at dksX0_meet_2 1 rfl rfl)
theorem dX0_meet_48 : decode cX0_meet 48 = .ok (.getfield 86, 3) := dk_180 0 86 (dk_at dksX0_meet_2 2 rfl rfl)
theorem dX0_meet_51 : decode cX0_meet 51 = .ok (.arraylength, 1) := dk_190 (dk_at dksX0_meet_2 5 rfl rfl)
theorem dX0_meet_52 : decode cX0_meet 52 = .ok (.if_icmp .ge 46, 3) := dk_162 0 46 (dk_at dksX0_meet_2 6 rfl rfl)
theorem dX0_meet_55 : decode cX0_meet 55 = .ok (.aload_n 0, 1) := dk_42 (dk_at dksX0_meet_2 9 rfl rfl)
theorem dX0_meet_56 : decode cX0_meet 56 = .ok (.getfield 86, 3) := dk_180 0 86 (dk_at dksX0_meet_2 10 rfl rfl)
theorem dX0_meet_59 : decode cX0_meet 59 = .ok (.iload_n 3, 1) := dk_29 (dk_at dksX0_meet_2 13 rfl rfl)
theorem dX0_meet_60 : decode cX0_meet 60 = .ok (.iload_n 3, 1) := dk_29 (dk_at dksX0_meet_2 14 rfl rfl)
theorem dX0_meet_61 : decode cX0_meet 61 = .ok (.bipush 8, 2) := dk_16 8 (dk_at dksX0_meet_2 15 rfl rfl)
theorem dX0_meet_63 : decode cX0_meet 63 = .ok (.aload_n 0, 1) := dk_42 (dk_at dksX0_meet_2 17 rfl rfl)
theorem dX0_meet_64 : decode cX0_meet 64 = .ok (.getfield 28, 3) := dk_180 0 28 (dk_at dksX0_meet_2 18 rfl rfl)
theorem dX0_meet_67 : decode cX0_meet 67 = .ok (.getfield 200, 3) := dk_180 0 200 (dk_at dksX0_meet_2 21 rfl rfl)
theorem dX0_meet_70 : decode cX0_meet 70 = .ok (.iload_n 1, 1) := dk_27 (dk_at dksX0_meet_3 0 rfl rfl)
theorem dX0_meet_71 : decode cX0_meet 71 = .ok (.iaload, 1) := dk_46 (dk_at dksX0_meet_3 1 rfl rfl)
theorem dX0_meet_72 : decode cX0_meet 72 = .ok (.imul, 1) := dk_104 (dk_at dksX0_meet_3 2 rfl rfl)
theorem dX0_meet_73 : decode cX0_meet 73 = .ok (.aload_n 0, 1) := dk_42 (dk_at dksX0_meet_3 3 rfl rfl)
theorem dX0_meet_74 : decode cX0_meet 74 = .ok (.getfield 28, 3) := dk_180 0 28 (dk_at dksX0_meet_3 4 rfl rfl)
theorem dX0_meet_77 : decode cX0_meet 77 = .ok (.getfield 200, 3) := dk_180 0 200 (dk_at dksX0_meet_3 7 rfl rfl)
theorem dX0_meet_80 : decode cX0_meet 80 = .ok (.iload_n 2, 1) := dk_28 (dk_at dksX0_meet_3 10 rfl rfl)
theorem dX0_meet_81 : decode cX0_meet 81 = .ok (.iaload, 1) := dk_46 (dk_at dksX0_meet_3 11 rfl rfl)
theorem dX0_meet_82 : decode cX0_meet 82 = .ok (.iadd, 1) := dk_96 (dk_at dksX0_meet_3 12 rfl rfl)
theorem dX0_meet_83 : decode cX0_meet 83 = .ok (.if_icmp .ne 7, 3) := dk_160 0 7 (dk_at dksX0_meet_3 13 rfl rfl)
theorem dX0_meet_86 : decode cX0_meet 86 = .ok (.iconst 1, 1) := dk_4 (dk_at dksX0_meet_3 16 rfl rfl)
theorem dX0_meet_87 : decode cX0_meet 87 = .ok (.goto 4, 3) := dk_167 0 4 (dk_at dksX0_meet_3 17 rfl rfl)
theorem dX0_meet_90 : decode cX0_meet 90 = .ok (.iconst 0, 1) := dk_3 (dk_at dksX0_meet_3 20 rfl rfl)
theorem dX0_meet_91 : decode cX0_meet 91 = .ok (.bastore, 1) := dk_84 (dk_at dksX0_meet_3 21 rfl rfl)
theorem dX0_meet_92 : decode cX0_meet 92 = .ok (.iinc 3 1, 3) := dk_132 3 1 (dk_at dksX0_meet_4 0 rfl rfl)
theorem dX0_meet_95 : decode cX0_meet 95 = .ok (.goto (-49), 3) := dk_167 255 207 (dk_at dksX0_meet_4 3 rfl rfl)
theorem dX0_meet_98 : decode cX0_meet 98 = .ok (.iconst 0, 1) := dk_3 (dk_at dksX0_meet_4 6 rfl rfl)
theorem dX0_meet_99 : decode cX0_meet 99 = .ok (.istore_n 3, 1) := dk_62 (dk_at dksX0_meet_4 7 rfl rfl)
theorem dX0_meet_100 : decode cX0_meet 100 = .ok (.iload_n 3, 1) := dk_29 (dk_at dksX0_meet_4 8 rfl rfl)
theorem dX0_meet_101 : decode cX0_meet 101 = .ok (.aload_n 0, 1) := dk_42 (dk_at dksX0_meet_4 9 rfl rfl)
theorem dX0_meet_102 : decode cX0_meet 102 = .ok (.iload_n 1, 1) := dk_27 (dk_at dksX0_meet_4 10 rfl rfl)
theorem dX0_meet_103 : decode cX0_meet 103 = .ok (.invokevirtual 297, 3) := dk_182 1 41 (dk_at dksX0_meet_4 11 rfl rfl)
theorem dX0_meet_106 : decode cX0_meet 106 = .ok (.if_icmp .gt 42, 3) := dk_163 0 42 (dk_at dksX0_meet_4 14 rfl rfl)
theorem dX0_meet_109 : decode cX0_meet 109 = .ok (.aload_n 0, 1) := dk_42 (dk_at dksX0_meet_4 17 rfl rfl)
theorem dX0_meet_110 : decode cX0_meet 110 = .ok (.invokevirtual 352, 3) := dk_182 1 96 (dk_at dksX0_meet_4 18 rfl rfl)
theorem dX0_meet_113 : decode cX0_meet 113 = .ok (.ifCond .eq 5, 3) := dk_153 0 5 (dk_at dksX0_meet_4 21 rfl rfl)
theorem dX0_meet_116 : decode cX0_meet 116 = .ok (.iload_n 3, 1) := dk_29 (dk_at dksX0_meet_5 0 rfl rfl)
theorem dX0_meet_117 : decode cX0_meet 117 = .ok (.ireturn, 1) := dk_172 (dk_at dksX0_meet_5 1 rfl rfl)
theorem dX0_meet_118 : decode cX0_meet 118 = .ok (.iload_n 3, 1) := dk_29 (dk_at dksX0_meet_5 2 rfl rfl)
theorem dX0_meet_119 : decode cX0_meet 119 = .ok (.aload_n 0, 1) := dk_42 (dk_at dksX0_meet_5 3 rfl rfl)
theorem dX0_meet_120 : decode cX0_meet 120 = .ok (.iload_n 1, 1) := dk_27 (dk_at dksX0_meet_5 4 rfl rfl)
theorem dX0_meet_121 : decode cX0_meet 121 = .ok (.invokevirtual 297, 3) := dk_182 1 41 (dk_at dksX0_meet_5 5 rfl rfl)
theorem dX0_meet_124 : decode cX0_meet 124 = .ok (.if_icmp .ge 18, 3) := dk_162 0 18 (dk_at dksX0_meet_5 8 rfl rfl)
theorem dX0_meet_127 : decode cX0_meet 127 = .ok (.aload_n 0, 1) := dk_42 (dk_at dksX0_meet_5 11 rfl rfl)
theorem dX0_meet_128 : decode cX0_meet 128 = .ok (.aload_n 0, 1) := dk_42 (dk_at dksX0_meet_5 12 rfl rfl)
theorem dX0_meet_129 : decode cX0_meet 129 = .ok (.getfield 28, 3) := dk_180 0 28 (dk_at dksX0_meet_5 13 rfl rfl)
theorem dX0_meet_132 : decode cX0_meet 132 = .ok (.getfield 203, 3) := dk_180 0 203 (dk_at dksX0_meet_5 16 rfl rfl)
theorem dX0_meet_135 : decode cX0_meet 135 = .ok (.iload_n 1, 1) := dk_27 (dk_at dksX0_meet_5 19 rfl rfl)
theorem dX0_meet_136 : decode cX0_meet 136 = .ok (.iaload, 1) := dk_46 (dk_at dksX0_meet_5 20 rfl rfl)
theorem dX0_meet_137 : decode cX0_meet 137 = .ok (.iload_n 3, 1) := dk_29 (dk_at dksX0_meet_5 21 rfl rfl)
theorem dX0_meet_138 : decode cX0_meet 138 = .ok (.iadd, 1) := dk_96 (dk_at dksX0_meet_5 22 rfl rfl)
theorem dX0_meet_139 : decode cX0_meet 139 = .ok (.invokevirtual 355, 3) := dk_182 1 99 (dk_at dksX0_meet_6 0 rfl rfl)
theorem dX0_meet_142 : decode cX0_meet 142 = .ok (.iinc 3 1, 3) := dk_132 3 1 (dk_at dksX0_meet_6 3 rfl rfl)
theorem dX0_meet_145 : decode cX0_meet 145 = .ok (.goto (-45), 3) := dk_167 255 211 (dk_at dksX0_meet_6 6 rfl rfl)
theorem dX0_meet_148 : decode cX0_meet 148 = .ok (.iconst (-1), 1) := dk_2 (dk_at dksX0_meet_6 9 rfl rfl)
theorem dX0_meet_149 : decode cX0_meet 149 = .ok (.ireturn, 1) := dk_172 (dk_at dksX0_meet_6 10 rfl rfl)
abbrev cX0_areSideBySide : ByteArray := prog_1_method_47_code
def yX0_areSideBySide : MethodName := ⟨RX0, "areSideBySide", "()Z"⟩
def dkwX0_areSideBySide_1 : List UInt8 := [27, 16, 8, 112, 100, 184, 1, 37, 4, 160, 0, 5, 4, 172, 132, 1, 1, 167, 255, 217, 3, 172]
abbrev dktX0_areSideBySide_1 : List UInt8 := dkwX0_areSideBySide_1 ++ []
def dkwX0_areSideBySide_0 : List UInt8 := [3, 60, 27, 42, 180, 0, 86, 190, 162, 0, 36, 42, 180, 0, 86, 27, 51, 153, 0, 21, 27, 16, 8, 108]
abbrev dktX0_areSideBySide_0 : List UInt8 := dkwX0_areSideBySide_0 ++ dktX0_areSideBySide_1
theorem dksX0_areSideBySide_0 : cX0_areSideBySide.data.toList.drop 0 = dktX0_areSideBySide_0 := by decide +kernel
theorem dksX0_areSideBySide_1 : cX0_areSideBySide.data.toList.drop 24 = dktX0_areSideBySide_1 := dk_seg dksX0_areSideBySide_0 24 rfl rfl
theorem dX0_areSideBySide_0 : decode cX0_areSideBySide 0 = .ok (.iconst 0, 1) := dk_3 (dk_at dksX0_areSideBySide_0 0 rfl rfl)
theorem dX0_areSideBySide_1 : decode cX0_areSideBySide 1 = .ok (.istore_n 1, 1) := dk_60 (dk_at dksX0_areSideBySide_0 1 rfl rfl)
theorem dX0_areSideBySide_2 : decode cX0_areSideBySide 2 = .ok (.iload_n 1, 1) := dk_27 (dk_at dksX0_areSideBySide_0 2 rfl rfl)
theorem dX0_areSideBySide_3 : decode cX0_areSideBySide 3 = .ok (.aload_n 0, 1) := dk_42 (dk_at dksX0_areSideBySide_0 3 rfl rfl)
theorem dX0_areSideBySide_4 : decode cX0_areSideBySide 4 = .ok (.getfield 86, 3) := dk_180 0 86 (dk_at dksX0_areSideBySide_0 4 rfl rfl)
theorem dX0_areSideBySide_7 : decode cX0_areSideBySide 7 = .ok (.arraylength, 1) := dk_190 (dk_at dksX0_areSideBySide_0 7 rfl rfl)
theorem dX0_areSideBySide_8 : decode cX0_areSideBySide 8 = .ok (.if_icmp .ge 36, 3) := dk_162 0 36 (dk_at dksX0_areSideBySide_0 8 rfl rfl)
theorem dX0_areSideBySide_11 : decode cX0_areSideBySide 11 = .ok (.aload_n 0, 1) := dk_42 (dk_at dksX0_areSideBySide_0 11 rfl rfl)
theorem dX0_areSideBySide_12 : decode cX0_areSideBySide 12 = .ok (.getfield 86, 3) := dk_180 0 86 (dk_at dksX0_areSideBySide_0 12 rfl rfl)
theorem dX0_areSideBySide_15 : decode cX0_areSideBySide 15 = .ok (.iload_n 1, 1) := dk_27 (dk_at dksX0_areSideBySide_0 15 rfl rfl)
theorem dX0_areSideBySide_16 : decode cX0_areSideBySide 16 = .ok (.baload, 1) := dk_51 (dk_at dksX0_areSideBySide_0 16 rfl rfl)
theorem dX0_areSideBySide_17 : decode cX0_areSideBySide 17 = .ok (.ifCond .eq 21, 3) := dk_153 0 21 (dk_at dksX0_areSideBySide_0 17 rfl rfl)
theorem dX0_areSideBySide_20 : decode cX0_areSideBySide 20 = .ok (.iload_n 1, 1) := dk_27 (dk_at dksX0_areSideBySide_0 20 rfl rfl)
theorem dX0_areSideBySide_21 : decode cX0_areSideBySide 21 = .ok (.bipush 8, 2) := dk_16 8 (dk_at dksX0_areSideBySide_0 21 rfl rfl)
theorem dX0_areSideBySide_23 : decode cX0_areSideBySide 23 = .ok (.idiv, 1) := dk_108 (dk_at dksX0_areSideBySide_0 23 rfl rfl)
theorem dX0_areSideBySide_24 : decode cX0_areSideBySide 24 = .ok (.iload_n 1, 1) := dk_27 (dk_at dksX0_areSideBySide_1 0 rfl rfl)
theorem dX0_areSideBySide_25 : decode cX0_areSideBySide 25 = .ok (.bipush 8, 2) := dk_16 8 (dk_at dksX0_areSideBySide_1 1 rfl rfl)
theorem dX0_areSideBySide_27 : decode cX0_areSideBySide 27 = .ok (.irem, 1) := dk_112 (dk_at dksX0_areSideBySide_1 3 rfl rfl)
theorem dX0_areSideBySide_28 : decode cX0_areSideBySide 28 = .ok (.isub, 1) := dk_100 (dk_at dksX0_areSideBySide_1 4 rfl rfl)
theorem dX0_areSideBySide_29 : decode cX0_areSideBySide 29 = .ok (.invokestatic 293, 3) := dk_184 1 37 (dk_at dksX0_areSideBySide_1 5 rfl rfl)
theorem dX0_areSideBySide_32 : decode cX0_areSideBySide 32 = .ok (.iconst 1, 1) := dk_4 (dk_at dksX0_areSideBySide_1 8 rfl rfl)
theorem dX0_areSideBySide_33 : decode cX0_areSideBySide 33 = .ok (.if_icmp .ne 5, 3) := dk_160 0 5 (dk_at dksX0_areSideBySide_1 9 rfl rfl)
theorem dX0_areSideBySide_36 : decode cX0_areSideBySide 36 = .ok (.iconst 1, 1) := dk_4 (dk_at dksX0_areSideBySide_1 12 rfl rfl)
theorem dX0_areSideBySide_37 : decode cX0_areSideBySide 37 = .ok (.ireturn, 1) := dk_172 (dk_at dksX0_areSideBySide_1 13 rfl rfl)
theorem dX0_areSideBySide_38 : decode cX0_areSideBySide 38 = .ok (.iinc 1 1, 3) := dk_132 1 1 (dk_at dksX0_areSideBySide_1 14 rfl rfl)
theorem dX0_areSideBySide_41 : decode cX0_areSideBySide 41 = .ok (.goto (-39), 3) := dk_167 255 217 (dk_at dksX0_areSideBySide_1 17 rfl rfl)
theorem dX0_areSideBySide_44 : decode cX0_areSideBySide 44 = .ok (.iconst 0, 1) := dk_3 (dk_at dksX0_areSideBySide_1 20 rfl rfl)
theorem dX0_areSideBySide_45 : decode cX0_areSideBySide 45 = .ok (.ireturn, 1) := dk_172 (dk_at dksX0_areSideBySide_1 21 rfl rfl)
abbrev cX0_goMeet : ByteArray := prog_1_method_49_code
def yX0_goMeet : MethodName := ⟨RX0, "goMeet", "(I)V"⟩
def dkwX0_goMeet_5 : List UInt8 := [167, 255, 165, 42, 180, 0, 90, 3, 42, 180, 0, 86, 3, 42, 180, 0, 86, 190, 184, 1, 74, 177]
abbrev dktX0_goMeet_5 : List UInt8 := dkwX0_goMeet_5 ++ []
def dkwX0_goMeet_4 : List UInt8 := [42, 180, 0, 90, 16, 8, 21, 4, 104, 21, 5, 96, 4, 84, 132, 3, 1, 167, 255, 182, 132, 2, 1]
abbrev dktX0_goMeet_4 : List UInt8 := dkwX0_goMeet_4 ++ dktX0_goMeet_5
def dkwX0_goMeet_3 : List UInt8 := [16, 8, 112, 27, 29, 6, 112, 4, 100, 182, 1, 93, 54, 5, 21, 4, 155, 0, 22, 21, 5, 155, 0, 17]
abbrev dktX0_goMeet_3 : List UInt8 := dkwX0_goMeet_3 ++ dktX0_goMeet_4
def dkwX0_goMeet_2 : List UInt8 := [16, 9, 162, 0, 65, 42, 28, 16, 8, 108, 27, 29, 6, 108, 4, 100, 182, 1, 93, 54, 4, 42, 28]
abbrev dktX0_goMeet_2 : List UInt8 := dkwX0_goMeet_2 ++ dktX0_goMeet_3
def dkwX0_goMeet_1 : List UInt8 := [3, 61, 28, 42, 180, 0, 86, 190, 162, 0, 88, 3, 62, 42, 180, 0, 86, 28, 51, 153, 0, 71, 29]
abbrev dktX0_goMeet_1 : List UInt8 := dkwX0_goMeet_1 ++ dktX0_goMeet_2
def dkwX0_goMeet_0 : List UInt8 := [3, 61, 28, 42, 180, 0, 90, 190, 162, 0, 16, 42, 180, 0, 90, 28, 3, 84, 132, 2, 1, 167, 255, 237]
abbrev dktX0_goMeet_0 : List UInt8 := dkwX0_goMeet_0 ++ dktX0_goMeet_1
theorem dksX0_goMeet_0 : cX0_goMeet.data.toList.drop 0 = dktX0_goMeet_0 := by decide +kernel
theorem dksX0_goMeet_1 : cX0_goMeet.data.toList.drop 24 = dktX0_goMeet_1 := dk_seg dksX0_goMeet_0 24 rfl rfl
theorem dksX0_goMeet_2 : cX0_goMeet.data.toList.drop 47 = dktX0_goMeet_2 := dk_seg dksX0_goMeet_1 23 rfl rfl
theorem dksX0_goMeet_3 : cX0_goMeet.data.toList.drop 70 = dktX0_goMeet_3 := dk_seg dksX0_goMeet_2 23 rfl rfl
theorem dksX0_goMeet_4 : cX0_goMeet.data.toList.drop 94 = dktX0_goMeet_4 := dk_seg dksX0_goMeet_3 24 rfl rfl
theorem dksX0_goMeet_5 : cX0_goMeet.data.toList.drop 117 = dktX0_goMeet_5 := dk_seg dksX0_goMeet_4 23 rfl rfl
theorem dX0_goMeet_0 : decode cX0_goMeet 0 = .ok (.iconst 0, 1) := dk_3 (dk_at dksX0_goMeet_0 0 rfl rfl)
theorem dX0_goMeet_1 : decode cX0_goMeet 1 = .ok (.istore_n 2, 1) := dk_61 (dk_at dksX0_goMeet_0 1 rfl rfl)
theorem dX0_goMeet_2 : decode cX0_goMeet 2 = .ok (.iload_n 2, 1) := dk_28 (dk_at dksX0_goMeet_0 2 rfl rfl)
theorem dX0_goMeet_3 : decode cX0_goMeet 3 = .ok (.aload_n 0, 1) := dk_42 (dk_at dksX0_goMeet_0 3 rfl rfl)
theorem dX0_goMeet_4 : decode cX0_goMeet 4 = .ok (.getfield 90, 3) := dk_180 0 90 (dk_at dksX0_goMeet_0 4 rfl rfl)
theorem dX0_goMeet_7 : decode cX0_goMeet 7 = .ok (.arraylength, 1) := dk_190 (dk_at dksX0_goMeet_0 7 rfl rfl)
theorem dX0_goMeet_8 : decode cX0_goMeet 8 = .ok (.if_icmp .ge 16, 3) := dk_162 0 16 (dk_at dksX0_goMeet_0 8 rfl rfl)
theorem dX0_goMeet_11 : decode cX0_goMeet 11 = .ok (.aload_n 0, 1) := dk_42 (dk_at dksX0_goMeet_0 11 rfl rfl)
theorem dX0_goMeet_12 : decode cX0_goMeet 12 = .ok (.getfield 90, 3) := dk_180 0 90 (dk_at dksX0_goMeet_0 12 rfl rfl)
theorem dX0_goMeet_15 : decode cX0_goMeet 15 = .ok (.iload_n 2, 1) := dk_28 (dk_at dksX0_goMeet_0 15 rfl rfl)
theorem dX0_goMeet_16 : decode cX0_goMeet 16 = .ok (.iconst 0, 1) := dk_3 (dk_at dksX0_goMeet_0 16 rfl rfl)
theorem dX0_goMeet_17 : decode cX0_goMeet 17 = .ok (.bastore, 1) := dk_84 (dk_at dksX0_goMeet_0 17 rfl rfl)
theorem dX0_goMeet_18 : decode cX0_goMeet 18 = .ok (.iinc 2 1, 3) := dk_132 2 1 (dk_at dksX0_goMeet_0 18 rfl rfl)
theorem dX0_goMeet_21 : decode cX0_goMeet 21 = .ok (.goto (-19), 3) := dk_167 255 237 (dk_at dksX0_goMeet_0 21 rfl rfl)
theorem dX0_goMeet_24 : decode cX0_goMeet 24 = .ok (.iconst 0, 1) := dk_3 (dk_at dksX0_goMeet_1 0 rfl rfl)
theorem dX0_goMeet_25 : decode cX0_goMeet 25 = .ok (.istore_n 2, 1) := dk_61 (dk_at dksX0_goMeet_1 1 rfl rfl)
theorem dX0_goMeet_26 : decode cX0_goMeet 26 = .ok (.iload_n 2, 1) := dk_28 (dk_at dksX0_goMeet_1 2 rfl rfl)
theorem dX0_goMeet_27 : decode cX0_goMeet 27 = .ok (.aload_n 0, 1) := dk_42 (dk_at dksX0_goMeet_1 3 rfl rfl)
theorem dX0_goMeet_28 : decode cX0_goMeet 28 = .ok (.getfield 86, 3) := dk_180 0 86 (dk_at dksX0_goMeet_1 4 rfl rfl)
theorem dX0_goMeet_31 : decode cX0_goMeet 31 = .ok (.arraylength, 1) := dk_190 (dk_at dksX0_goMeet_1 7 rfl rfl)
theorem dX0_goMeet_32 : decode cX0_goMeet 32 = .ok (.if_icmp .ge 88, 3) := dk_162 0 88 (dk_at dksX0_goMeet_1 8 rfl rfl)
theorem dX0_goMeet_35 : decode cX0_goMeet 35 = .ok (.iconst 0, 1) := dk_3 (dk_at dksX0_goMeet_1 11 rfl rfl)
theorem dX0_goMeet_36 : decode cX0_goMeet 36 = .ok (.istore_n 3, 1) := dk_62 (dk_at dksX0_goMeet_1 12 rfl rfl)
theorem dX0_goMeet_37 : decode cX0_goMeet 37 = .ok (.aload_n 0, 1) := dk_42 (dk_at dksX0_goMeet_1 13 rfl rfl)
theorem dX0_goMeet_38 : decode cX0_goMeet 38 = .ok (.getfield 86, 3) := dk_180 0 86 (dk_at dksX0_goMeet_1 14 rfl rfl)
theorem dX0_goMeet_41 : decode cX0_goMeet 41 = .ok (.iload_n 2, 1) := dk_28 (dk_at dksX0_goMeet_1 17 rfl rfl)
theorem dX0_goMeet_42 : decode cX0_goMeet 42 = .ok (.baload, 1) := dk_51 (dk_at dksX0_goMeet_1 18 rfl rfl)
theorem dX0_goMeet_43 : decode cX0_goMeet 43 = .ok (.ifCond .eq 71, 3) := dk_153 0 71 (dk_at dksX0_goMeet_1 19 rfl rfl)
theorem dX0_goMeet_46 : decode cX0_goMeet 46 = .ok (.iload_n 3, 1) := dk_29 (dk_at dksX0_goMeet_1 22 rfl rfl)
theorem dX0_goMeet_47 : decode cX0_goMeet 47 = .ok (.bipush 9, 2) := dk_16 9 (dk_at dksX0_goMeet_2 0 rfl rfl)
theorem dX0_goMeet_49 : decode cX0_goMeet 49 = .ok (.if_icmp .ge 65, 3) := dk_162 0 65 (dk_at dksX0_goMeet_2 2 rfl rfl)
theorem dX0_goMeet_52 : decode cX0_goMeet 52 = .ok (.aload_n 0, 1) := dk_42 (dk_at dksX0_goMeet_2 5 rfl rfl)
theorem dX0_goMeet_53 : decode cX0_goMeet 53 = .ok (.iload_n 2, 1) := dk_28 (dk_at dksX0_goMeet_2 6 rfl rfl)
theorem dX0_goMeet_54 : decode cX0_goMeet 54 = .ok (.bipush 8, 2) := dk_16 8 (dk_at dksX0_goMeet_2 7 rfl rfl)
theorem dX0_goMeet_56 : decode cX0_goMeet 56 = .ok (.idiv, 1) := dk_108 (dk_at dksX0_goMeet_2 9 rfl rfl)
theorem dX0_goMeet_57 : decode cX0_goMeet 57 = .ok (.iload_n 1, 1) := dk_27 (dk_at dksX0_goMeet_2 10 rfl rfl)
theorem dX0_goMeet_58 : decode cX0_goMeet 58 = .ok (.iload_n 3, 1) := dk_29 (dk_at dksX0_goMeet_2 11 rfl rfl)
theorem dX0_goMeet_59 : decode cX0_goMeet 59 = .ok (.iconst 3, 1) := dk_6 (dk_at dksX0_goMeet_2 12 rfl rfl)
theorem dX0_goMeet_60 : decode cX0_goMeet 60 = .ok (.idiv, 1) := dk_108 (dk_at dksX0_goMeet_2 13 rfl rfl)
theorem dX0_goMeet_61 : decode cX0_goMeet 61 = .ok (.iconst 1, 1) := dk_4 (dk_at dksX0_goMeet_2 14 rfl rfl)
theorem dX0_goMeet_62 : decode cX0_goMeet 62 = .ok (.isub, 1) := dk_100 (dk_at dksX0_goMeet_2 15 rfl rfl)
theorem dX0_goMeet_63 : decode cX0_goMeet 63 = .ok (.invokevirtual 349, 3) := dk_182 1 93 (dk_at dksX0_goMeet_2 16 rfl rfl)
theorem dX0_goMeet_66 : decode cX0_goMeet 66 = .ok (.istore 4, 2) := dk_54 4 (dk_at dksX0_goMeet_2 19 rfl rfl)
theorem dX0_goMeet_68 : decode cX0_goMeet 68 = .ok (.aload_n 0, 1) := dk_42 (dk_at dksX0_goMeet_2 21 rfl rfl)
theorem dX0_goMeet_69 : decode cX0_goMeet 69 = .ok (.iload_n 2, 1) := dk_28 (dk_at dksX0_goMeet_2 22 rfl rfl)
theorem dX0_goMeet_70 : decode cX0_goMeet 70 = .ok (.bipush 8, 2) := dk_16 8 (dk_at dksX0_goMeet_3 0 rfl rfl)
theorem dX0_goMeet_72 : decode cX0_goMeet 72 = .ok (.irem, 1) := dk_112 (dk_at dksX0_goMeet_3 2 rfl rfl)
theorem dX0_goMeet_73 : decode cX0_goMeet 73 = .ok (.iload_n 1, 1) := dk_27 (dk_at dksX0_goMeet_3 3 rfl rfl)
theorem dX0_goMeet_74 : decode cX0_goMeet 74 = .ok (.iload_n 3, 1) := dk_29 (dk_at dksX0_goMeet_3 4 rfl rfl)
theorem dX0_goMeet_75 : decode cX0_goMeet 75 = .ok (.iconst 3, 1) := dk_6 (dk_at dksX0_goMeet_3 5 rfl rfl)
theorem dX0_goMeet_76 : decode cX0_goMeet 76 = .ok (.irem, 1) := dk_112 (dk_at dksX0_goMeet_3 6 rfl rfl)
theorem dX0_goMeet_77 : decode cX0_goMeet 77 = .ok (.iconst 1, 1) := dk_4 (dk_at dksX0_goMeet_3 7 rfl rfl)
theorem dX0_goMeet_78 : decode cX0_goMeet 78 = .ok (.isub, 1) := dk_100 (dk_at dksX0_goMeet_3 8 rfl rfl)
theorem dX0_goMeet_79 : decode cX0_goMeet 79 = .ok (.invokevirtual 349, 3) := dk_182 1 93 (dk_at dksX0_goMeet_3 9 rfl rfl)
theorem dX0_goMeet_82 : decode cX0_goMeet 82 = .ok (.istore 5, 2) := dk_54 5 (dk_at dksX0_goMeet_3 12 rfl rfl)
theorem dX0_goMeet_84 : decode cX0_goMeet 84 = .ok (.iload 4, 2) := dk_21 4 (dk_at dksX0_goMeet_3 14 rfl rfl)
theorem dX0_goMeet_86 : decode cX0_goMeet 86 = .ok (.ifCond .lt 22, 3) := dk_155 0 22 (dk_at dksX0_goMeet_3 16 rfl rfl)
theorem dX0_goMeet_89 : decode cX0_goMeet 89 = .ok (.iload 5, 2) := dk_21 5 (dk_at dksX0_goMeet_3 19 rfl rfl)
theorem dX0_goMeet_91 : decode cX0_goMeet 91 = .ok (.ifCond .lt 17, 3) := dk_155 0 17 (dk_at dksX0_goMeet_3 21 rfl rfl)
theorem dX0_goMeet_94 : decode cX0_goMeet 94 = .ok (.aload_n 0, 1) := dk_42 (dk_at dksX0_goMeet_4 0 rfl rfl)
theorem dX0_goMeet_95 : decode cX0_goMeet 95 = .ok (.getfield 90, 3) := dk_180 0 90 (dk_at dksX0_goMeet_4 1 rfl rfl)
theorem dX0_goMeet_98 : decode cX0_goMeet 98 = .ok (.bipush 8, 2) := dk_16 8 (dk_at dksX0_goMeet_4 4 rfl rfl)
theorem dX0_goMeet_100 : decode cX0_goMeet 100 = .ok (.iload 4, 2) := dk_21 4 (dk_at dksX0_goMeet_4 6 rfl rfl)
theorem dX0_goMeet_102 : decode cX0_goMeet 102 = .ok (.imul, 1) := dk_104 (dk_at dksX0_goMeet_4 8 rfl rfl)
theorem dX0_goMeet_103 : decode cX0_goMeet 103 = .ok (.iload 5, 2) := dk_21 5 (dk_at dksX0_goMeet_4 9 rfl rfl)
theorem dX0_goMeet_105 : decode cX0_goMeet 105 = .ok (.iadd, 1) := dk_96 (dk_at dksX0_goMeet_4 11 rfl rfl)
theorem dX0_goMeet_106 : decode cX0_goMeet 106 = .ok (.iconst 1, 1) := dk_4 (dk_at dksX0_goMeet_4 12 rfl rfl)
theorem dX0_goMeet_107 : decode cX0_goMeet 107 = .ok (.bastore, 1) := dk_84 (dk_at dksX0_goMeet_4 13 rfl rfl)
theorem dX0_goMeet_108 : decode cX0_goMeet 108 = .ok (.iinc 3 1, 3) := dk_132 3 1 (dk_at dksX0_goMeet_4 14 rfl rfl)
theorem dX0_goMeet_111 : decode cX0_goMeet 111 = .ok (.goto (-74), 3) := dk_167 255 182 (dk_at dksX0_goMeet_4 17 rfl rfl)
theorem dX0_goMeet_114 : decode cX0_goMeet 114 = .ok (.iinc 2 1, 3) := dk_132 2 1 (dk_at dksX0_goMeet_4 20 rfl rfl)
theorem dX0_goMeet_117 : decode cX0_goMeet 117 = .ok (.goto (-91), 3) := dk_167 255 165 (dk_at dksX0_goMeet_5 0 rfl rfl)
theorem dX0_goMeet_120 : decode cX0_goMeet 120 = .ok (.aload_n 0, 1) := dk_42 (dk_at dksX0_goMeet_5 3 rfl rfl)
theorem dX0_goMeet_121 : decode cX0_goMeet 121 = .ok (.getfield 90, 3) := dk_180 0 90 (dk_at dksX0_goMeet_5 4 rfl rfl)
theorem dX0_goMeet_124 : decode cX0_goMeet 124 = .ok (.iconst 0, 1) := dk_3 (dk_at dksX0_goMeet_5 7 rfl rfl)
theorem dX0_goMeet_125 : decode cX0_goMeet 125 = .ok (.aload_n 0, 1) := dk_42 (dk_at dksX0_goMeet_5 8 rfl rfl)
theorem dX0_goMeet_126 : decode cX0_goMeet 126 = .ok (.getfield 86, 3) := dk_180 0 86 (dk_at dksX0_goMeet_5 9 rfl rfl)
theorem dX0_goMeet_129 : decode cX0_goMeet 129 = .ok (.iconst 0, 1) := dk_3 (dk_at dksX0_goMeet_5 12 rfl rfl)
theorem dX0_goMeet_130 : decode cX0_goMeet 130 = .ok (.aload_n 0, 1) := dk_42 (dk_at dksX0_goMeet_5 13 rfl rfl)
theorem dX0_goMeet_131 : decode cX0_goMeet 131 = .ok (.getfield 86, 3) := dk_180 0 86 (dk_at dksX0_goMeet_5 14 rfl rfl)
theorem dX0_goMeet_134 : decode cX0_goMeet 134 = .ok (.arraylength, 1) := dk_190 (dk_at dksX0_goMeet_5 17 rfl rfl)
theorem dX0_goMeet_135 : decode cX0_goMeet 135 = .ok (.invokestatic 330, 3) := dk_184 1 74 (dk_at dksX0_goMeet_5 18 rfl rfl)
theorem dX0_goMeet_138 : decode cX0_goMeet 138 = .ok (.return_, 1) := dk_177 (dk_at dksX0_goMeet_5 21 rfl rfl)
abbrev cX0_columnBy : ByteArray := prog_1_method_48_code
def yX0_columnBy : MethodName := ⟨RX0, "columnBy", "(III)I"⟩
def dkwX0_columnBy_2 : List UInt8 := [21, 4, 28, 4, 96, 182, 0, 245, 51, 153, 0, 7, 2, 167, 0, 5, 21, 4, 172]
abbrev dktX0_columnBy_2 : List UInt8 := dkwX0_columnBy_2 ++ []
def dkwX0_columnBy_1 : List UInt8 := [180, 0, 19, 180, 0, 237, 4, 100, 184, 1, 19, 54, 4, 42, 180, 0, 19, 180, 0, 248, 42, 180, 0, 19]
abbrev dktX0_columnBy_1 : List UInt8 := dkwX0_columnBy_1 ++ dktX0_columnBy_2
def dkwX0_columnBy_0 : List UInt8 := [27, 29, 96, 42, 180, 0, 19, 180, 0, 242, 42, 180, 0, 19, 27, 28, 182, 0, 245, 46, 96, 42]
abbrev dktX0_columnBy_0 : List UInt8 := dkwX0_columnBy_0 ++ dktX0_columnBy_1
theorem dksX0_columnBy_0 : cX0_columnBy.data.toList.drop 0 = dktX0_columnBy_0 := by decide +kernel
theorem dksX0_columnBy_1 : cX0_columnBy.data.toList.drop 22 = dktX0_columnBy_1 := dk_seg dksX0_columnBy_0 22 rfl rfl
theorem dksX0_columnBy_2 : cX0_columnBy.data.toList.drop 46 = dktX0_columnBy_2 := dk_seg dksX0_columnBy_1 24 rfl rfl
theorem dX0_columnBy_0 : decode cX0_columnBy 0 = .ok (.iload_n 1, 1) := dk_27 (dk_at dksX0_columnBy_0 0 rfl rfl)
theorem dX0_columnBy_1 : decode cX0_columnBy 1 = .ok (.iload_n 3, 1) := dk_29 (dk_at dksX0_columnBy_0 1 rfl rfl)
theorem dX0_columnBy_2 : decode cX0_columnBy 2 = .ok (.iadd, 1) := dk_96 (dk_at dksX0_columnBy_0 2 rfl rfl)
theorem dX0_columnBy_3 : decode cX0_columnBy 3 = .ok (.aload_n 0, 1) := dk_42 (dk_at dksX0_columnBy_0 3 rfl rfl)
theorem dX0_columnBy_4 : decode cX0_columnBy 4 = .ok (.getfield 19, 3) := dk_180 0 19 (dk_at dksX0_columnBy_0 4 rfl rfl)
theorem dX0_columnBy_7 : decode cX0_columnBy 7 = .ok (.getfield 242, 3) := dk_180 0 242 (dk_at dksX0_columnBy_0 7 rfl rfl)
theorem dX0_columnBy_10 : decode cX0_columnBy 10 = .ok (.aload_n 0, 1) := dk_42 (dk_at dksX0_columnBy_0 10 rfl rfl)
theorem dX0_columnBy_11 : decode cX0_columnBy 11 = .ok (.getfield 19, 3) := dk_180 0 19 (dk_at dksX0_columnBy_0 11 rfl rfl)
theorem dX0_columnBy_14 : decode cX0_columnBy 14 = .ok (.iload_n 1, 1) := dk_27 (dk_at dksX0_columnBy_0 14 rfl rfl)
theorem dX0_columnBy_15 : decode cX0_columnBy 15 = .ok (.iload_n 2, 1) := dk_28 (dk_at dksX0_columnBy_0 15 rfl rfl)
theorem dX0_columnBy_16 : decode cX0_columnBy 16 = .ok (.invokevirtual 245, 3) := dk_182 0 245 (dk_at dksX0_columnBy_0 16 rfl rfl)
theorem dX0_columnBy_19 : decode cX0_columnBy 19 = .ok (.iaload, 1) := dk_46 (dk_at dksX0_columnBy_0 19 rfl rfl)
theorem dX0_columnBy_20 : decode cX0_columnBy 20 = .ok (.iadd, 1) := dk_96 (dk_at dksX0_columnBy_0 20 rfl rfl)
theorem dX0_columnBy_21 : decode cX0_columnBy 21 = .ok (.aload_n 0, 1) := dk_42 (dk_at dksX0_columnBy_0 21 rfl rfl)
theorem dX0_columnBy_22 : decode cX0_columnBy 22 = .ok (.getfield 19, 3) := dk_180 0 19 (dk_at dksX0_columnBy_1 0 rfl rfl)
theorem dX0_columnBy_25 : decode cX0_columnBy 25 = .ok (.getfield 237, 3) := dk_180 0 237 (dk_at dksX0_columnBy_1 3 rfl rfl)
theorem dX0_columnBy_28 : decode cX0_columnBy 28 = .ok (.iconst 1, 1) := dk_4 (dk_at dksX0_columnBy_1 6 rfl rfl)
theorem dX0_columnBy_29 : decode cX0_columnBy 29 = .ok (.isub, 1) := dk_100 (dk_at dksX0_columnBy_1 7 rfl rfl)
theorem dX0_columnBy_30 : decode cX0_columnBy 30 = .ok (.invokestatic 275, 3) := dk_184 1 19 (dk_at dksX0_columnBy_1 8 rfl rfl)
theorem dX0_columnBy_33 : decode cX0_columnBy 33 = .ok (.istore 4, 2) := dk_54 4 (dk_at dksX0_columnBy_1 11 rfl rfl)
theorem dX0_columnBy_35 : decode cX0_columnBy 35 = .ok (.aload_n 0, 1) := dk_42 (dk_at dksX0_columnBy_1 13 rfl rfl)
theorem dX0_columnBy_36 : decode cX0_columnBy 36 = .ok (.getfield 19, 3) := dk_180 0 19 (dk_at dksX0_columnBy_1 14 rfl rfl)
theorem dX0_columnBy_39 : decode cX0_columnBy 39 = .ok (.getfield 248, 3) := dk_180 0 248 (dk_at dksX0_columnBy_1 17 rfl rfl)
theorem dX0_columnBy_42 : decode cX0_columnBy 42 = .ok (.aload_n 0, 1) := dk_42 (dk_at dksX0_columnBy_1 20 rfl rfl)
theorem dX0_columnBy_43 : decode cX0_columnBy 43 = .ok (.getfield 19, 3) := dk_180 0 19 (dk_at dksX0_columnBy_1 21 rfl rfl)
theorem dX0_columnBy_46 : decode cX0_columnBy 46 = .ok (.iload 4, 2) := dk_21 4 (dk_at dksX0_columnBy_2 0 rfl rfl)
theorem dX0_columnBy_48 : decode cX0_columnBy 48 = .ok (.iload_n 2, 1) := dk_28 (dk_at dksX0_columnBy_2 2 rfl rfl)
theorem dX0_columnBy_49 : decode cX0_columnBy 49 = .ok (.iconst 1, 1) := dk_4 (dk_at dksX0_columnBy_2 3 rfl rfl)
theorem dX0_columnBy_50 : decode cX0_columnBy 50 = .ok (.iadd, 1) := dk_96 (dk_at dksX0_columnBy_2 4 rfl rfl)
theorem dX0_columnBy_51 : decode cX0_columnBy 51 = .ok (.invokevirtual 245, 3) := dk_182 0 245 (dk_at dksX0_columnBy_2 5 rfl rfl)
theorem dX0_columnBy_54 : decode cX0_columnBy 54 = .ok (.baload, 1) := dk_51 (dk_at dksX0_columnBy_2 8 rfl rfl)
theorem dX0_columnBy_55 : decode cX0_columnBy 55 = .ok (.ifCond .eq 7, 3) := dk_153 0 7 (dk_at dksX0_columnBy_2 9 rfl rfl)
theorem dX0_columnBy_58 : decode cX0_columnBy 58 = .ok (.iconst (-1), 1) := dk_2 (dk_at dksX0_columnBy_2 12 rfl rfl)
theorem dX0_columnBy_59 : decode cX0_columnBy 59 = .ok (.goto 5, 3) := dk_167 0 5 (dk_at dksX0_columnBy_2 13 rfl rfl)
theorem dX0_columnBy_62 : decode cX0_columnBy 62 = .ok (.iload 4, 2) := dk_21 4 (dk_at dksX0_columnBy_2 16 rfl rfl)
theorem dX0_columnBy_64 : decode cX0_columnBy 64 = .ok (.ireturn, 1) := dk_172 (dk_at dksX0_columnBy_2 18 rfl rfl)
abbrev cX0_mooring : ByteArray := prog_1_method_52_code
def yX0_mooring : MethodName := ⟨RX0, "mooring", "(I)I"⟩
def dkwX0_mooring_3 : List UInt8 := [182, 0, 158, 181, 0, 127, 27, 154, 0, 10, 42, 180, 1, 102, 167, 0, 7, 42, 180, 1, 105, 172]
abbrev dktX0_mooring_3 : List UInt8 := dkwX0_mooring_3 ++ []
def dkwX0_mooring_2 : List UInt8 := [3, 79, 132, 2, 1, 167, 255, 218, 42, 2, 181, 1, 102, 42, 3, 3, 3, 3, 182, 1, 111, 42, 42]
abbrev dktX0_mooring_2 : List UInt8 := dkwX0_mooring_2 ++ dktX0_mooring_3
def dkwX0_mooring_1 : List UInt8 := [180, 0, 93, 28, 42, 180, 0, 28, 180, 0, 203, 28, 46, 154, 0, 11, 42, 28, 182, 1, 47, 167, 0, 4]
abbrev dktX0_mooring_1 : List UInt8 := dkwX0_mooring_1 ++ dktX0_mooring_2
def dkwX0_mooring_0 : List UInt8 := [27, 3, 4, 184, 0, 160, 154, 0, 5, 2, 172, 3, 61, 28, 42, 182, 0, 158, 162, 0, 36, 42]
abbrev dktX0_mooring_0 : List UInt8 := dkwX0_mooring_0 ++ dktX0_mooring_1
theorem dksX0_mooring_0 : cX0_mooring.data.toList.drop 0 = dktX0_mooring_0 := by decide +kernel
theorem dksX0_mooring_1 : cX0_mooring.data.toList.drop 22 = dktX0_mooring_1 := dk_seg dksX0_mooring_0 22 rfl rfl
theorem dksX0_mooring_2 : cX0_mooring.data.toList.drop 46 = dktX0_mooring_2 := dk_seg dksX0_mooring_1 24 rfl rfl
theorem dksX0_mooring_3 : cX0_mooring.data.toList.drop 69 = dktX0_mooring_3 := dk_seg dksX0_mooring_2 23 rfl rfl
theorem dX0_mooring_0 : decode cX0_mooring 0 = .ok (.iload_n 1, 1) := dk_27 (dk_at dksX0_mooring_0 0 rfl rfl)
theorem dX0_mooring_1 : decode cX0_mooring 1 = .ok (.iconst 0, 1) := dk_3 (dk_at dksX0_mooring_0 1 rfl rfl)
theorem dX0_mooring_2 : decode cX0_mooring 2 = .ok (.iconst 1, 1) := dk_4 (dk_at dksX0_mooring_0 2 rfl rfl)
theorem dX0_mooring_3 : decode cX0_mooring 3 = .ok (.invokestatic 160, 3) := dk_184 0 160 (dk_at dksX0_mooring_0 3 rfl rfl)
theorem dX0_mooring_6 : decode cX0_mooring 6 = .ok (.ifCond .ne 5, 3) := dk_154 0 5 (dk_at dksX0_mooring_0 6 rfl rfl)
theorem dX0_mooring_9 : decode cX0_mooring 9 = .ok (.iconst (-1), 1) := dk_2 (dk_at dksX0_mooring_0 9 rfl rfl)
theorem dX0_mooring_10 : decode cX0_mooring 10 = .ok (.ireturn, 1) := dk_172 (dk_at dksX0_mooring_0 10 rfl rfl)
theorem dX0_mooring_11 : decode cX0_mooring 11 = .ok (.iconst 0, 1) := dk_3 (dk_at dksX0_mooring_0 11 rfl rfl)
theorem dX0_mooring_12 : decode cX0_mooring 12 = .ok (.istore_n 2, 1) := dk_61 (dk_at dksX0_mooring_0 12 rfl rfl)
theorem dX0_mooring_13 : decode cX0_mooring 13 = .ok (.iload_n 2, 1) := dk_28 (dk_at dksX0_mooring_0 13 rfl rfl)
theorem dX0_mooring_14 : decode cX0_mooring 14 = .ok (.aload_n 0, 1) := dk_42 (dk_at dksX0_mooring_0 14 rfl rfl)
theorem dX0_mooring_15 : decode cX0_mooring 15 = .ok (.invokevirtual 158, 3) := dk_182 0 158 (dk_at dksX0_mooring_0 15 rfl rfl)
theorem dX0_mooring_18 : decode cX0_mooring 18 = .ok (.if_icmp .ge 36, 3) := dk_162 0 36 (dk_at dksX0_mooring_0 18 rfl rfl)
theorem dX0_mooring_21 : decode cX0_mooring 21 = .ok (.aload_n 0, 1) := dk_42 (dk_at dksX0_mooring_0 21 rfl rfl)
theorem dX0_mooring_22 : decode cX0_mooring 22 = .ok (.getfield 93, 3) := dk_180 0 93 (dk_at dksX0_mooring_1 0 rfl rfl)
theorem dX0_mooring_25 : decode cX0_mooring 25 = .ok (.iload_n 2, 1) := dk_28 (dk_at dksX0_mooring_1 3 rfl rfl)
theorem dX0_mooring_26 : decode cX0_mooring 26 = .ok (.aload_n 0, 1) := dk_42 (dk_at dksX0_mooring_1 4 rfl rfl)
theorem dX0_mooring_27 : decode cX0_mooring 27 = .ok (.getfield 28, 3) := dk_180 0 28 (dk_at dksX0_mooring_1 5 rfl rfl)
theorem dX0_mooring_30 : decode cX0_mooring 30 = .ok (.getfield 203, 3) := dk_180 0 203 (dk_at dksX0_mooring_1 8 rfl rfl)
theorem dX0_mooring_33 : decode cX0_mooring 33 = .ok (.iload_n 2, 1) := dk_28 (dk_at dksX0_mooring_1 11 rfl rfl)
theorem dX0_mooring_34 : decode cX0_mooring 34 = .ok (.iaload, 1) := dk_46 (dk_at dksX0_mooring_1 12 rfl rfl)
theorem dX0_mooring_35 : decode cX0_mooring 35 = .ok (.ifCond .ne 11, 3) := dk_154 0 11 (dk_at dksX0_mooring_1 13 rfl rfl)
theorem dX0_mooring_38 : decode cX0_mooring 38 = .ok (.aload_n 0, 1) := dk_42 (dk_at dksX0_mooring_1 16 rfl rfl)
theorem dX0_mooring_39 : decode cX0_mooring 39 = .ok (.iload_n 2, 1) := dk_28 (dk_at dksX0_mooring_1 17 rfl rfl)
theorem dX0_mooring_40 : decode cX0_mooring 40 = .ok (.invokevirtual 303, 3) := dk_182 1 47 (dk_at dksX0_mooring_1 18 rfl rfl)
theorem dX0_mooring_43 : decode cX0_mooring 43 = .ok (.goto 4, 3) := dk_167 0 4 (dk_at dksX0_mooring_1 21 rfl rfl)
theorem dX0_mooring_46 : decode cX0_mooring 46 = .ok (.iconst 0, 1) := dk_3 (dk_at dksX0_mooring_2 0 rfl rfl)
theorem dX0_mooring_47 : decode cX0_mooring 47 = .ok (.iastore, 1) := dk_79 (dk_at dksX0_mooring_2 1 rfl rfl)
theorem dX0_mooring_48 : decode cX0_mooring 48 = .ok (.iinc 2 1, 3) := dk_132 2 1 (dk_at dksX0_mooring_2 2 rfl rfl)
theorem dX0_mooring_51 : decode cX0_mooring 51 = .ok (.goto (-38), 3) := dk_167 255 218 (dk_at dksX0_mooring_2 5 rfl rfl)
theorem dX0_mooring_54 : decode cX0_mooring 54 = .ok (.aload_n 0, 1) := dk_42 (dk_at dksX0_mooring_2 8 rfl rfl)
theorem dX0_mooring_55 : decode cX0_mooring 55 = .ok (.iconst (-1), 1) := dk_2 (dk_at dksX0_mooring_2 9 rfl rfl)
theorem dX0_mooring_56 : decode cX0_mooring 56 = .ok (.putfield 358, 3) := dk_181 1 102 (dk_at dksX0_mooring_2 10 rfl rfl)
theorem dX0_mooring_59 : decode cX0_mooring 59 = .ok (.aload_n 0, 1) := dk_42 (dk_at dksX0_mooring_2 13 rfl rfl)
theorem dX0_mooring_60 : decode cX0_mooring 60 = .ok (.iconst 0, 1) := dk_3 (dk_at dksX0_mooring_2 14 rfl rfl)
theorem dX0_mooring_61 : decode cX0_mooring 61 = .ok (.iconst 0, 1) := dk_3 (dk_at dksX0_mooring_2 15 rfl rfl)
theorem dX0_mooring_62 : decode cX0_mooring 62 = .ok (.iconst 0, 1) := dk_3 (dk_at dksX0_mooring_2 16 rfl rfl)
theorem dX0_mooring_63 : decode cX0_mooring 63 = .ok (.iconst 0, 1) := dk_3 (dk_at dksX0_mooring_2 17 rfl rfl)
theorem dX0_mooring_64 : decode cX0_mooring 64 = .ok (.invokevirtual 367, 3) := dk_182 1 111 (dk_at dksX0_mooring_2 18 rfl rfl)
theorem dX0_mooring_67 : decode cX0_mooring 67 = .ok (.aload_n 0, 1) := dk_42 (dk_at dksX0_mooring_2 21 rfl rfl)
theorem dX0_mooring_68 : decode cX0_mooring 68 = .ok (.aload_n 0, 1) := dk_42 (dk_at dksX0_mooring_2 22 rfl rfl)
theorem dX0_mooring_69 : decode cX0_mooring 69 = .ok (.invokevirtual 158, 3) := dk_182 0 158 (dk_at dksX0_mooring_3 0 rfl rfl)
theorem dX0_mooring_72 : decode cX0_mooring 72 = .ok (.putfield 127, 3) := dk_181 0 127 (dk_at dksX0_mooring_3 3 rfl rfl)
theorem dX0_mooring_75 : decode cX0_mooring 75 = .ok (.iload_n 1, 1) := dk_27 (dk_at dksX0_mooring_3 6 rfl rfl)
theorem dX0_mooring_76 : decode cX0_mooring 76 = .ok (.ifCond .ne 10, 3) := dk_154 0 10 (dk_at dksX0_mooring_3 7 rfl rfl)
theorem dX0_mooring_79 : decode cX0_mooring 79 = .ok (.aload_n 0, 1) := dk_42 (dk_at dksX0_mooring_3 10 rfl rfl)
theorem dX0_mooring_80 : decode cX0_mooring 80 = .ok (.getfield 358, 3) := dk_180 1 102 (dk_at dksX0_mooring_3 11 rfl rfl)
theorem dX0_mooring_83 : decode cX0_mooring 83 = .ok (.goto 7, 3) := dk_167 0 7 (dk_at dksX0_mooring_3 14 rfl rfl)
theorem dX0_mooring_86 : decode cX0_mooring 86 = .ok (.aload_n 0, 1) := dk_42 (dk_at dksX0_mooring_3 17 rfl rfl)
theorem dX0_mooring_87 : decode cX0_mooring 87 = .ok (.getfield 361, 3) := dk_180 1 105 (dk_at dksX0_mooring_3 18 rfl rfl)
theorem dX0_mooring_90 : decode cX0_mooring 90 = .ok (.ireturn, 1) := dk_172 (dk_at dksX0_mooring_3 21 rfl rfl)
abbrev cX0_goMoor : ByteArray := prog_1_method_51_code
def yX0_goMoor : MethodName := ⟨RX0, "goMoo\x72", "(IIII)V"⟩
def dkwX0_goMoor_7 : List UInt8 := [180, 0, 64, 27, 2, 79, 42, 27, 4, 96, 28, 29, 21, 4, 182, 1, 111, 177]
abbrev dktX0_goMoor_7 : List UInt8 := dkwX0_goMoor_7 ++ []
def dkwX0_goMoor_6 : List UInt8 := [180, 0, 28, 180, 0, 200, 27, 46, 100, 184, 1, 37, 96, 182, 1, 111, 132, 5, 1, 167, 255, 161, 42]
abbrev dktX0_goMoor_6 : List UInt8 := dkwX0_goMoor_6 ++ dktX0_goMoor_7
def dkwX0_goMoor_5 : List UInt8 := [27, 21, 5, 79, 42, 27, 4, 96, 28, 4, 21, 5, 120, 128, 29, 4, 96, 21, 4, 21, 5, 42]
abbrev dktX0_goMoor_5 : List UInt8 := dkwX0_goMoor_5 ++ dktX0_goMoor_6
def dkwX0_goMoor_4 : List UInt8 := [154, 0, 62, 42, 180, 0, 93, 27, 46, 21, 5, 184, 1, 108, 154, 0, 6, 167, 0, 45, 42, 180, 0, 64]
abbrev dktX0_goMoor_4 : List UInt8 := dkwX0_goMoor_4 ++ dktX0_goMoor_5
def dkwX0_goMoor_3 : List UInt8 := [180, 0, 237, 162, 0, 89, 42, 180, 0, 28, 180, 0, 203, 27, 46, 154, 0, 71, 28, 21, 5, 184, 1, 108]
abbrev dktX0_goMoor_3 : List UInt8 := dkwX0_goMoor_3 ++ dktX0_goMoor_4
def dkwX0_goMoor_2 : List UInt8 := [180, 0, 64, 3, 42, 180, 0, 60, 3, 27, 184, 1, 74, 177, 3, 54, 5, 21, 5, 42, 180, 0, 19]
abbrev dktX0_goMoor_2 : List UInt8 := dkwX0_goMoor_2 ++ dktX0_goMoor_3
def dkwX0_goMoor_1 : List UInt8 := [21, 4, 42, 180, 1, 105, 161, 0, 4, 177, 42, 29, 181, 1, 102, 42, 21, 4, 181, 1, 105, 42]
abbrev dktX0_goMoor_1 : List UInt8 := dkwX0_goMoor_1 ++ dktX0_goMoor_2
def dkwX0_goMoor_0 : List UInt8 := [27, 42, 182, 0, 158, 160, 0, 55, 29, 42, 180, 1, 102, 161, 0, 20, 29, 42, 180, 1, 102, 160, 0, 13]
abbrev dktX0_goMoor_0 : List UInt8 := dkwX0_goMoor_0 ++ dktX0_goMoor_1
theorem dksX0_goMoor_0 : cX0_goMoor.data.toList.drop 0 = dktX0_goMoor_0 := by decide +kernel
theorem dksX0_goMoor_1 : cX0_goMoor.data.toList.drop 24 = dktX0_goMoor_1 := dk_seg dksX0_goMoor_0 24 rfl rfl
theorem dksX0_goMoor_2 : cX0_goMoor.data.toList.drop 46 = dktX0_goMoor_2 := dk_seg dksX0_goMoor_1 22 rfl rfl
theorem dksX0_goMoor_3 : cX0_goMoor.data.toList.drop 69 = dktX0_goMoor_3 := dk_seg dksX0_goMoor_2 23 rfl rfl
theorem dksX0_goMoor_4 : cX0_goMoor.data.toList.drop 93 = dktX0_goMoor_4 := dk_seg dksX0_goMoor_3 24 rfl rfl
theorem dksX0_goMoor_5 : cX0_goMoor.data.toList.drop 117 = dktX0_goMoor_5 := dk_seg dksX0_goMoor_4 24 rfl rfl
theorem dksX0_goMoor_6 : cX0_goMoor.data.toList.drop 139 = dktX0_goMoor_6 := dk_seg dksX0_goMoor_5 22 rfl rfl
theorem dksX0_goMoor_7 : cX0_goMoor.data.toList.drop 162 = dktX0_goMoor_7 := dk_seg dksX0_goMoor_6 23 rfl rfl
theorem dX0_goMoor_0 : decode cX0_goMoor 0 = .ok (.iload_n 1, 1) := dk_27 (dk_at dksX0_goMoor_0 0 rfl rfl)
theorem dX0_goMoor_1 : decode cX0_goMoor 1 = .ok (.aload_n 0, 1) := dk_42 (dk_at dksX0_goMoor_0 1 rfl rfl)
theorem dX0_goMoor_2 : decode cX0_goMoor 2 = .ok (.invokevirtual 158, 3) := dk_182 0 158 (dk_at dksX0_goMoor_0 2 rfl rfl)
theorem dX0_goMoor_5 : decode cX0_goMoor 5 = .ok (.if_icmp .ne 55, 3) := dk_160 0 55 (dk_at dksX0_goMoor_0 5 rfl rfl)
theorem dX0_goMoor_8 : decode cX0_goMoor 8 = .ok (.iload_n 3, 1) := dk_29 (dk_at dksX0_goMoor_0 8 rfl rfl)
theorem dX0_goMoor_9 : decode cX0_goMoor 9 = .ok (.aload_n 0, 1) := dk_42 (dk_at dksX0_goMoor_0 9 rfl rfl)
theorem dX0_goMoor_10 : decode cX0_goMoor 10 = .ok (.getfield 358, 3) := dk_180 1 102 (dk_at dksX0_goMoor_0 10 rfl rfl)
theorem dX0_goMoor_13 : decode cX0_goMoor 13 = .ok (.if_icmp .lt 20, 3) := dk_161 0 20 (dk_at dksX0_goMoor_0 13 rfl rfl)
theorem dX0_goMoor_16 : decode cX0_goMoor 16 = .ok (.iload_n 3, 1) := dk_29 (dk_at dksX0_goMoor_0 16 rfl rfl)
theorem dX0_goMoor_17 : decode cX0_goMoor 17 = .ok (.aload_n 0, 1) := dk_42 (dk_at dksX0_goMoor_0 17 rfl rfl)
theorem dX0_goMoor_18 : decode cX0_goMoor 18 = .ok (.getfield 358, 3) := dk_180 1 102 (dk_at dksX0_goMoor_0 18 rfl rfl)
theorem dX0_goMoor_21 : decode cX0_goMoor 21 = .ok (.if_icmp .ne 13, 3) := dk_160 0 13 (dk_at dksX0_goMoor_0 21 rfl rfl)
theorem dX0_goMoor_24 : decode cX0_goMoor 24 = .ok (.iload 4, 2) := dk_21 4 (dk_at dksX0_goMoor_1 0 rfl rfl)
theorem dX0_goMoor_26 : decode cX0_goMoor 26 = .ok (.aload_n 0, 1) := dk_42 (dk_at dksX0_goMoor_1 2 rfl rfl)
theorem dX0_goMoor_27 : decode cX0_goMoor 27 = .ok (.getfield 361, 3) := dk_180 1 105 (dk_at dksX0_goMoor_1 3 rfl rfl)
theorem dX0_goMoor_30 : decode cX0_goMoor 30 = .ok (.if_icmp .lt 4, 3) := dk_161 0 4 (dk_at dksX0_goMoor_1 6 rfl rfl)
theorem dX0_goMoor_33 : decode cX0_goMoor 33 = .ok (.return_, 1) := dk_177 (dk_at dksX0_goMoor_1 9 rfl rfl)
theorem dX0_goMoor_34 : decode cX0_goMoor 34 = .ok (.aload_n 0, 1) := dk_42 (dk_at dksX0_goMoor_1 10 rfl rfl)
theorem dX0_goMoor_35 : decode cX0_goMoor 35 = .ok (.iload_n 3, 1) := dk_29 (dk_at dksX0_goMoor_1 11 rfl rfl)
theorem dX0_goMoor_36 : decode cX0_goMoor 36 = .ok (.putfield 358, 3) := dk_181 1 102 (dk_at dksX0_goMoor_1 12 rfl rfl)
theorem dX0_goMoor_39 : decode cX0_goMoor 39 = .ok (.aload_n 0, 1) := dk_42 (dk_at dksX0_goMoor_1 15 rfl rfl)
theorem dX0_goMoor_40 : decode cX0_goMoor 40 = .ok (.iload 4, 2) := dk_21 4 (dk_at dksX0_goMoor_1 16 rfl rfl)
theorem dX0_goMoor_42 : decode cX0_goMoor 42 = .ok (.putfield 361, 3) := dk_181 1 105 (dk_at dksX0_goMoor_1 18 rfl rfl)
theorem dX0_goMoor_45 : decode cX0_goMoor 45 = .ok (.aload_n 0, 1) := dk_42 (dk_at dksX0_goMoor_1 21 rfl rfl)
theorem dX0_goMoor_46 : decode cX0_goMoor 46 = .ok (.getfield 64, 3) := dk_180 0 64 (dk_at dksX0_goMoor_2 0 rfl rfl)
theorem dX0_goMoor_49 : decode cX0_goMoor 49 = .ok (.iconst 0, 1) := dk_3 (dk_at dksX0_goMoor_2 3 rfl rfl)
theorem dX0_goMoor_50 : decode cX0_goMoor 50 = .ok (.aload_n 0, 1) := dk_42 (dk_at dksX0_goMoor_2 4 rfl rfl)
theorem dX0_goMoor_51 : decode cX0_goMoor 51 = .ok (.getfield 60, 3) := dk_180 0 60 (dk_at dksX0_goMoor_2 5 rfl rfl)
theorem dX0_goMoor_54 : decode cX0_goMoor 54 = .ok (.iconst 0, 1) := dk_3 (dk_at dksX0_goMoor_2 8 rfl rfl)
theorem dX0_goMoor_55 : decode cX0_goMoor 55 = .ok (.iload_n 1, 1) := dk_27 (dk_at dksX0_goMoor_2 9 rfl rfl)
theorem dX0_goMoor_56 : decode cX0_goMoor 56 = .ok (.invokestatic 330, 3) := dk_184 1 74 (dk_at dksX0_goMoor_2 10 rfl rfl)
theorem dX0_goMoor_59 : decode cX0_goMoor 59 = .ok (.return_, 1) := dk_177 (dk_at dksX0_goMoor_2 13 rfl rfl)
theorem dX0_goMoor_60 : decode cX0_goMoor 60 = .ok (.iconst 0, 1) := dk_3 (dk_at dksX0_goMoor_2 14 rfl rfl)
theorem dX0_goMoor_61 : decode cX0_goMoor 61 = .ok (.istore 5, 2) := dk_54 5 (dk_at dksX0_goMoor_2 15 rfl rfl)
theorem dX0_goMoor_63 : decode cX0_goMoor 63 = .ok (.iload 5, 2) := dk_21 5 (dk_at dksX0_goMoor_2 17 rfl rfl)
theorem dX0_goMoor_65 : decode cX0_goMoor 65 = .ok (.aload_n 0, 1) := dk_42 (dk_at dksX0_goMoor_2 19 rfl rfl)
theorem dX0_goMoor_66 : decode cX0_goMoor 66 = .ok (.getfield 19, 3) := dk_180 0 19 (dk_at dksX0_goMoor_2 20 rfl rfl)
theorem dX0_goMoor_69 : decode cX0_goMoor 69 = .ok (.getfield 237, 3) := dk_180 0 237 (dk_at dksX0_goMoor_3 0 rfl rfl)
theorem dX0_goMoor_72 : decode cX0_goMoor 72 = .ok (.if_icmp .ge 89, 3) := dk_162 0 89 (dk_at dksX0_goMoor_3 3 rfl rfl)
theorem dX0_goMoor_75 : decode cX0_goMoor 75 = .ok (.aload_n 0, 1) := dk_42 (dk_at dksX0_goMoor_3 6 rfl rfl)
theorem dX0_goMoor_76 : decode cX0_goMoor 76 = .ok (.getfield 28, 3) := dk_180 0 28 (dk_at dksX0_goMoor_3 7 rfl rfl)
theorem dX0_goMoor_79 : decode cX0_goMoor 79 = .ok (.getfield 203, 3) := dk_180 0 203 (dk_at dksX0_goMoor_3 10 rfl rfl)
theorem dX0_goMoor_82 : decode cX0_goMoor 82 = .ok (.iload_n 1, 1) := dk_27 (dk_at dksX0_goMoor_3 13 rfl rfl)
theorem dX0_goMoor_83 : decode cX0_goMoor 83 = .ok (.iaload, 1) := dk_46 (dk_at dksX0_goMoor_3 14 rfl rfl)
theorem dX0_goMoor_84 : decode cX0_goMoor 84 = .ok (.ifCond .ne 71, 3) := dk_154 0 71 (dk_at dksX0_goMoor_3 15 rfl rfl)
theorem dX0_goMoor_87 : decode cX0_goMoor 87 = .ok (.iload_n 2, 1) := dk_28 (dk_at dksX0_goMoor_3 18 rfl rfl)
theorem dX0_goMoor_88 : decode cX0_goMoor 88 = .ok (.iload 5, 2) := dk_21 5 (dk_at dksX0_goMoor_3 19 rfl rfl)
theorem dX0_goMoor_90 : decode cX0_goMoor 90 = .ok (.invokestatic 364, 3) := dk_184 1 108 (dk_at dksX0_goMoor_3 21 rfl rfl)
theorem dX0_goMoor_93 : decode cX0_goMoor 93 = .ok (.ifCond .ne 62, 3) := dk_154 0 62 (dk_at dksX0_goMoor_4 0 rfl rfl)
theorem dX0_goMoor_96 : decode cX0_goMoor 96 = .ok (.aload_n 0, 1) := dk_42 (dk_at dksX0_goMoor_4 3 rfl rfl)
theorem dX0_goMoor_97 : decode cX0_goMoor 97 = .ok (.getfield 93, 3) := dk_180 0 93 (dk_at dksX0_goMoor_4 4 rfl rfl)
theorem dX0_goMoor_100 : decode cX0_goMoor 100 = .ok (.iload_n 1, 1) := dk_27 (dk_at dksX0_goMoor_4 7 rfl rfl)
theorem dX0_goMoor_101 : decode cX0_goMoor 101 = .ok (.iaload, 1) := dk_46 (dk_at dksX0_goMoor_4 8 rfl rfl)
theorem dX0_goMoor_102 : decode cX0_goMoor 102 = .ok (.iload 5, 2) := dk_21 5 (dk_at dksX0_goMoor_4 9 rfl rfl)
theorem dX0_goMoor_104 : decode cX0_goMoor 104 = .ok (.invokestatic 364, 3) := dk_184 1 108 (dk_at dksX0_goMoor_4 11 rfl rfl)
theorem dX0_goMoor_107 : decode cX0_goMoor 107 = .ok (.ifCond .ne 6, 3) := dk_154 0 6 (dk_at dksX0_goMoor_4 14 rfl rfl)
theorem dX0_goMoor_110 : decode cX0_goMoor 110 = .ok (.goto 45, 3) := dk_167 0 45 (dk_at dksX0_goMoor_4 17 rfl rfl)
theorem dX0_goMoor_113 : decode cX0_goMoor 113 = .ok (.aload_n 0, 1) := dk_42 (dk_at dksX0_goMoor_4 20 rfl rfl)
theorem dX0_goMoor_114 : decode cX0_goMoor 114 = .ok (.getfield 64, 3) := dk_180 0 64 (dk_at dksX0_goMoor_4 21 rfl rfl)
theorem dX0_goMoor_117 : decode cX0_goMoor 117 = .ok (.iload_n 1, 1) := dk_27 (dk_at dksX0_goMoor_5 0 rfl rfl)
theorem dX0_goMoor_118 : decode cX0_goMoor 118 = .ok (.iload 5, 2) := dk_21 5 (dk_at dksX0_goMoor_5 1 rfl rfl)
theorem dX0_goMoor_120 : decode cX0_goMoor 120 = .ok (.iastore, 1) := dk_79 (dk_at dksX0_goMoor_5 3 rfl rfl)
theorem dX0_goMoor_121 : decode cX0_goMoor 121 = .ok (.aload_n 0, 1) := dk_42 (dk_at dksX0_goMoor_5 4 rfl rfl)
theorem dX0_goMoor_122 : decode cX0_goMoor 122 = .ok (.iload_n 1, 1) := dk_27 (dk_at dksX0_goMoor_5 5 rfl rfl)
theorem dX0_goMoor_123 : decode cX0_goMoor 123 = .ok (.iconst 1, 1) := dk_4 (dk_at dksX0_goMoor_5 6 rfl rfl)
theorem dX0_goMoor_124 : decode cX0_goMoor 124 = .ok (.iadd, 1) := dk_96 (dk_at dksX0_goMoor_5 7 rfl rfl)
theorem dX0_goMoor_125 : decode cX0_goMoor 125 = .ok (.iload_n 2, 1) := dk_28 (dk_at dksX0_goMoor_5 8 rfl rfl)
theorem dX0_goMoor_126 : decode cX0_goMoor 126 = .ok (.iconst 1, 1) := dk_4 (dk_at dksX0_goMoor_5 9 rfl rfl)
theorem dX0_goMoor_127 : decode cX0_goMoor 127 = .ok (.iload 5, 2) := dk_21 5 (dk_at dksX0_goMoor_5 10 rfl rfl)
theorem dX0_goMoor_129 : decode cX0_goMoor 129 = .ok (.ishl, 1) := dk_120 (dk_at dksX0_goMoor_5 12 rfl rfl)
theorem dX0_goMoor_130 : decode cX0_goMoor 130 = .ok (.ior, 1) := dk_128 (dk_at dksX0_goMoor_5 13 rfl rfl)
theorem dX0_goMoor_131 : decode cX0_goMoor 131 = .ok (.iload_n 3, 1) := dk_29 (dk_at dksX0_goMoor_5 14 rfl rfl)
theorem dX0_goMoor_132 : decode cX0_goMoor 132 = .ok (.iconst 1, 1) := dk_4 (dk_at dksX0_goMoor_5 15 rfl rfl)
theorem dX0_goMoor_133 : decode cX0_goMoor 133 = .ok (.iadd, 1) := dk_96 (dk_at dksX0_goMoor_5 16 rfl rfl)
theorem dX0_goMoor_134 : decode cX0_goMoor 134 = .ok (.iload 4, 2) := dk_21 4 (dk_at dksX0_goMoor_5 17 rfl rfl)
theorem dX0_goMoor_136 : decode cX0_goMoor 136 = .ok (.iload 5, 2) := dk_21 5 (dk_at dksX0_goMoor_5 19 rfl rfl)
theorem dX0_goMoor_138 : decode cX0_goMoor 138 = .ok (.aload_n 0, 1) := dk_42 (dk_at dksX0_goMoor_5 21 rfl rfl)
theorem dX0_goMoor_139 : decode cX0_goMoor 139 = .ok (.getfield 28, 3) := dk_180 0 28 (dk_at dksX0_goMoor_6 0 rfl rfl)
theorem dX0_goMoor_142 : decode cX0_goMoor 142 = .ok (.getfield 200, 3) := dk_180 0 200 (dk_at dksX0_goMoor_6 3 rfl rfl)
theorem dX0_goMoor_145 : decode cX0_goMoor 145 = .ok (.iload_n 1, 1) := dk_27 (dk_at dksX0_goMoor_6 6 rfl rfl)
theorem dX0_goMoor_146 : decode cX0_goMoor 146 = .ok (.iaload, 1) := dk_46 (dk_at dksX0_goMoor_6 7 rfl rfl)
theorem dX0_goMoor_147 : decode cX0_goMoor 147 = .ok (.isub, 1) := dk_100 (dk_at dksX0_goMoor_6 8 rfl rfl)
theorem dX0_goMoor_148 : decode cX0_goMoor 148 = .ok (.invokestatic 293, 3) := dk_184 1 37 (dk_at dksX0_goMoor_6 9 rfl rfl)
theorem dX0_goMoor_151 : decode cX0_goMoor 151 = .ok (.iadd, 1) := dk_96 (dk_at dksX0_goMoor_6 12 rfl rfl)
theorem dX0_goMoor_152 : decode cX0_goMoor 152 = .ok (.invokevirtual 367, 3) := dk_182 1 111 (dk_at dksX0_goMoor_6 13 rfl rfl)
theorem dX0_goMoor_155 : decode cX0_goMoor 155 = .ok (.iinc 5 1, 3) := dk_132 5 1 (dk_at dksX0_goMoor_6 16 rfl rfl)
theorem dX0_goMoor_158 : decode cX0_goMoor 158 = .ok (.goto (-95), 3) := dk_167 255 161 (dk_at dksX0_goMoor_6 19 rfl rfl)
theorem dX0_goMoor_161 : decode cX0_goMoor 161 = .ok (.aload_n 0, 1) := dk_42 (dk_at dksX0_goMoor_6 22 rfl rfl)
theorem dX0_goMoor_162 : decode cX0_goMoor 162 = .ok (.getfield 64, 3) := dk_180 0 64 (dk_at dksX0_goMoor_7 0 rfl rfl)
theorem dX0_goMoor_165 : decode cX0_goMoor 165 = .ok (.iload_n 1, 1) := dk_27 (dk_at dksX0_goMoor_7 3 rfl rfl)
theorem dX0_goMoor_166 : decode cX0_goMoor 166 = .ok (.iconst (-1), 1) := dk_2 (dk_at dksX0_goMoor_7 4 rfl rfl)
theorem dX0_goMoor_167 : decode cX0_goMoor 167 = .ok (.iastore, 1) := dk_79 (dk_at dksX0_goMoor_7 5 rfl rfl)
theorem dX0_goMoor_168 : decode cX0_goMoor 168 = .ok (.aload_n 0, 1) := dk_42 (dk_at dksX0_goMoor_7 6 rfl rfl)
theorem dX0_goMoor_169 : decode cX0_goMoor 169 = .ok (.iload_n 1, 1) := dk_27 (dk_at dksX0_goMoor_7 7 rfl rfl)
theorem dX0_goMoor_170 : decode cX0_goMoor 170 = .ok (.iconst 1, 1) := dk_4 (dk_at dksX0_goMoor_7 8 rfl rfl)
theorem dX0_goMoor_171 : decode cX0_goMoor 171 = .ok (.iadd, 1) := dk_96 (dk_at dksX0_goMoor_7 9 rfl rfl)
theorem dX0_goMoor_172 : decode cX0_goMoor 172 = .ok (.iload_n 2, 1) := dk_28 (dk_at dksX0_goMoor_7 10 rfl rfl)
theorem dX0_goMoor_173 : decode cX0_goMoor 173 = .ok (.iload_n 3, 1) := dk_29 (dk_at dksX0_goMoor_7 11 rfl rfl)
theorem dX0_goMoor_174 : decode cX0_goMoor 174 = .ok (.iload 4, 2) := dk_21 4 (dk_at dksX0_goMoor_7 12 rfl rfl)
theorem dX0_goMoor_176 : decode cX0_goMoor 176 = .ok (.invokevirtual 367, 3) := dk_182 1 111 (dk_at dksX0_goMoor_7 14 rfl rfl)
theorem dX0_goMoor_179 : decode cX0_goMoor 179 = .ok (.return_, 1) := dk_177 (dk_at dksX0_goMoor_7 17 rfl rfl)
abbrev cX0_has : ByteArray := prog_1_method_3_code
def yX0_has : MethodName := ⟨RX0, "has", "(II)Z"⟩
def dkwX0_has_0 : List UInt8 := [26, 27, 122, 4, 126, 4, 160, 0, 7, 4, 167, 0, 4, 3, 172]
abbrev dktX0_has_0 : List UInt8 := dkwX0_has_0 ++ []
theorem dksX0_has_0 : cX0_has.data.toList.drop 0 = dktX0_has_0 := by decide +kernel
theorem dX0_has_0 : decode cX0_has 0 = .ok (.iload_n 0, 1) := dk_26 (dk_at dksX0_has_0 0 rfl rfl)
theorem dX0_has_1 : decode cX0_has 1 = .ok (.iload_n 1, 1) := dk_27 (dk_at dksX0_has_0 1 rfl rfl)
theorem dX0_has_2 : decode cX0_has 2 = .ok (.ishr, 1) := dk_122 (dk_at dksX0_has_0 2 rfl rfl)
theorem dX0_has_3 : decode cX0_has 3 = .ok (.iconst 1, 1) := dk_4 (dk_at dksX0_has_0 3 rfl rfl)
theorem dX0_has_4 : decode cX0_has 4 = .ok (.iand, 1) := dk_126 (dk_at dksX0_has_0 4 rfl rfl)
theorem dX0_has_5 : decode cX0_has 5 = .ok (.iconst 1, 1) := dk_4 (dk_at dksX0_has_0 5 rfl rfl)
theorem dX0_has_6 : decode cX0_has 6 = .ok (.if_icmp .ne 7, 3) := dk_160 0 7 (dk_at dksX0_has_0 6 rfl rfl)
theorem dX0_has_9 : decode cX0_has 9 = .ok (.iconst 1, 1) := dk_4 (dk_at dksX0_has_0 9 rfl rfl)
theorem dX0_has_10 : decode cX0_has 10 = .ok (.goto 4, 3) := dk_167 0 4 (dk_at dksX0_has_0 10 rfl rfl)
theorem dX0_has_13 : decode cX0_has 13 = .ok (.iconst 0, 1) := dk_3 (dk_at dksX0_has_0 13 rfl rfl)
theorem dX0_has_14 : decode cX0_has 14 = .ok (.ireturn, 1) := dk_172 (dk_at dksX0_has_0 14 rfl rfl)
abbrev cX0_guests : ByteArray := prog_1_method_55_code
def yX0_guests : MethodName := ⟨RX0, "guests", "(II)I"⟩
def dkwX0_guests_7 : List UInt8 := [132, 6, 1, 167, 255, 149, 21, 5, 172]
abbrev dktX0_guests_7 : List UInt8 := dkwX0_guests_7 ++ []
def dkwX0_guests_6 : List UInt8 := [21, 6, 79, 42, 180, 0, 60, 4, 21, 7, 79, 42, 5, 181, 0, 127, 132, 7, 1, 167, 255, 170]
abbrev dktX0_guests_6 : List UInt8 := dkwX0_guests_6 ++ dktX0_guests_7
def dkwX0_guests_5 : List UInt8 := [154, 0, 6, 167, 0, 36, 132, 5, 1, 21, 5, 4, 164, 0, 6, 167, 0, 24, 42, 180, 0, 60, 3]
abbrev dktX0_guests_5 : List UInt8 := dkwX0_guests_5 ++ dktX0_guests_6
def dkwX0_guests_4 : List UInt8 := [21, 4, 21, 7, 184, 1, 108, 153, 0, 55, 42, 27, 28, 21, 6, 21, 7, 29, 21, 4, 182, 1, 118]
abbrev dktX0_guests_4 : List UInt8 := dkwX0_guests_4 ++ dktX0_guests_5
def dkwX0_guests_3 : List UInt8 := [54, 7, 21, 7, 42, 180, 0, 19, 180, 0, 237, 162, 0, 80, 29, 21, 6, 184, 1, 108, 153, 0, 65]
abbrev dktX0_guests_3 : List UInt8 := dkwX0_guests_3 ++ dktX0_guests_4
def dkwX0_guests_2 : List UInt8 := [154, 0, 5, 2, 172, 3, 54, 5, 3, 54, 6, 21, 6, 42, 180, 0, 19, 180, 0, 237, 162, 0, 101, 3]
abbrev dktX0_guests_2 : List UInt8 := dkwX0_guests_2 ++ dktX0_guests_3
def dkwX0_guests_1 : List UInt8 := [160, 0, 5, 2, 172, 42, 27, 182, 1, 47, 62, 42, 28, 182, 1, 47, 54, 4, 29, 153, 0, 8, 21, 4]
abbrev dktX0_guests_1 : List UInt8 := dkwX0_guests_1 ++ dktX0_guests_2
def dkwX0_guests_0 : List UInt8 := [42, 3, 181, 0, 127, 42, 27, 182, 0, 191, 153, 0, 16, 42, 28, 182, 0, 191, 153, 0, 8, 27, 28]
abbrev dktX0_guests_0 : List UInt8 := dkwX0_guests_0 ++ dktX0_guests_1
theorem dksX0_guests_0 : cX0_guests.data.toList.drop 0 = dktX0_guests_0 := by decide +kernel
theorem dksX0_guests_1 : cX0_guests.data.toList.drop 23 = dktX0_guests_1 := dk_seg dksX0_guests_0 23 rfl rfl
theorem dksX0_guests_2 : cX0_guests.data.toList.drop 47 = dktX0_guests_2 := dk_seg dksX0_guests_1 24 rfl rfl
theorem dksX0_guests_3 : cX0_guests.data.toList.drop 71 = dktX0_guests_3 := dk_seg dksX0_guests_2 24 rfl rfl
theorem dksX0_guests_4 : cX0_guests.data.toList.drop 94 = dktX0_guests_4 := dk_seg dksX0_guests_3 23 rfl rfl
theorem dksX0_guests_5 : cX0_guests.data.toList.drop 117 = dktX0_guests_5 := dk_seg dksX0_guests_4 23 rfl rfl
theorem dksX0_guests_6 : cX0_guests.data.toList.drop 140 = dktX0_guests_6 := dk_seg dksX0_guests_5 23 rfl rfl
theorem dksX0_guests_7 : cX0_guests.data.toList.drop 162 = dktX0_guests_7 := dk_seg dksX0_guests_6 22 rfl rfl
theorem dX0_guests_0 : decode cX0_guests 0 = .ok (.aload_n 0, 1) := dk_42 (dk_at dksX0_guests_0 0 rfl rfl)
theorem dX0_guests_1 : decode cX0_guests 1 = .ok (.iconst 0, 1) := dk_3 (dk_at dksX0_guests_0 1 rfl rfl)
theorem dX0_guests_2 : decode cX0_guests 2 = .ok (.putfield 127, 3) := dk_181 0 127 (dk_at dksX0_guests_0 2 rfl rfl)
theorem dX0_guests_5 : decode cX0_guests 5 = .ok (.aload_n 0, 1) := dk_42 (dk_at dksX0_guests_0 5 rfl rfl)
theorem dX0_guests_6 : decode cX0_guests 6 = .ok (.iload_n 1, 1) := dk_27 (dk_at dksX0_guests_0 6 rfl rfl)
theorem dX0_guests_7 : decode cX0_guests 7 = .ok (.invokevirtual 191, 3) := dk_182 0 191 (dk_at dksX0_guests_0 7 rfl rfl)
theorem dX0_guests_10 : decode cX0_guests 10 = .ok (.ifCond .eq 16, 3) := dk_153 0 16 (dk_at dksX0_guests_0 10 rfl rfl)
theorem dX0_guests_13 : decode cX0_guests 13 = .ok (.aload_n 0, 1) := dk_42 (dk_at dksX0_guests_0 13 rfl rfl)
theorem dX0_guests_14 : decode cX0_guests 14 = .ok (.iload_n 2, 1) := dk_28 (dk_at dksX0_guests_0 14 rfl rfl)
theorem dX0_guests_15 : decode cX0_guests 15 = .ok (.invokevirtual 191, 3) := dk_182 0 191 (dk_at dksX0_guests_0 15 rfl rfl)
theorem dX0_guests_18 : decode cX0_guests 18 = .ok (.ifCond .eq 8, 3) := dk_153 0 8 (dk_at dksX0_guests_0 18 rfl rfl)
theorem dX0_guests_21 : decode cX0_guests 21 = .ok (.iload_n 1, 1) := dk_27 (dk_at dksX0_guests_0 21 rfl rfl)
theorem dX0_guests_22 : decode cX0_guests 22 = .ok (.iload_n 2, 1) := dk_28 (dk_at dksX0_guests_0 22 rfl rfl)
theorem dX0_guests_23 : decode cX0_guests 23 = .ok (.if_icmp .ne 5, 3) := dk_160 0 5 (dk_at dksX0_guests_1 0 rfl rfl)
theorem dX0_guests_26 : decode cX0_guests 26 = .ok (.iconst (-1), 1) := dk_2 (dk_at dksX0_guests_1 3 rfl rfl)
theorem dX0_guests_27 : decode cX0_guests 27 = .ok (.ireturn, 1) := dk_172 (dk_at dksX0_guests_1 4 rfl rfl)
theorem dX0_guests_28 : decode cX0_guests 28 = .ok (.aload_n 0, 1) := dk_42 (dk_at dksX0_guests_1 5 rfl rfl)
theorem dX0_guests_29 : decode cX0_guests 29 = .ok (.iload_n 1, 1) := dk_27 (dk_at dksX0_guests_1 6 rfl rfl)
theorem dX0_guests_30 : decode cX0_guests 30 = .ok (.invokevirtual 303, 3) := dk_182 1 47 (dk_at dksX0_guests_1 7 rfl rfl)
theorem dX0_guests_33 : decode cX0_guests 33 = .ok (.istore_n 3, 1) := dk_62 (dk_at dksX0_guests_1 10 rfl rfl)
theorem dX0_guests_34 : decode cX0_guests 34 = .ok (.aload_n 0, 1) := dk_42 (dk_at dksX0_guests_1 11 rfl rfl)
theorem dX0_guests_35 : decode cX0_guests 35 = .ok (.iload_n 2, 1) := dk_28 (dk_at dksX0_guests_1 12 rfl rfl)
theorem dX0_guests_36 : decode cX0_guests 36 = .ok (.invokevirtual 303, 3) := dk_182 1 47 (dk_at dksX0_guests_1 13 rfl rfl)
theorem dX0_guests_39 : decode cX0_guests 39 = .ok (.istore 4, 2) := dk_54 4 (dk_at dksX0_guests_1 16 rfl rfl)
theorem dX0_guests_41 : decode cX0_guests 41 = .ok (.iload_n 3, 1) := dk_29 (dk_at dksX0_guests_1 18 rfl rfl)
theorem dX0_guests_42 : decode cX0_guests 42 = .ok (.ifCond .eq 8, 3) := dk_153 0 8 (dk_at dksX0_guests_1 19 rfl rfl)
theorem dX0_guests_45 : decode cX0_guests 45 = .ok (.iload 4, 2) := dk_21 4 (dk_at dksX0_guests_1 22 rfl rfl)
theorem dX0_guests_47 : decode cX0_guests 47 = .ok (.ifCond .ne 5, 3) := dk_154 0 5 (dk_at dksX0_guests_2 0 rfl rfl)
theorem dX0_guests_50 : decode cX0_guests 50 = .ok (.iconst (-1), 1) := dk_2 (dk_at dksX0_guests_2 3 rfl rfl)
theorem dX0_guests_51 : decode cX0_guests 51 = .ok (.ireturn, 1) := dk_172 (dk_at dksX0_guests_2 4 rfl rfl)
theorem dX0_guests_52 : decode cX0_guests 52 = .ok (.iconst 0, 1) := dk_3 (dk_at dksX0_guests_2 5 rfl rfl)
theorem dX0_guests_53 : decode cX0_guests 53 = .ok (.istore 5, 2) := dk_54 5 (dk_at dksX0_guests_2 6 rfl rfl)
theorem dX0_guests_55 : decode cX0_guests 55 = .ok (.iconst 0, 1) := dk_3 (dk_at dksX0_guests_2 8 rfl rfl)
theorem dX0_guests_56 : decode cX0_guests 56 = .ok (.istore 6, 2) := dk_54 6 (dk_at dksX0_guests_2 9 rfl rfl)
theorem dX0_guests_58 : decode cX0_guests 58 = .ok (.iload 6, 2) := dk_21 6 (dk_at dksX0_guests_2 11 rfl rfl)
theorem dX0_guests_60 : decode cX0_guests 60 = .ok (.aload_n 0, 1) := dk_42 (dk_at dksX0_guests_2 13 rfl rfl)
theorem dX0_guests_61 : decode cX0_guests 61 = .ok (.getfield 19, 3) := dk_180 0 19 (dk_at dksX0_guests_2 14 rfl rfl)
theorem dX0_guests_64 : decode cX0_guests 64 = .ok (.getfield 237, 3) := dk_180 0 237 (dk_at dksX0_guests_2 17 rfl rfl)
theorem dX0_guests_67 : decode cX0_guests 67 = .ok (.if_icmp .ge 101, 3) := dk_162 0 101 (dk_at dksX0_guests_2 20 rfl rfl)
theorem dX0_guests_70 : decode cX0_guests 70 = .ok (.iconst 0, 1) := dk_3 (dk_at dksX0_guests_2 23 rfl rfl)
theorem dX0_guests_71 : decode cX0_guests 71 = .ok (.istore 7, 2) := dk_54 7 (dk_at dksX0_guests_3 0 rfl rfl)
theorem dX0_guests_73 : decode cX0_guests 73 = .ok (.iload 7, 2) := dk_21 7 (dk_at dksX0_guests_3 2 rfl rfl)
theorem dX0_guests_75 : decode cX0_guests 75 = .ok (.aload_n 0, 1) := dk_42 (dk_at dksX0_guests_3 4 rfl rfl)
theorem dX0_guests_76 : decode cX0_guests 76 = .ok (.getfield 19, 3) := dk_180 0 19 (dk_at dksX0_guests_3 5 rfl rfl)
theorem dX0_guests_79 : decode cX0_guests 79 = .ok (.getfield 237, 3) := dk_180 0 237 (dk_at dksX0_guests_3 8 rfl rfl)
theorem dX0_guests_82 : decode cX0_guests 82 = .ok (.if_icmp .ge 80, 3) := dk_162 0 80 (dk_at dksX0_guests_3 11 rfl rfl)
theorem dX0_guests_85 : decode cX0_guests 85 = .ok (.iload_n 3, 1) := dk_29 (dk_at dksX0_guests_3 14 rfl rfl)
theorem dX0_guests_86 : decode cX0_guests 86 = .ok (.iload 6, 2) := dk_21 6 (dk_at dksX0_guests_3 15 rfl rfl)
theorem dX0_guests_88 : decode cX0_guests 88 = .ok (.invokestatic 364, 3) := dk_184 1 108 (dk_at dksX0_guests_3 17 rfl rfl)
theorem dX0_guests_91 : decode cX0_guests 91 = .ok (.ifCond .eq 65, 3) := dk_153 0 65 (dk_at dksX0_guests_3 20 rfl rfl)
theorem dX0_guests_94 : decode cX0_guests 94 = .ok (.iload 4, 2) := dk_21 4 (dk_at dksX0_guests_4 0 rfl rfl)
theorem dX0_guests_96 : decode cX0_guests 96 = .ok (.iload 7, 2) := dk_21 7 (dk_at dksX0_guests_4 2 rfl rfl)
theorem dX0_guests_98 : decode cX0_guests 98 = .ok (.invokestatic 364, 3) := dk_184 1 108 (dk_at dksX0_guests_4 4 rfl rfl)
theorem dX0_guests_101 : decode cX0_guests 101 = .ok (.ifCond .eq 55, 3) := dk_153 0 55 (dk_at dksX0_guests_4 7 rfl rfl)
theorem dX0_guests_104 : decode cX0_guests 104 = .ok (.aload_n 0, 1) := dk_42 (dk_at dksX0_guests_4 10 rfl rfl)
theorem dX0_guests_105 : decode cX0_guests 105 = .ok (.iload_n 1, 1) := dk_27 (dk_at dksX0_guests_4 11 rfl rfl)
theorem dX0_guests_106 : decode cX0_guests 106 = .ok (.iload_n 2, 1) := dk_28 (dk_at dksX0_guests_4 12 rfl rfl)
theorem dX0_guests_107 : decode cX0_guests 107 = .ok (.iload 6, 2) := dk_21 6 (dk_at dksX0_guests_4 13 rfl rfl)
theorem dX0_guests_109 : decode cX0_guests 109 = .ok (.iload 7, 2) := dk_21 7 (dk_at dksX0_guests_4 15 rfl rfl)
theorem dX0_guests_111 : decode cX0_guests 111 = .ok (.iload_n 3, 1) := dk_29 (dk_at dksX0_guests_4 17 rfl rfl)
theorem dX0_guests_112 : decode cX0_guests 112 = .ok (.iload 4, 2) := dk_21 4 (dk_at dksX0_guests_4 18 rfl rfl)
theorem dX0_guests_114 : decode cX0_guests 114 = .ok (.invokevirtual 374, 3) := dk_182 1 118 (dk_at dksX0_guests_4 20 rfl rfl)
theorem dX0_guests_117 : decode cX0_guests 117 = .ok (.ifCond .ne 6, 3) := dk_154 0 6 (dk_at dksX0_guests_5 0 rfl rfl)
theorem dX0_guests_120 : decode cX0_guests 120 = .ok (.goto 36, 3) := dk_167 0 36 (dk_at dksX0_guests_5 3 rfl rfl)
theorem dX0_guests_123 : decode cX0_guests 123 = .ok (.iinc 5 1, 3) := dk_132 5 1 (dk_at dksX0_guests_5 6 rfl rfl)
theorem dX0_guests_126 : decode cX0_guests 126 = .ok (.iload 5, 2) := dk_21 5 (dk_at dksX0_guests_5 9 rfl rfl)
theorem dX0_guests_128 : decode cX0_guests 128 = .ok (.iconst 1, 1) := dk_4 (dk_at dksX0_guests_5 11 rfl rfl)
theorem dX0_guests_129 : decode cX0_guests 129 = .ok (.if_icmp .le 6, 3) := dk_164 0 6 (dk_at dksX0_guests_5 12 rfl rfl)
theorem dX0_guests_132 : decode cX0_guests 132 = .ok (.goto 24, 3) := dk_167 0 24 (dk_at dksX0_guests_5 15 rfl rfl)
theorem dX0_guests_135 : decode cX0_guests 135 = .ok (.aload_n 0, 1) := dk_42 (dk_at dksX0_guests_5 18 rfl rfl)
theorem dX0_guests_136 : decode cX0_guests 136 = .ok (.getfield 60, 3) := dk_180 0 60 (dk_at dksX0_guests_5 19 rfl rfl)
theorem dX0_guests_139 : decode cX0_guests 139 = .ok (.iconst 0, 1) := dk_3 (dk_at dksX0_guests_5 22 rfl rfl)
theorem dX0_guests_140 : decode cX0_guests 140 = .ok (.iload 6, 2) := dk_21 6 (dk_at dksX0_guests_6 0 rfl rfl)
theorem dX0_guests_142 : decode cX0_guests 142 = .ok (.iastore, 1) := dk_79 (dk_at dksX0_guests_6 2 rfl rfl)
theorem dX0_guests_143 : decode cX0_guests 143 = .ok (.aload_n 0, 1) := dk_42 (dk_at dksX0_guests_6 3 rfl rfl)
theorem dX0_guests_144 : decode cX0_guests 144 = .ok (.getfield 60, 3) := dk_180 0 60 (dk_at dksX0_guests_6 4 rfl rfl)
theorem dX0_guests_147 : decode cX0_guests 147 = .ok (.iconst 1, 1) := dk_4 (dk_at dksX0_guests_6 7 rfl rfl)
theorem dX0_guests_148 : decode cX0_guests 148 = .ok (.iload 7, 2) := dk_21 7 (dk_at dksX0_guests_6 8 rfl rfl)
theorem dX0_guests_150 : decode cX0_guests 150 = .ok (.iastore, 1) := dk_79 (dk_at dksX0_guests_6 10 rfl rfl)
theorem dX0_guests_151 : decode cX0_guests 151 = .ok (.aload_n 0, 1) := dk_42 (dk_at dksX0_guests_6 11 rfl rfl)
theorem dX0_guests_152 : decode cX0_guests 152 = .ok (.iconst 2, 1) := dk_5 (dk_at dksX0_guests_6 12 rfl rfl)
theorem dX0_guests_153 : decode cX0_guests 153 = .ok (.putfield 127, 3) := dk_181 0 127 (dk_at dksX0_guests_6 13 rfl rfl)
theorem dX0_guests_156 : decode cX0_guests 156 = .ok (.iinc 7 1, 3) := dk_132 7 1 (dk_at dksX0_guests_6 16 rfl rfl)
theorem dX0_guests_159 : decode cX0_guests 159 = .ok (.goto (-86), 3) := dk_167 255 170 (dk_at dksX0_guests_6 19 rfl rfl)
theorem dX0_guests_162 : decode cX0_guests 162 = .ok (.iinc 6 1, 3) := dk_132 6 1 (dk_at dksX0_guests_7 0 rfl rfl)
theorem dX0_guests_165 : decode cX0_guests 165 = .ok (.goto (-107), 3) := dk_167 255 149 (dk_at dksX0_guests_7 3 rfl rfl)
theorem dX0_guests_168 : decode cX0_guests 168 = .ok (.iload 5, 2) := dk_21 5 (dk_at dksX0_guests_7 6 rfl rfl)
theorem dX0_guests_170 : decode cX0_guests 170 = .ok (.ireturn, 1) := dk_172 (dk_at dksX0_guests_7 8 rfl rfl)
abbrev cX0_rests : ByteArray := prog_1_method_54_code
def yX0_rests : MethodName := ⟨RX0, "rests", "(IIIIII)Z"⟩
def dkwX0_rests_3 : List UInt8 := [182, 1, 115, 164, 0, 5, 3, 172, 132, 7, 1, 167, 255, 180, 4, 172]
abbrev dktX0_rests_3 : List UInt8 := dkwX0_rests_3 ++ []
def dkwX0_rests_2 : List UInt8 := [21, 6, 21, 7, 184, 1, 108, 153, 0, 24, 42, 28, 21, 7, 29, 182, 1, 115, 42, 28, 21, 4, 29]
abbrev dktX0_rests_2 : List UInt8 := dkwX0_rests_2 ++ dktX0_rests_3
def dkwX0_rests_1 : List UInt8 := [153, 0, 23, 42, 27, 21, 7, 21, 4, 182, 1, 115, 42, 27, 29, 21, 4, 182, 1, 115, 163, 0, 32]
abbrev dktX0_rests_1 : List UInt8 := dkwX0_rests_1 ++ dktX0_rests_2
def dkwX0_rests_0 : List UInt8 := [3, 54, 7, 21, 7, 42, 180, 0, 19, 180, 0, 237, 162, 0, 70, 21, 5, 21, 7, 184, 1, 108]
abbrev dktX0_rests_0 : List UInt8 := dkwX0_rests_0 ++ dktX0_rests_1
theorem dksX0_rests_0 : cX0_rests.data.toList.drop 0 = dktX0_rests_0 := by decide +kernel
theorem dksX0_rests_1 : cX0_rests.data.toList.drop 22 = dktX0_rests_1 := dk_seg dksX0_rests_0 22 rfl rfl
theorem dksX0_rests_2 : cX0_rests.data.toList.drop 45 = dktX0_rests_2 := dk_seg dksX0_rests_1 23 rfl rfl
theorem dksX0_rests_3 : cX0_rests.data.toList.drop 68 = dktX0_rests_3 := dk_seg dksX0_rests_2 23 rfl rfl
theorem dX0_rests_0 : decode cX0_rests 0 = .ok (.iconst 0, 1) := dk_3 (dk_at dksX0_rests_0 0 rfl rfl)
theorem dX0_rests_1 : decode cX0_rests 1 = .ok (.istore 7, 2) := dk_54 7 (dk_at dksX0_rests_0 1 rfl rfl)
theorem dX0_rests_3 : decode cX0_rests 3 = .ok (.iload 7, 2) := dk_21 7 (dk_at dksX0_rests_0 3 rfl rfl)
theorem dX0_rests_5 : decode cX0_rests 5 = .ok (.aload_n 0, 1) := dk_42 (dk_at dksX0_rests_0 5 rfl rfl)
theorem dX0_rests_6 : decode cX0_rests 6 = .ok (.getfield 19, 3) := dk_180 0 19 (dk_at dksX0_rests_0 6 rfl rfl)
theorem dX0_rests_9 : decode cX0_rests 9 = .ok (.getfield 237, 3) := dk_180 0 237 (dk_at dksX0_rests_0 9 rfl rfl)
theorem dX0_rests_12 : decode cX0_rests 12 = .ok (.if_icmp .ge 70, 3) := dk_162 0 70 (dk_at dksX0_rests_0 12 rfl rfl)
theorem dX0_rests_15 : decode cX0_rests 15 = .ok (.iload 5, 2) := dk_21 5 (dk_at dksX0_rests_0 15 rfl rfl)
theorem dX0_rests_17 : decode cX0_rests 17 = .ok (.iload 7, 2) := dk_21 7 (dk_at dksX0_rests_0 17 rfl rfl)
theorem dX0_rests_19 : decode cX0_rests 19 = .ok (.invokestatic 364, 3) := dk_184 1 108 (dk_at dksX0_rests_0 19 rfl rfl)
theorem dX0_rests_22 : decode cX0_rests 22 = .ok (.ifCond .eq 23, 3) := dk_153 0 23 (dk_at dksX0_rests_1 0 rfl rfl)
theorem dX0_rests_25 : decode cX0_rests 25 = .ok (.aload_n 0, 1) := dk_42 (dk_at dksX0_rests_1 3 rfl rfl)
theorem dX0_rests_26 : decode cX0_rests 26 = .ok (.iload_n 1, 1) := dk_27 (dk_at dksX0_rests_1 4 rfl rfl)
theorem dX0_rests_27 : decode cX0_rests 27 = .ok (.iload 7, 2) := dk_21 7 (dk_at dksX0_rests_1 5 rfl rfl)
theorem dX0_rests_29 : decode cX0_rests 29 = .ok (.iload 4, 2) := dk_21 4 (dk_at dksX0_rests_1 7 rfl rfl)
theorem dX0_rests_31 : decode cX0_rests 31 = .ok (.invokevirtual 371, 3) := dk_182 1 115 (dk_at dksX0_rests_1 9 rfl rfl)
theorem dX0_rests_34 : decode cX0_rests 34 = .ok (.aload_n 0, 1) := dk_42 (dk_at dksX0_rests_1 12 rfl rfl)
theorem dX0_rests_35 : decode cX0_rests 35 = .ok (.iload_n 1, 1) := dk_27 (dk_at dksX0_rests_1 13 rfl rfl)
theorem dX0_rests_36 : decode cX0_rests 36 = .ok (.iload_n 3, 1) := dk_29 (dk_at dksX0_rests_1 14 rfl rfl)
theorem dX0_rests_37 : decode cX0_rests 37 = .ok (.iload 4, 2) := dk_21 4 (dk_at dksX0_rests_1 15 rfl rfl)
theorem dX0_rests_39 : decode cX0_rests 39 = .ok (.invokevirtual 371, 3) := dk_182 1 115 (dk_at dksX0_rests_1 17 rfl rfl)
theorem dX0_rests_42 : decode cX0_rests 42 = .ok (.if_icmp .gt 32, 3) := dk_163 0 32 (dk_at dksX0_rests_1 20 rfl rfl)
theorem dX0_rests_45 : decode cX0_rests 45 = .ok (.iload 6, 2) := dk_21 6 (dk_at dksX0_rests_2 0 rfl rfl)
theorem dX0_rests_47 : decode cX0_rests 47 = .ok (.iload 7, 2) := dk_21 7 (dk_at dksX0_rests_2 2 rfl rfl)
theorem dX0_rests_49 : decode cX0_rests 49 = .ok (.invokestatic 364, 3) := dk_184 1 108 (dk_at dksX0_rests_2 4 rfl rfl)
theorem dX0_rests_52 : decode cX0_rests 52 = .ok (.ifCond .eq 24, 3) := dk_153 0 24 (dk_at dksX0_rests_2 7 rfl rfl)
theorem dX0_rests_55 : decode cX0_rests 55 = .ok (.aload_n 0, 1) := dk_42 (dk_at dksX0_rests_2 10 rfl rfl)
theorem dX0_rests_56 : decode cX0_rests 56 = .ok (.iload_n 2, 1) := dk_28 (dk_at dksX0_rests_2 11 rfl rfl)
theorem dX0_rests_57 : decode cX0_rests 57 = .ok (.iload 7, 2) := dk_21 7 (dk_at dksX0_rests_2 12 rfl rfl)
theorem dX0_rests_59 : decode cX0_rests 59 = .ok (.iload_n 3, 1) := dk_29 (dk_at dksX0_rests_2 14 rfl rfl)
theorem dX0_rests_60 : decode cX0_rests 60 = .ok (.invokevirtual 371, 3) := dk_182 1 115 (dk_at dksX0_rests_2 15 rfl rfl)
theorem dX0_rests_63 : decode cX0_rests 63 = .ok (.aload_n 0, 1) := dk_42 (dk_at dksX0_rests_2 18 rfl rfl)
theorem dX0_rests_64 : decode cX0_rests 64 = .ok (.iload_n 2, 1) := dk_28 (dk_at dksX0_rests_2 19 rfl rfl)
theorem dX0_rests_65 : decode cX0_rests 65 = .ok (.iload 4, 2) := dk_21 4 (dk_at dksX0_rests_2 20 rfl rfl)
theorem dX0_rests_67 : decode cX0_rests 67 = .ok (.iload_n 3, 1) := dk_29 (dk_at dksX0_rests_2 22 rfl rfl)
theorem dX0_rests_68 : decode cX0_rests 68 = .ok (.invokevirtual 371, 3) := dk_182 1 115 (dk_at dksX0_rests_3 0 rfl rfl)
theorem dX0_rests_71 : decode cX0_rests 71 = .ok (.if_icmp .le 5, 3) := dk_164 0 5 (dk_at dksX0_rests_3 3 rfl rfl)
theorem dX0_rests_74 : decode cX0_rests 74 = .ok (.iconst 0, 1) := dk_3 (dk_at dksX0_rests_3 6 rfl rfl)
theorem dX0_rests_75 : decode cX0_rests 75 = .ok (.ireturn, 1) := dk_172 (dk_at dksX0_rests_3 7 rfl rfl)
theorem dX0_rests_76 : decode cX0_rests 76 = .ok (.iinc 7 1, 3) := dk_132 7 1 (dk_at dksX0_rests_3 8 rfl rfl)
theorem dX0_rests_79 : decode cX0_rests 79 = .ok (.goto (-76), 3) := dk_167 255 180 (dk_at dksX0_rests_3 11 rfl rfl)
theorem dX0_rests_82 : decode cX0_rests 82 = .ok (.iconst 1, 1) := dk_4 (dk_at dksX0_rests_3 14 rfl rfl)
theorem dX0_rests_83 : decode cX0_rests 83 = .ok (.ireturn, 1) := dk_172 (dk_at dksX0_rests_3 15 rfl rfl)
abbrev cX0_good : ByteArray := prog_1_method_53_code
def yX0_good : MethodName := ⟨RX0, "good", "(III)I"⟩
def dkwX0_good_1 : List UInt8 := [184, 1, 37, 100, 172]
abbrev dktX0_good_1 : List UInt8 := dkwX0_good_1 ++ []
def dkwX0_good_0 : List UInt8 := [28, 29, 160, 0, 7, 6, 167, 0, 5, 16, 9, 28, 42, 180, 0, 28, 180, 0, 200, 27, 46, 100]
abbrev dktX0_good_0 : List UInt8 := dkwX0_good_0 ++ dktX0_good_1
theorem dksX0_good_0 : cX0_good.data.toList.drop 0 = dktX0_good_0 := by decide +kernel
theorem dksX0_good_1 : cX0_good.data.toList.drop 22 = dktX0_good_1 := dk_seg dksX0_good_0 22 rfl rfl
theorem dX0_good_0 : decode cX0_good 0 = .ok (.iload_n 2, 1) := dk_28 (dk_at dksX0_good_0 0 rfl rfl)
theorem dX0_good_1 : decode cX0_good 1 = .ok (.iload_n 3, 1) := dk_29 (dk_at dksX0_good_0 1 rfl rfl)
theorem dX0_good_2 : decode cX0_good 2 = .ok (.if_icmp .ne 7, 3) := dk_160 0 7 (dk_at dksX0_good_0 2 rfl rfl)
theorem dX0_good_5 : decode cX0_good 5 = .ok (.iconst 3, 1) := dk_6 (dk_at dksX0_good_0 5 rfl rfl)
theorem dX0_good_6 : decode cX0_good 6 = .ok (.goto 5, 3) := dk_167 0 5 (dk_at dksX0_good_0 6 rfl rfl)
theorem dX0_good_9 : decode cX0_good 9 = .ok (.bipush 9, 2) := dk_16 9 (dk_at dksX0_good_0 9 rfl rfl)
theorem dX0_good_11 : decode cX0_good 11 = .ok (.iload_n 2, 1) := dk_28 (dk_at dksX0_good_0 11 rfl rfl)
theorem dX0_good_12 : decode cX0_good 12 = .ok (.aload_n 0, 1) := dk_42 (dk_at dksX0_good_0 12 rfl rfl)
theorem dX0_good_13 : decode cX0_good 13 = .ok (.getfield 28, 3) := dk_180 0 28 (dk_at dksX0_good_0 13 rfl rfl)
theorem dX0_good_16 : decode cX0_good 16 = .ok (.getfield 200, 3) := dk_180 0 200 (dk_at dksX0_good_0 16 rfl rfl)
theorem dX0_good_19 : decode cX0_good 19 = .ok (.iload_n 1, 1) := dk_27 (dk_at dksX0_good_0 19 rfl rfl)
theorem dX0_good_20 : decode cX0_good 20 = .ok (.iaload, 1) := dk_46 (dk_at dksX0_good_0 20 rfl rfl)
theorem dX0_good_21 : decode cX0_good 21 = .ok (.isub, 1) := dk_100 (dk_at dksX0_good_0 21 rfl rfl)
theorem dX0_good_22 : decode cX0_good 22 = .ok (.invokestatic 293, 3) := dk_184 1 37 (dk_at dksX0_good_1 0 rfl rfl)
theorem dX0_good_25 : decode cX0_good 25 = .ok (.isub, 1) := dk_100 (dk_at dksX0_good_1 3 rfl rfl)
theorem dX0_good_26 : decode cX0_good 26 = .ok (.ireturn, 1) := dk_172 (dk_at dksX0_good_1 4 rfl rfl)
abbrev cX0_odds : ByteArray := prog_1_method_58_code
def yX0_odds : MethodName := ⟨RX0, "odds", "(III)I"⟩
def dkwX0_odds_5 : List UInt8 := [172]
abbrev dktX0_odds_5 : List UInt8 := dkwX0_odds_5 ++ []
def dkwX0_odds_4 : List UInt8 := [184, 1, 30, 54, 6, 29, 154, 0, 8, 21, 5, 167, 0, 5, 21, 6, 21, 6, 21, 5, 184, 1, 122, 108]
abbrev dktX0_odds_4 : List UInt8 := dkwX0_odds_4 ++ dktX0_odds_5
def dkwX0_odds_3 : List UInt8 := [27, 28, 21, 4, 21, 6, 182, 1, 125, 96, 54, 5, 132, 6, 1, 167, 255, 229, 16, 100, 21, 4]
abbrev dktX0_odds_3 : List UInt8 := dkwX0_odds_3 ++ dktX0_odds_4
def dkwX0_odds_2 : List UInt8 := [27, 182, 1, 41, 54, 4, 3, 54, 5, 3, 54, 6, 21, 6, 4, 21, 4, 120, 162, 0, 24, 21, 5, 42]
abbrev dktX0_odds_2 : List UInt8 := dkwX0_odds_2 ++ dktX0_odds_3
def dkwX0_odds_1 : List UInt8 := [153, 0, 21, 29, 3, 4, 184, 0, 160, 153, 0, 12, 42, 27, 182, 1, 41, 7, 164, 0, 5, 2, 172, 42]
abbrev dktX0_odds_1 : List UInt8 := dkwX0_odds_1 ++ dktX0_odds_2
def dkwX0_odds_0 : List UInt8 := [42, 27, 182, 0, 191, 153, 0, 38, 28, 3, 42, 180, 0, 19, 180, 0, 237, 4, 100, 184, 0, 160]
abbrev dktX0_odds_0 : List UInt8 := dkwX0_odds_0 ++ dktX0_odds_1
theorem dksX0_odds_0 : cX0_odds.data.toList.drop 0 = dktX0_odds_0 := by decide +kernel
theorem dksX0_odds_1 : cX0_odds.data.toList.drop 22 = dktX0_odds_1 := dk_seg dksX0_odds_0 22 rfl rfl
theorem dksX0_odds_2 : cX0_odds.data.toList.drop 46 = dktX0_odds_2 := dk_seg dksX0_odds_1 24 rfl rfl
theorem dksX0_odds_3 : cX0_odds.data.toList.drop 70 = dktX0_odds_3 := dk_seg dksX0_odds_2 24 rfl rfl
theorem dksX0_odds_4 : cX0_odds.data.toList.drop 92 = dktX0_odds_4 := dk_seg dksX0_odds_3 22 rfl rfl
theorem dksX0_odds_5 : cX0_odds.data.toList.drop 116 = dktX0_odds_5 := dk_seg dksX0_odds_4 24 rfl rfl
theorem dX0_odds_0 : decode cX0_odds 0 = .ok (.aload_n 0, 1) := dk_42 (dk_at dksX0_odds_0 0 rfl rfl)
theorem dX0_odds_1 : decode cX0_odds 1 = .ok (.iload_n 1, 1) := dk_27 (dk_at dksX0_odds_0 1 rfl rfl)
theorem dX0_odds_2 : decode cX0_odds 2 = .ok (.invokevirtual 191, 3) := dk_182 0 191 (dk_at dksX0_odds_0 2 rfl rfl)
theorem dX0_odds_5 : decode cX0_odds 5 = .ok (.ifCond .eq 38, 3) := dk_153 0 38 (dk_at dksX0_odds_0 5 rfl rfl)
theorem dX0_odds_8 : decode cX0_odds 8 = .ok (.iload_n 2, 1) := dk_28 (dk_at dksX0_odds_0 8 rfl rfl)
theorem dX0_odds_9 : decode cX0_odds 9 = .ok (.iconst 0, 1) := dk_3 (dk_at dksX0_odds_0 9 rfl rfl)
theorem dX0_odds_10 : decode cX0_odds 10 = .ok (.aload_n 0, 1) := dk_42 (dk_at dksX0_odds_0 10 rfl rfl)
theorem dX0_odds_11 : decode cX0_odds 11 = .ok (.getfield 19, 3) := dk_180 0 19 (dk_at dksX0_odds_0 11 rfl rfl)
theorem dX0_odds_14 : decode cX0_odds 14 = .ok (.getfield 237, 3) := dk_180 0 237 (dk_at dksX0_odds_0 14 rfl rfl)
theorem dX0_odds_17 : decode cX0_odds 17 = .ok (.iconst 1, 1) := dk_4 (dk_at dksX0_odds_0 17 rfl rfl)
theorem dX0_odds_18 : decode cX0_odds 18 = .ok (.isub, 1) := dk_100 (dk_at dksX0_odds_0 18 rfl rfl)
theorem dX0_odds_19 : decode cX0_odds 19 = .ok (.invokestatic 160, 3) := dk_184 0 160 (dk_at dksX0_odds_0 19 rfl rfl)
theorem dX0_odds_22 : decode cX0_odds 22 = .ok (.ifCond .eq 21, 3) := dk_153 0 21 (dk_at dksX0_odds_1 0 rfl rfl)
theorem dX0_odds_25 : decode cX0_odds 25 = .ok (.iload_n 3, 1) := dk_29 (dk_at dksX0_odds_1 3 rfl rfl)
theorem dX0_odds_26 : decode cX0_odds 26 = .ok (.iconst 0, 1) := dk_3 (dk_at dksX0_odds_1 4 rfl rfl)
theorem dX0_odds_27 : decode cX0_odds 27 = .ok (.iconst 1, 1) := dk_4 (dk_at dksX0_odds_1 5 rfl rfl)
theorem dX0_odds_28 : decode cX0_odds 28 = .ok (.invokestatic 160, 3) := dk_184 0 160 (dk_at dksX0_odds_1 6 rfl rfl)
theorem dX0_odds_31 : decode cX0_odds 31 = .ok (.ifCond .eq 12, 3) := dk_153 0 12 (dk_at dksX0_odds_1 9 rfl rfl)
theorem dX0_odds_34 : decode cX0_odds 34 = .ok (.aload_n 0, 1) := dk_42 (dk_at dksX0_odds_1 12 rfl rfl)
theorem dX0_odds_35 : decode cX0_odds 35 = .ok (.iload_n 1, 1) := dk_27 (dk_at dksX0_odds_1 13 rfl rfl)
theorem dX0_odds_36 : decode cX0_odds 36 = .ok (.invokevirtual 297, 3) := dk_182 1 41 (dk_at dksX0_odds_1 14 rfl rfl)
theorem dX0_odds_39 : decode cX0_odds 39 = .ok (.iconst 4, 1) := dk_7 (dk_at dksX0_odds_1 17 rfl rfl)
theorem dX0_odds_40 : decode cX0_odds 40 = .ok (.if_icmp .le 5, 3) := dk_164 0 5 (dk_at dksX0_odds_1 18 rfl rfl)
theorem dX0_odds_43 : decode cX0_odds 43 = .ok (.iconst (-1), 1) := dk_2 (dk_at dksX0_odds_1 21 rfl rfl)
theorem dX0_odds_44 : decode cX0_odds 44 = .ok (.ireturn, 1) := dk_172 (dk_at dksX0_odds_1 22 rfl rfl)
theorem dX0_odds_45 : decode cX0_odds 45 = .ok (.aload_n 0, 1) := dk_42 (dk_at dksX0_odds_1 23 rfl rfl)
theorem dX0_odds_46 : decode cX0_odds 46 = .ok (.iload_n 1, 1) := dk_27 (dk_at dksX0_odds_2 0 rfl rfl)
theorem dX0_odds_47 : decode cX0_odds 47 = .ok (.invokevirtual 297, 3) := dk_182 1 41 (dk_at dksX0_odds_2 1 rfl rfl)
theorem dX0_odds_50 : decode cX0_odds 50 = .ok (.istore 4, 2) := dk_54 4 (dk_at dksX0_odds_2 4 rfl rfl)
theorem dX0_odds_52 : decode cX0_odds 52 = .ok (.iconst 0, 1) := dk_3 (dk_at dksX0_odds_2 6 rfl rfl)
theorem dX0_odds_53 : decode cX0_odds 53 = .ok (.istore 5, 2) := dk_54 5 (dk_at dksX0_odds_2 7 rfl rfl)
theorem dX0_odds_55 : decode cX0_odds 55 = .ok (.iconst 0, 1) := dk_3 (dk_at dksX0_odds_2 9 rfl rfl)
theorem dX0_odds_56 : decode cX0_odds 56 = .ok (.istore 6, 2) := dk_54 6 (dk_at dksX0_odds_2 10 rfl rfl)
theorem dX0_odds_58 : decode cX0_odds 58 = .ok (.iload 6, 2) := dk_21 6 (dk_at dksX0_odds_2 12 rfl rfl)
theorem dX0_odds_60 : decode cX0_odds 60 = .ok (.iconst 1, 1) := dk_4 (dk_at dksX0_odds_2 14 rfl rfl)
theorem dX0_odds_61 : decode cX0_odds 61 = .ok (.iload 4, 2) := dk_21 4 (dk_at dksX0_odds_2 15 rfl rfl)
theorem dX0_odds_63 : decode cX0_odds 63 = .ok (.ishl, 1) := dk_120 (dk_at dksX0_odds_2 17 rfl rfl)
theorem dX0_odds_64 : decode cX0_odds 64 = .ok (.if_icmp .ge 24, 3) := dk_162 0 24 (dk_at dksX0_odds_2 18 rfl rfl)
theorem dX0_odds_67 : decode cX0_odds 67 = .ok (.iload 5, 2) := dk_21 5 (dk_at dksX0_odds_2 21 rfl rfl)
theorem dX0_odds_69 : decode cX0_odds 69 = .ok (.aload_n 0, 1) := dk_42 (dk_at dksX0_odds_2 23 rfl rfl)
theorem dX0_odds_70 : decode cX0_odds 70 = .ok (.iload_n 1, 1) := dk_27 (dk_at dksX0_odds_3 0 rfl rfl)
theorem dX0_odds_71 : decode cX0_odds 71 = .ok (.iload_n 2, 1) := dk_28 (dk_at dksX0_odds_3 1 rfl rfl)
theorem dX0_odds_72 : decode cX0_odds 72 = .ok (.iload 4, 2) := dk_21 4 (dk_at dksX0_odds_3 2 rfl rfl)
theorem dX0_odds_74 : decode cX0_odds 74 = .ok (.iload 6, 2) := dk_21 6 (dk_at dksX0_odds_3 4 rfl rfl)
theorem dX0_odds_76 : decode cX0_odds 76 = .ok (.invokevirtual 381, 3) := dk_182 1 125 (dk_at dksX0_odds_3 6 rfl rfl)
theorem dX0_odds_79 : decode cX0_odds 79 = .ok (.iadd, 1) := dk_96 (dk_at dksX0_odds_3 9 rfl rfl)
theorem dX0_odds_80 : decode cX0_odds 80 = .ok (.istore 5, 2) := dk_54 5 (dk_at dksX0_odds_3 10 rfl rfl)
theorem dX0_odds_82 : decode cX0_odds 82 = .ok (.iinc 6 1, 3) := dk_132 6 1 (dk_at dksX0_odds_3 12 rfl rfl)
theorem dX0_odds_85 : decode cX0_odds 85 = .ok (.goto (-27), 3) := dk_167 255 229 (dk_at dksX0_odds_3 15 rfl rfl)
theorem dX0_odds_88 : decode cX0_odds 88 = .ok (.bipush 100, 2) := dk_16 100 (dk_at dksX0_odds_3 18 rfl rfl)
theorem dX0_odds_90 : decode cX0_odds 90 = .ok (.iload 4, 2) := dk_21 4 (dk_at dksX0_odds_3 20 rfl rfl)
theorem dX0_odds_92 : decode cX0_odds 92 = .ok (.invokestatic 286, 3) := dk_184 1 30 (dk_at dksX0_odds_4 0 rfl rfl)
theorem dX0_odds_95 : decode cX0_odds 95 = .ok (.istore 6, 2) := dk_54 6 (dk_at dksX0_odds_4 3 rfl rfl)
theorem dX0_odds_97 : decode cX0_odds 97 = .ok (.iload_n 3, 1) := dk_29 (dk_at dksX0_odds_4 5 rfl rfl)
theorem dX0_odds_98 : decode cX0_odds 98 = .ok (.ifCond .ne 8, 3) := dk_154 0 8 (dk_at dksX0_odds_4 6 rfl rfl)
theorem dX0_odds_101 : decode cX0_odds 101 = .ok (.iload 5, 2) := dk_21 5 (dk_at dksX0_odds_4 9 rfl rfl)
theorem dX0_odds_103 : decode cX0_odds 103 = .ok (.goto 5, 3) := dk_167 0 5 (dk_at dksX0_odds_4 11 rfl rfl)
theorem dX0_odds_106 : decode cX0_odds 106 = .ok (.iload 6, 2) := dk_21 6 (dk_at dksX0_odds_4 14 rfl rfl)
theorem dX0_odds_108 : decode cX0_odds 108 = .ok (.iload 6, 2) := dk_21 6 (dk_at dksX0_odds_4 16 rfl rfl)
theorem dX0_odds_110 : decode cX0_odds 110 = .ok (.iload 5, 2) := dk_21 5 (dk_at dksX0_odds_4 18 rfl rfl)
theorem dX0_odds_112 : decode cX0_odds 112 = .ok (.invokestatic 378, 3) := dk_184 1 122 (dk_at dksX0_odds_4 20 rfl rfl)
theorem dX0_odds_115 : decode cX0_odds 115 = .ok (.idiv, 1) := dk_108 (dk_at dksX0_odds_4 23 rfl rfl)
theorem dX0_odds_116 : decode cX0_odds 116 = .ok (.ireturn, 1) := dk_172 (dk_at dksX0_odds_5 0 rfl rfl)
abbrev cX0_landsBy : ByteArray := prog_1_method_57_code
def yX0_landsBy : MethodName := ⟨RX0, "landsBy", "(IIII)I"⟩
def dkwX0_landsBy_4 : List UInt8 := [180, 0, 32, 180, 0, 200, 27, 46, 28, 160, 0, 8, 21, 5, 167, 0, 4, 3, 172]
abbrev dktX0_landsBy_4 : List UInt8 := dkwX0_landsBy_4 ++ []
def dkwX0_landsBy_3 : List UInt8 := [27, 3, 4, 21, 7, 182, 1, 8, 5, 112, 4, 160, 0, 5, 3, 172, 132, 6, 1, 167, 255, 184, 42]
abbrev dktX0_landsBy_3 : List UInt8 := dkwX0_landsBy_3 ++ dktX0_landsBy_4
def dkwX0_landsBy_2 : List UInt8 := [167, 0, 13, 16, 100, 42, 180, 0, 19, 180, 1, 5, 100, 104, 54, 5, 42, 180, 0, 32, 42, 180, 0, 19]
abbrev dktX0_landsBy_2 : List UInt8 := dkwX0_landsBy_2 ++ dktX0_landsBy_3
def dkwX0_landsBy_1 : List UInt8 := [21, 4, 21, 6, 184, 1, 108, 54, 7, 21, 5, 21, 7, 153, 0, 13, 42, 180, 0, 19, 180, 1, 5]
abbrev dktX0_landsBy_1 : List UInt8 := dkwX0_landsBy_1 ++ dktX0_landsBy_2
def dkwX0_landsBy_0 : List UInt8 := [42, 180, 0, 32, 42, 180, 0, 28, 182, 0, 133, 4, 54, 5, 3, 54, 6, 21, 6, 29, 162, 0, 72]
abbrev dktX0_landsBy_0 : List UInt8 := dkwX0_landsBy_0 ++ dktX0_landsBy_1
theorem dksX0_landsBy_0 : cX0_landsBy.data.toList.drop 0 = dktX0_landsBy_0 := by decide +kernel
theorem dksX0_landsBy_1 : cX0_landsBy.data.toList.drop 23 = dktX0_landsBy_1 := dk_seg dksX0_landsBy_0 23 rfl rfl
theorem dksX0_landsBy_2 : cX0_landsBy.data.toList.drop 46 = dktX0_landsBy_2 := dk_seg dksX0_landsBy_1 23 rfl rfl
theorem dksX0_landsBy_3 : cX0_landsBy.data.toList.drop 70 = dktX0_landsBy_3 := dk_seg dksX0_landsBy_2 24 rfl rfl
theorem dksX0_landsBy_4 : cX0_landsBy.data.toList.drop 93 = dktX0_landsBy_4 := dk_seg dksX0_landsBy_3 23 rfl rfl
theorem dX0_landsBy_0 : decode cX0_landsBy 0 = .ok (.aload_n 0, 1) := dk_42 (dk_at dksX0_landsBy_0 0 rfl rfl)
theorem dX0_landsBy_1 : decode cX0_landsBy 1 = .ok (.getfield 32, 3) := dk_180 0 32 (dk_at dksX0_landsBy_0 1 rfl rfl)
theorem dX0_landsBy_4 : decode cX0_landsBy 4 = .ok (.aload_n 0, 1) := dk_42 (dk_at dksX0_landsBy_0 4 rfl rfl)
theorem dX0_landsBy_5 : decode cX0_landsBy 5 = .ok (.getfield 28, 3) := dk_180 0 28 (dk_at dksX0_landsBy_0 5 rfl rfl)
theorem dX0_landsBy_8 : decode cX0_landsBy 8 = .ok (.invokevirtual 133, 3) := dk_182 0 133 (dk_at dksX0_landsBy_0 8 rfl rfl)
theorem dX0_landsBy_11 : decode cX0_landsBy 11 = .ok (.iconst 1, 1) := dk_4 (dk_at dksX0_landsBy_0 11 rfl rfl)
theorem dX0_landsBy_12 : decode cX0_landsBy 12 = .ok (.istore 5, 2) := dk_54 5 (dk_at dksX0_landsBy_0 12 rfl rfl)
theorem dX0_landsBy_14 : decode cX0_landsBy 14 = .ok (.iconst 0, 1) := dk_3 (dk_at dksX0_landsBy_0 14 rfl rfl)
theorem dX0_landsBy_15 : decode cX0_landsBy 15 = .ok (.istore 6, 2) := dk_54 6 (dk_at dksX0_landsBy_0 15 rfl rfl)
theorem dX0_landsBy_17 : decode cX0_landsBy 17 = .ok (.iload 6, 2) := dk_21 6 (dk_at dksX0_landsBy_0 17 rfl rfl)
theorem dX0_landsBy_19 : decode cX0_landsBy 19 = .ok (.iload_n 3, 1) := dk_29 (dk_at dksX0_landsBy_0 19 rfl rfl)
theorem dX0_landsBy_20 : decode cX0_landsBy 20 = .ok (.if_icmp .ge 72, 3) := dk_162 0 72 (dk_at dksX0_landsBy_0 20 rfl rfl)
theorem dX0_landsBy_23 : decode cX0_landsBy 23 = .ok (.iload 4, 2) := dk_21 4 (dk_at dksX0_landsBy_1 0 rfl rfl)
theorem dX0_landsBy_25 : decode cX0_landsBy 25 = .ok (.iload 6, 2) := dk_21 6 (dk_at dksX0_landsBy_1 2 rfl rfl)
theorem dX0_landsBy_27 : decode cX0_landsBy 27 = .ok (.invokestatic 364, 3) := dk_184 1 108 (dk_at dksX0_landsBy_1 4 rfl rfl)
theorem dX0_landsBy_30 : decode cX0_landsBy 30 = .ok (.istore 7, 2) := dk_54 7 (dk_at dksX0_landsBy_1 7 rfl rfl)
theorem dX0_landsBy_32 : decode cX0_landsBy 32 = .ok (.iload 5, 2) := dk_21 5 (dk_at dksX0_landsBy_1 9 rfl rfl)
theorem dX0_landsBy_34 : decode cX0_landsBy 34 = .ok (.iload 7, 2) := dk_21 7 (dk_at dksX0_landsBy_1 11 rfl rfl)
theorem dX0_landsBy_36 : decode cX0_landsBy 36 = .ok (.ifCond .eq 13, 3) := dk_153 0 13 (dk_at dksX0_landsBy_1 13 rfl rfl)
theorem dX0_landsBy_39 : decode cX0_landsBy 39 = .ok (.aload_n 0, 1) := dk_42 (dk_at dksX0_landsBy_1 16 rfl rfl)
theorem dX0_landsBy_40 : decode cX0_landsBy 40 = .ok (.getfield 19, 3) := dk_180 0 19 (dk_at dksX0_landsBy_1 17 rfl rfl)
theorem dX0_landsBy_43 : decode cX0_landsBy 43 = .ok (.getfield 261, 3) := dk_180 1 5 (dk_at dksX0_landsBy_1 20 rfl rfl)
theorem dX0_landsBy_46 : decode cX0_landsBy 46 = .ok (.goto 13, 3) := dk_167 0 13 (dk_at dksX0_landsBy_2 0 rfl rfl)
theorem dX0_landsBy_49 : decode cX0_landsBy 49 = .ok (.bipush 100, 2) := dk_16 100 (dk_at dksX0_landsBy_2 3 rfl rfl)
theorem dX0_landsBy_51 : decode cX0_landsBy 51 = .ok (.aload_n 0, 1) := dk_42 (dk_at dksX0_landsBy_2 5 rfl rfl)
theorem dX0_landsBy_52 : decode cX0_landsBy 52 = .ok (.getfield 19, 3) := dk_180 0 19 (dk_at dksX0_landsBy_2 6 rfl rfl)
theorem dX0_landsBy_55 : decode cX0_landsBy 55 = .ok (.getfield 261, 3) := dk_180 1 5 (dk_at dksX0_landsBy_2 9 rfl rfl)
theorem dX0_landsBy_58 : decode cX0_landsBy 58 = .ok (.isub, 1) := dk_100 (dk_at dksX0_landsBy_2 12 rfl rfl)
theorem dX0_landsBy_59 : decode cX0_landsBy 59 = .ok (.imul, 1) := dk_104 (dk_at dksX0_landsBy_2 13 rfl rfl)
theorem dX0_landsBy_60 : decode cX0_landsBy 60 = .ok (.istore 5, 2) := dk_54 5 (dk_at dksX0_landsBy_2 14 rfl rfl)
theorem dX0_landsBy_62 : decode cX0_landsBy 62 = .ok (.aload_n 0, 1) := dk_42 (dk_at dksX0_landsBy_2 16 rfl rfl)
theorem dX0_landsBy_63 : decode cX0_landsBy 63 = .ok (.getfield 32, 3) := dk_180 0 32 (dk_at dksX0_landsBy_2 17 rfl rfl)
theorem dX0_landsBy_66 : decode cX0_landsBy 66 = .ok (.aload_n 0, 1) := dk_42 (dk_at dksX0_landsBy_2 20 rfl rfl)
theorem dX0_landsBy_67 : decode cX0_landsBy 67 = .ok (.getfield 19, 3) := dk_180 0 19 (dk_at dksX0_landsBy_2 21 rfl rfl)
theorem dX0_landsBy_70 : decode cX0_landsBy 70 = .ok (.iload_n 1, 1) := dk_27 (dk_at dksX0_landsBy_3 0 rfl rfl)
theorem dX0_landsBy_71 : decode cX0_landsBy 71 = .ok (.iconst 0, 1) := dk_3 (dk_at dksX0_landsBy_3 1 rfl rfl)
theorem dX0_landsBy_72 : decode cX0_landsBy 72 = .ok (.iconst 1, 1) := dk_4 (dk_at dksX0_landsBy_3 2 rfl rfl)
theorem dX0_landsBy_73 : decode cX0_landsBy 73 = .ok (.iload 7, 2) := dk_21 7 (dk_at dksX0_landsBy_3 3 rfl rfl)
theorem dX0_landsBy_75 : decode cX0_landsBy 75 = .ok (.invokevirtual 264, 3) := dk_182 1 8 (dk_at dksX0_landsBy_3 5 rfl rfl)
theorem dX0_landsBy_78 : decode cX0_landsBy 78 = .ok (.iconst 2, 1) := dk_5 (dk_at dksX0_landsBy_3 8 rfl rfl)
theorem dX0_landsBy_79 : decode cX0_landsBy 79 = .ok (.irem, 1) := dk_112 (dk_at dksX0_landsBy_3 9 rfl rfl)
theorem dX0_landsBy_80 : decode cX0_landsBy 80 = .ok (.iconst 1, 1) := dk_4 (dk_at dksX0_landsBy_3 10 rfl rfl)
theorem dX0_landsBy_81 : decode cX0_landsBy 81 = .ok (.if_icmp .ne 5, 3) := dk_160 0 5 (dk_at dksX0_landsBy_3 11 rfl rfl)
theorem dX0_landsBy_84 : decode cX0_landsBy 84 = .ok (.iconst 0, 1) := dk_3 (dk_at dksX0_landsBy_3 14 rfl rfl)
theorem dX0_landsBy_85 : decode cX0_landsBy 85 = .ok (.ireturn, 1) := dk_172 (dk_at dksX0_landsBy_3 15 rfl rfl)
theorem dX0_landsBy_86 : decode cX0_landsBy 86 = .ok (.iinc 6 1, 3) := dk_132 6 1 (dk_at dksX0_landsBy_3 16 rfl rfl)
theorem dX0_landsBy_89 : decode cX0_landsBy 89 = .ok (.goto (-72), 3) := dk_167 255 184 (dk_at dksX0_landsBy_3 19 rfl rfl)
theorem dX0_landsBy_92 : decode cX0_landsBy 92 = .ok (.aload_n 0, 1) := dk_42 (dk_at dksX0_landsBy_3 22 rfl rfl)
theorem dX0_landsBy_93 : decode cX0_landsBy 93 = .ok (.getfield 32, 3) := dk_180 0 32 (dk_at dksX0_landsBy_4 0 rfl rfl)
theorem dX0_landsBy_96 : decode cX0_landsBy 96 = .ok (.getfield 200, 3) := dk_180 0 200 (dk_at dksX0_landsBy_4 3 rfl rfl)
theorem dX0_landsBy_99 : decode cX0_landsBy 99 = .ok (.iload_n 1, 1) := dk_27 (dk_at dksX0_landsBy_4 6 rfl rfl)
theorem dX0_landsBy_100 : decode cX0_landsBy 100 = .ok (.iaload, 1) := dk_46 (dk_at dksX0_landsBy_4 7 rfl rfl)
theorem dX0_landsBy_101 : decode cX0_landsBy 101 = .ok (.iload_n 2, 1) := dk_28 (dk_at dksX0_landsBy_4 8 rfl rfl)
theorem dX0_landsBy_102 : decode cX0_landsBy 102 = .ok (.if_icmp .ne 8, 3) := dk_160 0 8 (dk_at dksX0_landsBy_4 9 rfl rfl)
theorem dX0_landsBy_105 : decode cX0_landsBy 105 = .ok (.iload 5, 2) := dk_21 5 (dk_at dksX0_landsBy_4 12 rfl rfl)
theorem dX0_landsBy_107 : decode cX0_landsBy 107 = .ok (.goto 4, 3) := dk_167 0 4 (dk_at dksX0_landsBy_4 14 rfl rfl)
theorem dX0_landsBy_110 : decode cX0_landsBy 110 = .ok (.iconst 0, 1) := dk_3 (dk_at dksX0_landsBy_4 17 rfl rfl)
theorem dX0_landsBy_111 : decode cX0_landsBy 111 = .ok (.ireturn, 1) := dk_172 (dk_at dksX0_landsBy_4 18 rfl rfl)
abbrev cX0_common : ByteArray := prog_1_method_56_code
def yX0_common : MethodName := ⟨RX0, "common", "(II)I"⟩
def dkwX0_common_0 : List UInt8 := [27, 154, 0, 7, 26, 167, 0, 10, 27, 26, 27, 112, 184, 1, 122, 172]
abbrev dktX0_common_0 : List UInt8 := dkwX0_common_0 ++ []
theorem dksX0_common_0 : cX0_common.data.toList.drop 0 = dktX0_common_0 := by decide +kernel
theorem dX0_common_0 : decode cX0_common 0 = .ok (.iload_n 1, 1) := dk_27 (dk_at dksX0_common_0 0 rfl rfl)
theorem dX0_common_1 : decode cX0_common 1 = .ok (.ifCond .ne 7, 3) := dk_154 0 7 (dk_at dksX0_common_0 1 rfl rfl)
theorem dX0_common_4 : decode cX0_common 4 = .ok (.iload_n 0, 1) := dk_26 (dk_at dksX0_common_0 4 rfl rfl)
theorem dX0_common_5 : decode cX0_common 5 = .ok (.goto 10, 3) := dk_167 0 10 (dk_at dksX0_common_0 5 rfl rfl)
theorem dX0_common_8 : decode cX0_common 8 = .ok (.iload_n 1, 1) := dk_27 (dk_at dksX0_common_0 8 rfl rfl)
theorem dX0_common_9 : decode cX0_common 9 = .ok (.iload_n 0, 1) := dk_26 (dk_at dksX0_common_0 9 rfl rfl)
theorem dX0_common_10 : decode cX0_common 10 = .ok (.iload_n 1, 1) := dk_27 (dk_at dksX0_common_0 10 rfl rfl)
theorem dX0_common_11 : decode cX0_common 11 = .ok (.irem, 1) := dk_112 (dk_at dksX0_common_0 11 rfl rfl)
theorem dX0_common_12 : decode cX0_common 12 = .ok (.invokestatic 378, 3) := dk_184 1 122 (dk_at dksX0_common_0 12 rfl rfl)
theorem dX0_common_15 : decode cX0_common 15 = .ok (.ireturn, 1) := dk_172 (dk_at dksX0_common_0 15 rfl rfl)
abbrev cX0_over : ByteArray := prog_1_method_59_code
def yX0_over : MethodName := ⟨RX0, "ove\x72", "()I"⟩
def dkwX0_over_0 : List UInt8 := [42, 180, 0, 28, 42, 180, 0, 19, 16, 254, 182, 0, 225, 172]
abbrev dktX0_over_0 : List UInt8 := dkwX0_over_0 ++ []
theorem dksX0_over_0 : cX0_over.data.toList.drop 0 = dktX0_over_0 := by decide +kernel
theorem dX0_over_0 : decode cX0_over 0 = .ok (.aload_n 0, 1) := dk_42 (dk_at dksX0_over_0 0 rfl rfl)
theorem dX0_over_1 : decode cX0_over 1 = .ok (.getfield 28, 3) := dk_180 0 28 (dk_at dksX0_over_0 1 rfl rfl)
theorem dX0_over_4 : decode cX0_over 4 = .ok (.aload_n 0, 1) := dk_42 (dk_at dksX0_over_0 4 rfl rfl)
theorem dX0_over_5 : decode cX0_over 5 = .ok (.getfield 19, 3) := dk_180 0 19 (dk_at dksX0_over_0 5 rfl rfl)
theorem dX0_over_8 : decode cX0_over 8 = .ok (.bipush (-2), 2) := dk_16 254 (dk_at dksX0_over_0 8 rfl rfl)
theorem dX0_over_10 : decode cX0_over 10 = .ok (.invokevirtual 225, 3) := dk_182 0 225 (dk_at dksX0_over_0 10 rfl rfl)
theorem dX0_over_13 : decode cX0_over 13 = .ok (.ireturn, 1) := dk_172 (dk_at dksX0_over_0 13 rfl rfl)
abbrev cX0_left : ByteArray := prog_1_method_60_code
def yX0_left : MethodName := ⟨RX0, "left", "()I"⟩
def dkwX0_left_0 : List UInt8 := [42, 180, 0, 19, 4, 42, 182, 0, 164, 120, 4, 100, 42, 182, 1, 129, 2, 130, 126, 182, 1, 68, 172]
abbrev dktX0_left_0 : List UInt8 := dkwX0_left_0 ++ []
theorem dksX0_left_0 : cX0_left.data.toList.drop 0 = dktX0_left_0 := by decide +kernel
theorem dX0_left_0 : decode cX0_left 0 = .ok (.aload_n 0, 1) := dk_42 (dk_at dksX0_left_0 0 rfl rfl)
theorem dX0_left_1 : decode cX0_left 1 = .ok (.getfield 19, 3) := dk_180 0 19 (dk_at dksX0_left_0 1 rfl rfl)
theorem dX0_left_4 : decode cX0_left 4 = .ok (.iconst 1, 1) := dk_4 (dk_at dksX0_left_0 4 rfl rfl)
theorem dX0_left_5 : decode cX0_left 5 = .ok (.aload_n 0, 1) := dk_42 (dk_at dksX0_left_0 5 rfl rfl)
theorem dX0_left_6 : decode cX0_left 6 = .ok (.invokevirtual 164, 3) := dk_182 0 164 (dk_at dksX0_left_0 6 rfl rfl)
theorem dX0_left_9 : decode cX0_left 9 = .ok (.ishl, 1) := dk_120 (dk_at dksX0_left_0 9 rfl rfl)
theorem dX0_left_10 : decode cX0_left 10 = .ok (.iconst 1, 1) := dk_4 (dk_at dksX0_left_0 10 rfl rfl)
theorem dX0_left_11 : decode cX0_left 11 = .ok (.isub, 1) := dk_100 (dk_at dksX0_left_0 11 rfl rfl)
theorem dX0_left_12 : decode cX0_left 12 = .ok (.aload_n 0, 1) := dk_42 (dk_at dksX0_left_0 12 rfl rfl)
theorem dX0_left_13 : decode cX0_left 13 = .ok (.invokevirtual 385, 3) := dk_182 1 129 (dk_at dksX0_left_0 13 rfl rfl)
theorem dX0_left_16 : decode cX0_left 16 = .ok (.iconst (-1), 1) := dk_2 (dk_at dksX0_left_0 16 rfl rfl)
theorem dX0_left_17 : decode cX0_left 17 = .ok (.ixor, 1) := dk_130 (dk_at dksX0_left_0 17 rfl rfl)
theorem dX0_left_18 : decode cX0_left 18 = .ok (.iand, 1) := dk_126 (dk_at dksX0_left_0 18 rfl rfl)
theorem dX0_left_19 : decode cX0_left 19 = .ok (.invokevirtual 324, 3) := dk_182 1 68 (dk_at dksX0_left_0 19 rfl rfl)
theorem dX0_left_22 : decode cX0_left 22 = .ok (.ireturn, 1) := dk_172 (dk_at dksX0_left_0 22 rfl rfl)
abbrev cX0_pulled : ByteArray := prog_1_method_61_code
def yX0_pulled : MethodName := ⟨RX0, "pulled", "()I"⟩
def dkwX0_pulled_2 : List UInt8 := [27, 4, 28, 120, 128, 60, 132, 2, 1, 167, 255, 203, 27, 172]
abbrev dktX0_pulled_2 : List UInt8 := dkwX0_pulled_2 ++ []
def dkwX0_pulled_1 : List UInt8 := [180, 0, 28, 180, 0, 200, 28, 46, 42, 180, 0, 28, 180, 0, 203, 28, 46, 182, 0, 245, 46, 158, 0, 9]
abbrev dktX0_pulled_1 : List UInt8 := dkwX0_pulled_1 ++ dktX0_pulled_2
def dkwX0_pulled_0 : List UInt8 := [3, 60, 3, 61, 28, 42, 182, 0, 158, 162, 0, 51, 42, 180, 0, 19, 180, 0, 242, 42, 180, 0, 19, 42]
abbrev dktX0_pulled_0 : List UInt8 := dkwX0_pulled_0 ++ dktX0_pulled_1
theorem dksX0_pulled_0 : cX0_pulled.data.toList.drop 0 = dktX0_pulled_0 := by decide +kernel
theorem dksX0_pulled_1 : cX0_pulled.data.toList.drop 24 = dktX0_pulled_1 := dk_seg dksX0_pulled_0 24 rfl rfl
theorem dksX0_pulled_2 : cX0_pulled.data.toList.drop 48 = dktX0_pulled_2 := dk_seg dksX0_pulled_1 24 rfl rfl
theorem dX0_pulled_0 : decode cX0_pulled 0 = .ok (.iconst 0, 1) := dk_3 (dk_at dksX0_pulled_0 0 rfl rfl)
theorem dX0_pulled_1 : decode cX0_pulled 1 = .ok (.istore_n 1, 1) := dk_60 (dk_at dksX0_pulled_0 1 rfl rfl)
theorem dX0_pulled_2 : decode cX0_pulled 2 = .ok (.iconst 0, 1) := dk_3 (dk_at dksX0_pulled_0 2 rfl rfl)
theorem dX0_pulled_3 : decode cX0_pulled 3 = .ok (.istore_n 2, 1) := dk_61 (dk_at dksX0_pulled_0 3 rfl rfl)
theorem dX0_pulled_4 : decode cX0_pulled 4 = .ok (.iload_n 2, 1) := dk_28 (dk_at dksX0_pulled_0 4 rfl rfl)
theorem dX0_pulled_5 : decode cX0_pulled 5 = .ok (.aload_n 0, 1) := dk_42 (dk_at dksX0_pulled_0 5 rfl rfl)
theorem dX0_pulled_6 : decode cX0_pulled 6 = .ok (.invokevirtual 158, 3) := dk_182 0 158 (dk_at dksX0_pulled_0 6 rfl rfl)
theorem dX0_pulled_9 : decode cX0_pulled 9 = .ok (.if_icmp .ge 51, 3) := dk_162 0 51 (dk_at dksX0_pulled_0 9 rfl rfl)
theorem dX0_pulled_12 : decode cX0_pulled 12 = .ok (.aload_n 0, 1) := dk_42 (dk_at dksX0_pulled_0 12 rfl rfl)
theorem dX0_pulled_13 : decode cX0_pulled 13 = .ok (.getfield 19, 3) := dk_180 0 19 (dk_at dksX0_pulled_0 13 rfl rfl)
theorem dX0_pulled_16 : decode cX0_pulled 16 = .ok (.getfield 242, 3) := dk_180 0 242 (dk_at dksX0_pulled_0 16 rfl rfl)
theorem dX0_pulled_19 : decode cX0_pulled 19 = .ok (.aload_n 0, 1) := dk_42 (dk_at dksX0_pulled_0 19 rfl rfl)
theorem dX0_pulled_20 : decode cX0_pulled 20 = .ok (.getfield 19, 3) := dk_180 0 19 (dk_at dksX0_pulled_0 20 rfl rfl)
theorem dX0_pulled_23 : decode cX0_pulled 23 = .ok (.aload_n 0, 1) := dk_42 (dk_at dksX0_pulled_0 23 rfl rfl)
theorem dX0_pulled_24 : decode cX0_pulled 24 = .ok (.getfield 28, 3) := dk_180 0 28 (dk_at dksX0_pulled_1 0 rfl rfl)
theorem dX0_pulled_27 : decode cX0_pulled 27 = .ok (.getfield 200, 3) := dk_180 0 200 (dk_at dksX0_pulled_1 3 rfl rfl)
theorem dX0_pulled_30 : decode cX0_pulled 30 = .ok (.iload_n 2, 1) := dk_28 (dk_at dksX0_pulled_1 6 rfl rfl)
theorem dX0_pulled_31 : decode cX0_pulled 31 = .ok (.iaload, 1) := dk_46 (dk_at dksX0_pulled_1 7 rfl rfl)
theorem dX0_pulled_32 : decode cX0_pulled 32 = .ok (.aload_n 0, 1) := dk_42 (dk_at dksX0_pulled_1 8 rfl rfl)
theorem dX0_pulled_33 : decode cX0_pulled 33 = .ok (.getfield 28, 3) := dk_180 0 28 (dk_at dksX0_pulled_1 9 rfl rfl)
theorem dX0_pulled_36 : decode cX0_pulled 36 = .ok (.getfield 203, 3) := dk_180 0 203 (dk_at dksX0_pulled_1 12 rfl rfl)
theorem dX0_pulled_39 : decode cX0_pulled 39 = .ok (.iload_n 2, 1) := dk_28 (dk_at dksX0_pulled_1 15 rfl rfl)
theorem dX0_pulled_40 : decode cX0_pulled 40 = .ok (.iaload, 1) := dk_46 (dk_at dksX0_pulled_1 16 rfl rfl)
theorem dX0_pulled_41 : decode cX0_pulled 41 = .ok (.invokevirtual 245, 3) := dk_182 0 245 (dk_at dksX0_pulled_1 17 rfl rfl)
theorem dX0_pulled_44 : decode cX0_pulled 44 = .ok (.iaload, 1) := dk_46 (dk_at dksX0_pulled_1 20 rfl rfl)
theorem dX0_pulled_45 : decode cX0_pulled 45 = .ok (.ifCond .le 9, 3) := dk_158 0 9 (dk_at dksX0_pulled_1 21 rfl rfl)
theorem dX0_pulled_48 : decode cX0_pulled 48 = .ok (.iload_n 1, 1) := dk_27 (dk_at dksX0_pulled_2 0 rfl rfl)
theorem dX0_pulled_49 : decode cX0_pulled 49 = .ok (.iconst 1, 1) := dk_4 (dk_at dksX0_pulled_2 1 rfl rfl)
theorem dX0_pulled_50 : decode cX0_pulled 50 = .ok (.iload_n 2, 1) := dk_28 (dk_at dksX0_pulled_2 2 rfl rfl)
theorem dX0_pulled_51 : decode cX0_pulled 51 = .ok (.ishl, 1) := dk_120 (dk_at dksX0_pulled_2 3 rfl rfl)
theorem dX0_pulled_52 : decode cX0_pulled 52 = .ok (.ior, 1) := dk_128 (dk_at dksX0_pulled_2 4 rfl rfl)
theorem dX0_pulled_53 : decode cX0_pulled 53 = .ok (.istore_n 1, 1) := dk_60 (dk_at dksX0_pulled_2 5 rfl rfl)
theorem dX0_pulled_54 : decode cX0_pulled 54 = .ok (.iinc 2 1, 3) := dk_132 2 1 (dk_at dksX0_pulled_2 6 rfl rfl)
theorem dX0_pulled_57 : decode cX0_pulled 57 = .ok (.goto (-53), 3) := dk_167 255 203 (dk_at dksX0_pulled_2 9 rfl rfl)
theorem dX0_pulled_60 : decode cX0_pulled 60 = .ok (.iload_n 1, 1) := dk_27 (dk_at dksX0_pulled_2 12 rfl rfl)
theorem dX0_pulled_61 : decode cX0_pulled 61 = .ok (.ireturn, 1) := dk_172 (dk_at dksX0_pulled_2 13 rfl rfl)
abbrev cX0_hottest : ByteArray := prog_1_method_63_code
def yX0_hottest : MethodName := ⟨RX0, "hottest", "()I"⟩
def dkwX0_hottest_1 : List UInt8 := [182, 1, 132, 162, 0, 5, 28, 60, 132, 2, 1, 167, 255, 226, 27, 172]
abbrev dktX0_hottest_1 : List UInt8 := dkwX0_hottest_1 ++ []
def dkwX0_hottest_0 : List UInt8 := [2, 60, 3, 61, 28, 42, 182, 0, 158, 162, 0, 28, 27, 155, 0, 16, 42, 28, 182, 1, 132, 42, 27]
abbrev dktX0_hottest_0 : List UInt8 := dkwX0_hottest_0 ++ dktX0_hottest_1
theorem dksX0_hottest_0 : cX0_hottest.data.toList.drop 0 = dktX0_hottest_0 := by decide +kernel
theorem dksX0_hottest_1 : cX0_hottest.data.toList.drop 23 = dktX0_hottest_1 := dk_seg dksX0_hottest_0 23 rfl rfl
theorem dX0_hottest_0 : decode cX0_hottest 0 = .ok (.iconst (-1), 1) := dk_2 (dk_at dksX0_hottest_0 0 rfl rfl)
theorem dX0_hottest_1 : decode cX0_hottest 1 = .ok (.istore_n 1, 1) := dk_60 (dk_at dksX0_hottest_0 1 rfl rfl)
theorem dX0_hottest_2 : decode cX0_hottest 2 = .ok (.iconst 0, 1) := dk_3 (dk_at dksX0_hottest_0 2 rfl rfl)
theorem dX0_hottest_3 : decode cX0_hottest 3 = .ok (.istore_n 2, 1) := dk_61 (dk_at dksX0_hottest_0 3 rfl rfl)
theorem dX0_hottest_4 : decode cX0_hottest 4 = .ok (.iload_n 2, 1) := dk_28 (dk_at dksX0_hottest_0 4 rfl rfl)
theorem dX0_hottest_5 : decode cX0_hottest 5 = .ok (.aload_n 0, 1) := dk_42 (dk_at dksX0_hottest_0 5 rfl rfl)
theorem dX0_hottest_6 : decode cX0_hottest 6 = .ok (.invokevirtual 158, 3) := dk_182 0 158 (dk_at dksX0_hottest_0 6 rfl rfl)
theorem dX0_hottest_9 : decode cX0_hottest 9 = .ok (.if_icmp .ge 28, 3) := dk_162 0 28 (dk_at dksX0_hottest_0 9 rfl rfl)
theorem dX0_hottest_12 : decode cX0_hottest 12 = .ok (.iload_n 1, 1) := dk_27 (dk_at dksX0_hottest_0 12 rfl rfl)
theorem dX0_hottest_13 : decode cX0_hottest 13 = .ok (.ifCond .lt 16, 3) := dk_155 0 16 (dk_at dksX0_hottest_0 13 rfl rfl)
theorem dX0_hottest_16 : decode cX0_hottest 16 = .ok (.aload_n 0, 1) := dk_42 (dk_at dksX0_hottest_0 16 rfl rfl)
theorem dX0_hottest_17 : decode cX0_hottest 17 = .ok (.iload_n 2, 1) := dk_28 (dk_at dksX0_hottest_0 17 rfl rfl)
theorem dX0_hottest_18 : decode cX0_hottest 18 = .ok (.invokevirtual 388, 3) := dk_182 1 132 (dk_at dksX0_hottest_0 18 rfl rfl)
theorem dX0_hottest_21 : decode cX0_hottest 21 = .ok (.aload_n 0, 1) := dk_42 (dk_at dksX0_hottest_0 21 rfl rfl)
theorem dX0_hottest_22 : decode cX0_hottest 22 = .ok (.iload_n 1, 1) := dk_27 (dk_at dksX0_hottest_0 22 rfl rfl)
theorem dX0_hottest_23 : decode cX0_hottest 23 = .ok (.invokevirtual 388, 3) := dk_182 1 132 (dk_at dksX0_hottest_1 0 rfl rfl)
theorem dX0_hottest_26 : decode cX0_hottest 26 = .ok (.if_icmp .ge 5, 3) := dk_162 0 5 (dk_at dksX0_hottest_1 3 rfl rfl)
theorem dX0_hottest_29 : decode cX0_hottest 29 = .ok (.iload_n 2, 1) := dk_28 (dk_at dksX0_hottest_1 6 rfl rfl)
theorem dX0_hottest_30 : decode cX0_hottest 30 = .ok (.istore_n 1, 1) := dk_60 (dk_at dksX0_hottest_1 7 rfl rfl)
theorem dX0_hottest_31 : decode cX0_hottest 31 = .ok (.iinc 2 1, 3) := dk_132 2 1 (dk_at dksX0_hottest_1 8 rfl rfl)
theorem dX0_hottest_34 : decode cX0_hottest 34 = .ok (.goto (-30), 3) := dk_167 255 226 (dk_at dksX0_hottest_1 11 rfl rfl)
theorem dX0_hottest_37 : decode cX0_hottest 37 = .ok (.iload_n 1, 1) := dk_27 (dk_at dksX0_hottest_1 14 rfl rfl)
theorem dX0_hottest_38 : decode cX0_hottest 38 = .ok (.ireturn, 1) := dk_172 (dk_at dksX0_hottest_1 15 rfl rfl)
abbrev cX0_bearsYet : ByteArray := prog_1_method_62_code
def yX0_bearsYet : MethodName := ⟨RX0, "bearsYet", "(I)I"⟩
def dkwX0_bearsYet_1 : List UInt8 := [27, 46, 100, 172]
abbrev dktX0_bearsYet_1 : List UInt8 := dkwX0_bearsYet_1 ++ []
def dkwX0_bearsYet_0 : List UInt8 := [42, 180, 0, 19, 180, 0, 152, 27, 182, 0, 195, 192, 0, 198, 180, 0, 218, 42, 180, 0, 28, 180, 0, 206]
abbrev dktX0_bearsYet_0 : List UInt8 := dkwX0_bearsYet_0 ++ dktX0_bearsYet_1
theorem dksX0_bearsYet_0 : cX0_bearsYet.data.toList.drop 0 = dktX0_bearsYet_0 := by decide +kernel
theorem dksX0_bearsYet_1 : cX0_bearsYet.data.toList.drop 24 = dktX0_bearsYet_1 := dk_seg dksX0_bearsYet_0 24 rfl rfl
theorem dX0_bearsYet_0 : decode cX0_bearsYet 0 = .ok (.aload_n 0, 1) := dk_42 (dk_at dksX0_bearsYet_0 0 rfl rfl)
theorem dX0_bearsYet_1 : decode cX0_bearsYet 1 = .ok (.getfield 19, 3) := dk_180 0 19 (dk_at dksX0_bearsYet_0 1 rfl rfl)
theorem dX0_bearsYet_4 : decode cX0_bearsYet 4 = .ok (.getfield 152, 3) := dk_180 0 152 (dk_at dksX0_bearsYet_0 4 rfl rfl)
theorem dX0_bearsYet_7 : decode cX0_bearsYet 7 = .ok (.iload_n 1, 1) := dk_27 (dk_at dksX0_bearsYet_0 7 rfl rfl)
theorem dX0_bearsYet_8 : decode cX0_bearsYet 8 = .ok (.invokevirtual 195, 3) := dk_182 0 195 (dk_at dksX0_bearsYet_0 8 rfl rfl)
theorem dX0_bearsYet_11 : decode cX0_bearsYet 11 = .ok (.checkcast 198, 3) := dk_192 0 198 (dk_at dksX0_bearsYet_0 11 rfl rfl)
theorem dX0_bearsYet_14 : decode cX0_bearsYet 14 = .ok (.getfield 218, 3) := dk_180 0 218 (dk_at dksX0_bearsYet_0 14 rfl rfl)
theorem dX0_bearsYet_17 : decode cX0_bearsYet 17 = .ok (.aload_n 0, 1) := dk_42 (dk_at dksX0_bearsYet_0 17 rfl rfl)
theorem dX0_bearsYet_18 : decode cX0_bearsYet 18 = .ok (.getfield 28, 3) := dk_180 0 28 (dk_at dksX0_bearsYet_0 18 rfl rfl)
theorem dX0_bearsYet_21 : decode cX0_bearsYet 21 = .ok (.getfield 206, 3) := dk_180 0 206 (dk_at dksX0_bearsYet_0 21 rfl rfl)
theorem dX0_bearsYet_24 : decode cX0_bearsYet 24 = .ok (.iload_n 1, 1) := dk_27 (dk_at dksX0_bearsYet_1 0 rfl rfl)
theorem dX0_bearsYet_25 : decode cX0_bearsYet 25 = .ok (.iaload, 1) := dk_46 (dk_at dksX0_bearsYet_1 1 rfl rfl)
theorem dX0_bearsYet_26 : decode cX0_bearsYet 26 = .ok (.isub, 1) := dk_100 (dk_at dksX0_bearsYet_1 2 rfl rfl)
theorem dX0_bearsYet_27 : decode cX0_bearsYet 27 = .ok (.ireturn, 1) := dk_172 (dk_at dksX0_bearsYet_1 3 rfl rfl)
abbrev cX0_law : ByteArray := prog_1_method_64_code
def yX0_law : MethodName := ⟨RX0, "law", "(I)I"⟩
def dkwX0_law_2 : List UInt8 := [192, 0, 231, 180, 0, 233, 27, 163, 0, 6, 132, 2, 1, 132, 3, 1, 167, 255, 208, 28, 172]
abbrev dktX0_law_2 : List UInt8 := dkwX0_law_2 ++ []
def dkwX0_law_1 : List UInt8 := [42, 180, 0, 28, 180, 0, 234, 29, 46, 2, 160, 0, 27, 42, 180, 0, 19, 180, 0, 155, 29, 182, 0, 195]
abbrev dktX0_law_1 : List UInt8 := dkwX0_law_1 ++ dktX0_law_2
def dkwX0_law_0 : List UInt8 := [27, 3, 16, 99, 184, 0, 160, 154, 0, 5, 2, 172, 3, 61, 3, 62, 29, 42, 182, 0, 164, 162, 0, 46]
abbrev dktX0_law_0 : List UInt8 := dkwX0_law_0 ++ dktX0_law_1
theorem dksX0_law_0 : cX0_law.data.toList.drop 0 = dktX0_law_0 := by decide +kernel
theorem dksX0_law_1 : cX0_law.data.toList.drop 24 = dktX0_law_1 := dk_seg dksX0_law_0 24 rfl rfl
theorem dksX0_law_2 : cX0_law.data.toList.drop 48 = dktX0_law_2 := dk_seg dksX0_law_1 24 rfl rfl
theorem dX0_law_0 : decode cX0_law 0 = .ok (.iload_n 1, 1) := dk_27 (dk_at dksX0_law_0 0 rfl rfl)
theorem dX0_law_1 : decode cX0_law 1 = .ok (.iconst 0, 1) := dk_3 (dk_at dksX0_law_0 1 rfl rfl)
theorem dX0_law_2 : decode cX0_law 2 = .ok (.bipush 99, 2) := dk_16 99 (dk_at dksX0_law_0 2 rfl rfl)
theorem dX0_law_4 : decode cX0_law 4 = .ok (.invokestatic 160, 3) := dk_184 0 160 (dk_at dksX0_law_0 4 rfl rfl)
theorem dX0_law_7 : decode cX0_law 7 = .ok (.ifCond .ne 5, 3) := dk_154 0 5 (dk_at dksX0_law_0 7 rfl rfl)
theorem dX0_law_10 : decode cX0_law 10 = .ok (.iconst (-1), 1) := dk_2 (dk_at dksX0_law_0 10 rfl rfl)
theorem dX0_law_11 : decode cX0_law 11 = .ok (.ireturn, 1) := dk_172 (dk_at dksX0_law_0 11 rfl rfl)
theorem dX0_law_12 : decode cX0_law 12 = .ok (.iconst 0, 1) := dk_3 (dk_at dksX0_law_0 12 rfl rfl)
theorem dX0_law_13 : decode cX0_law 13 = .ok (.istore_n 2, 1) := dk_61 (dk_at dksX0_law_0 13 rfl rfl)
theorem dX0_law_14 : decode cX0_law 14 = .ok (.iconst 0, 1) := dk_3 (dk_at dksX0_law_0 14 rfl rfl)
theorem dX0_law_15 : decode cX0_law 15 = .ok (.istore_n 3, 1) := dk_62 (dk_at dksX0_law_0 15 rfl rfl)
theorem dX0_law_16 : decode cX0_law 16 = .ok (.iload_n 3, 1) := dk_29 (dk_at dksX0_law_0 16 rfl rfl)
theorem dX0_law_17 : decode cX0_law 17 = .ok (.aload_n 0, 1) := dk_42 (dk_at dksX0_law_0 17 rfl rfl)
theorem dX0_law_18 : decode cX0_law 18 = .ok (.invokevirtual 164, 3) := dk_182 0 164 (dk_at dksX0_law_0 18 rfl rfl)
theorem dX0_law_21 : decode cX0_law 21 = .ok (.if_icmp .ge 46, 3) := dk_162 0 46 (dk_at dksX0_law_0 21 rfl rfl)
theorem dX0_law_24 : decode cX0_law 24 = .ok (.aload_n 0, 1) := dk_42 (dk_at dksX0_law_1 0 rfl rfl)
theorem dX0_law_25 : decode cX0_law 25 = .ok (.getfield 28, 3) := dk_180 0 28 (dk_at dksX0_law_1 1 rfl rfl)
theorem dX0_law_28 : decode cX0_law 28 = .ok (.getfield 234, 3) := dk_180 0 234 (dk_at dksX0_law_1 4 rfl rfl)
theorem dX0_law_31 : decode cX0_law 31 = .ok (.iload_n 3, 1) := dk_29 (dk_at dksX0_law_1 7 rfl rfl)
theorem dX0_law_32 : decode cX0_law 32 = .ok (.iaload, 1) := dk_46 (dk_at dksX0_law_1 8 rfl rfl)
theorem dX0_law_33 : decode cX0_law 33 = .ok (.iconst (-1), 1) := dk_2 (dk_at dksX0_law_1 9 rfl rfl)
theorem dX0_law_34 : decode cX0_law 34 = .ok (.if_icmp .ne 27, 3) := dk_160 0 27 (dk_at dksX0_law_1 10 rfl rfl)
theorem dX0_law_37 : decode cX0_law 37 = .ok (.aload_n 0, 1) := dk_42 (dk_at dksX0_law_1 13 rfl rfl)
theorem dX0_law_38 : decode cX0_law 38 = .ok (.getfield 19, 3) := dk_180 0 19 (dk_at dksX0_law_1 14 rfl rfl)
theorem dX0_law_41 : decode cX0_law 41 = .ok (.getfield 155, 3) := dk_180 0 155 (dk_at dksX0_law_1 17 rfl rfl)
theorem dX0_law_44 : decode cX0_law 44 = .ok (.iload_n 3, 1) := dk_29 (dk_at dksX0_law_1 20 rfl rfl)
theorem dX0_law_45 : decode cX0_law 45 = .ok (.invokevirtual 195, 3) := dk_182 0 195 (dk_at dksX0_law_1 21 rfl rfl)
theorem dX0_law_48 : decode cX0_law 48 = .ok (.checkcast 231, 3) := dk_192 0 231 (dk_at dksX0_law_2 0 rfl rfl)
theorem dX0_law_51 : decode cX0_law 51 = .ok (.getfield 233, 3) := dk_180 0 233 (dk_at dksX0_law_2 3 rfl rfl)
theorem dX0_law_54 : decode cX0_law 54 = .ok (.iload_n 1, 1) := dk_27 (dk_at dksX0_law_2 6 rfl rfl)
theorem dX0_law_55 : decode cX0_law 55 = .ok (.if_icmp .gt 6, 3) := dk_163 0 6 (dk_at dksX0_law_2 7 rfl rfl)
theorem dX0_law_58 : decode cX0_law 58 = .ok (.iinc 2 1, 3) := dk_132 2 1 (dk_at dksX0_law_2 10 rfl rfl)
theorem dX0_law_61 : decode cX0_law 61 = .ok (.iinc 3 1, 3) := dk_132 3 1 (dk_at dksX0_law_2 13 rfl rfl)
theorem dX0_law_64 : decode cX0_law 64 = .ok (.goto (-48), 3) := dk_167 255 208 (dk_at dksX0_law_2 16 rfl rfl)
theorem dX0_law_67 : decode cX0_law 67 = .ok (.iload_n 2, 1) := dk_28 (dk_at dksX0_law_2 19 rfl rfl)
theorem dX0_law_68 : decode cX0_law 68 = .ok (.ireturn, 1) := dk_172 (dk_at dksX0_law_2 20 rfl rfl)
abbrev cX0_passed : ByteArray := prog_1_method_66_code
def yX0_passed : MethodName := ⟨RX0, "passed", "(IIZ)I"⟩
def dkwX0_passed_0 : List UInt8 := [28, 3, 16, 7, 184, 0, 160, 153, 0, 14, 42, 27, 28, 3, 29, 182, 1, 143, 167, 0, 4, 2, 172]
abbrev dktX0_passed_0 : List UInt8 := dkwX0_passed_0 ++ []
theorem dksX0_passed_0 : cX0_passed.data.toList.drop 0 = dktX0_passed_0 := by decide +kernel
theorem dX0_passed_0 : decode cX0_passed 0 = .ok (.iload_n 2, 1) := dk_28 (dk_at dksX0_passed_0 0 rfl rfl)
theorem dX0_passed_1 : decode cX0_passed 1 = .ok (.iconst 0, 1) := dk_3 (dk_at dksX0_passed_0 1 rfl rfl)
theorem dX0_passed_2 : decode cX0_passed 2 = .ok (.bipush 7, 2) := dk_16 7 (dk_at dksX0_passed_0 2 rfl rfl)
theorem dX0_passed_4 : decode cX0_passed 4 = .ok (.invokestatic 160, 3) := dk_184 0 160 (dk_at dksX0_passed_0 4 rfl rfl)
theorem dX0_passed_7 : decode cX0_passed 7 = .ok (.ifCond .eq 14, 3) := dk_153 0 14 (dk_at dksX0_passed_0 7 rfl rfl)
theorem dX0_passed_10 : decode cX0_passed 10 = .ok (.aload_n 0, 1) := dk_42 (dk_at dksX0_passed_0 10 rfl rfl)
theorem dX0_passed_11 : decode cX0_passed 11 = .ok (.iload_n 1, 1) := dk_27 (dk_at dksX0_passed_0 11 rfl rfl)
theorem dX0_passed_12 : decode cX0_passed 12 = .ok (.iload_n 2, 1) := dk_28 (dk_at dksX0_passed_0 12 rfl rfl)
theorem dX0_passed_13 : decode cX0_passed 13 = .ok (.iconst 0, 1) := dk_3 (dk_at dksX0_passed_0 13 rfl rfl)
theorem dX0_passed_14 : decode cX0_passed 14 = .ok (.iload_n 3, 1) := dk_29 (dk_at dksX0_passed_0 14 rfl rfl)
theorem dX0_passed_15 : decode cX0_passed 15 = .ok (.invokevirtual 399, 3) := dk_182 1 143 (dk_at dksX0_passed_0 15 rfl rfl)
theorem dX0_passed_18 : decode cX0_passed 18 = .ok (.goto 4, 3) := dk_167 0 4 (dk_at dksX0_passed_0 18 rfl rfl)
theorem dX0_passed_21 : decode cX0_passed 21 = .ok (.iconst (-1), 1) := dk_2 (dk_at dksX0_passed_0 21 rfl rfl)
theorem dX0_passed_22 : decode cX0_passed 22 = .ok (.ireturn, 1) := dk_172 (dk_at dksX0_passed_0 22 rfl rfl)
abbrev cX0_see : ByteArray := prog_1_method_65_code
def yX0_see : MethodName := ⟨RX0, "see", "(IIZZ)I"⟩
def dkwX0_see_3 : List UInt8 := [172]
abbrev dktX0_see_3 : List UInt8 := dkwX0_see_3 ++ []
def dkwX0_see_2 : List UInt8 := [28, 29, 21, 4, 42, 180, 1, 137, 183, 1, 140, 182, 0, 148, 87, 42, 180, 0, 96, 182, 0, 136, 4, 100]
abbrev dktX0_see_2 : List UInt8 := dkwX0_see_2 ++ dktX0_see_3
def dkwX0_see_1 : List UInt8 := [180, 0, 96, 182, 0, 136, 16, 30, 160, 0, 5, 2, 172, 42, 180, 0, 96, 187, 1, 135, 89, 27, 4, 100]
abbrev dktX0_see_1 : List UInt8 := dkwX0_see_1 ++ dktX0_see_2
def dkwX0_see_0 : List UInt8 := [42, 182, 0, 158, 153, 0, 30, 27, 4, 42, 180, 0, 19, 180, 0, 240, 184, 0, 160, 153, 0, 15, 42]
abbrev dktX0_see_0 : List UInt8 := dkwX0_see_0 ++ dktX0_see_1
theorem dksX0_see_0 : cX0_see.data.toList.drop 0 = dktX0_see_0 := by decide +kernel
theorem dksX0_see_1 : cX0_see.data.toList.drop 23 = dktX0_see_1 := dk_seg dksX0_see_0 23 rfl rfl
theorem dksX0_see_2 : cX0_see.data.toList.drop 47 = dktX0_see_2 := dk_seg dksX0_see_1 24 rfl rfl
theorem dksX0_see_3 : cX0_see.data.toList.drop 71 = dktX0_see_3 := dk_seg dksX0_see_2 24 rfl rfl
theorem dX0_see_0 : decode cX0_see 0 = .ok (.aload_n 0, 1) := dk_42 (dk_at dksX0_see_0 0 rfl rfl)
theorem dX0_see_1 : decode cX0_see 1 = .ok (.invokevirtual 158, 3) := dk_182 0 158 (dk_at dksX0_see_0 1 rfl rfl)
theorem dX0_see_4 : decode cX0_see 4 = .ok (.ifCond .eq 30, 3) := dk_153 0 30 (dk_at dksX0_see_0 4 rfl rfl)
theorem dX0_see_7 : decode cX0_see 7 = .ok (.iload_n 1, 1) := dk_27 (dk_at dksX0_see_0 7 rfl rfl)
theorem dX0_see_8 : decode cX0_see 8 = .ok (.iconst 1, 1) := dk_4 (dk_at dksX0_see_0 8 rfl rfl)
theorem dX0_see_9 : decode cX0_see 9 = .ok (.aload_n 0, 1) := dk_42 (dk_at dksX0_see_0 9 rfl rfl)
theorem dX0_see_10 : decode cX0_see 10 = .ok (.getfield 19, 3) := dk_180 0 19 (dk_at dksX0_see_0 10 rfl rfl)
theorem dX0_see_13 : decode cX0_see 13 = .ok (.getfield 240, 3) := dk_180 0 240 (dk_at dksX0_see_0 13 rfl rfl)
theorem dX0_see_16 : decode cX0_see 16 = .ok (.invokestatic 160, 3) := dk_184 0 160 (dk_at dksX0_see_0 16 rfl rfl)
theorem dX0_see_19 : decode cX0_see 19 = .ok (.ifCond .eq 15, 3) := dk_153 0 15 (dk_at dksX0_see_0 19 rfl rfl)
theorem dX0_see_22 : decode cX0_see 22 = .ok (.aload_n 0, 1) := dk_42 (dk_at dksX0_see_0 22 rfl rfl)
theorem dX0_see_23 : decode cX0_see 23 = .ok (.getfield 96, 3) := dk_180 0 96 (dk_at dksX0_see_1 0 rfl rfl)
theorem dX0_see_26 : decode cX0_see 26 = .ok (.invokevirtual 136, 3) := dk_182 0 136 (dk_at dksX0_see_1 3 rfl rfl)
theorem dX0_see_29 : decode cX0_see 29 = .ok (.bipush 30, 2) := dk_16 30 (dk_at dksX0_see_1 6 rfl rfl)
theorem dX0_see_31 : decode cX0_see 31 = .ok (.if_icmp .ne 5, 3) := dk_160 0 5 (dk_at dksX0_see_1 8 rfl rfl)
theorem dX0_see_34 : decode cX0_see 34 = .ok (.iconst (-1), 1) := dk_2 (dk_at dksX0_see_1 11 rfl rfl)
theorem dX0_see_35 : decode cX0_see 35 = .ok (.ireturn, 1) := dk_172 (dk_at dksX0_see_1 12 rfl rfl)
theorem dX0_see_36 : decode cX0_see 36 = .ok (.aload_n 0, 1) := dk_42 (dk_at dksX0_see_1 13 rfl rfl)
theorem dX0_see_37 : decode cX0_see 37 = .ok (.getfield 96, 3) := dk_180 0 96 (dk_at dksX0_see_1 14 rfl rfl)
theorem dX0_see_40 : decode cX0_see 40 = .ok (.new 391, 3) := dk_187 1 135 (dk_at dksX0_see_1 17 rfl rfl)
theorem dX0_see_43 : decode cX0_see 43 = .ok (.dup, 1) := dk_89 (dk_at dksX0_see_1 20 rfl rfl)
theorem dX0_see_44 : decode cX0_see 44 = .ok (.iload_n 1, 1) := dk_27 (dk_at dksX0_see_1 21 rfl rfl)
theorem dX0_see_45 : decode cX0_see 45 = .ok (.iconst 1, 1) := dk_4 (dk_at dksX0_see_1 22 rfl rfl)
theorem dX0_see_46 : decode cX0_see 46 = .ok (.isub, 1) := dk_100 (dk_at dksX0_see_1 23 rfl rfl)
theorem dX0_see_47 : decode cX0_see 47 = .ok (.iload_n 2, 1) := dk_28 (dk_at dksX0_see_2 0 rfl rfl)
theorem dX0_see_48 : decode cX0_see 48 = .ok (.iload_n 3, 1) := dk_29 (dk_at dksX0_see_2 1 rfl rfl)
theorem dX0_see_49 : decode cX0_see 49 = .ok (.iload 4, 2) := dk_21 4 (dk_at dksX0_see_2 2 rfl rfl)
theorem dX0_see_51 : decode cX0_see 51 = .ok (.aload_n 0, 1) := dk_42 (dk_at dksX0_see_2 4 rfl rfl)
theorem dX0_see_52 : decode cX0_see 52 = .ok (.getfield 393, 3) := dk_180 1 137 (dk_at dksX0_see_2 5 rfl rfl)
theorem dX0_see_55 : decode cX0_see 55 = .ok (.invokespecial 396, 3) := dk_183 1 140 (dk_at dksX0_see_2 8 rfl rfl)
theorem dX0_see_58 : decode cX0_see 58 = .ok (.invokevirtual 148, 3) := dk_182 0 148 (dk_at dksX0_see_2 11 rfl rfl)
theorem dX0_see_61 : decode cX0_see 61 = .ok (.pop, 1) := dk_87 (dk_at dksX0_see_2 14 rfl rfl)
theorem dX0_see_62 : decode cX0_see 62 = .ok (.aload_n 0, 1) := dk_42 (dk_at dksX0_see_2 15 rfl rfl)
theorem dX0_see_63 : decode cX0_see 63 = .ok (.getfield 96, 3) := dk_180 0 96 (dk_at dksX0_see_2 16 rfl rfl)
theorem dX0_see_66 : decode cX0_see 66 = .ok (.invokevirtual 136, 3) := dk_182 0 136 (dk_at dksX0_see_2 19 rfl rfl)
theorem dX0_see_69 : decode cX0_see 69 = .ok (.iconst 1, 1) := dk_4 (dk_at dksX0_see_2 22 rfl rfl)
theorem dX0_see_70 : decode cX0_see 70 = .ok (.isub, 1) := dk_100 (dk_at dksX0_see_2 23 rfl rfl)
theorem dX0_see_71 : decode cX0_see 71 = .ok (.ireturn, 1) := dk_172 (dk_at dksX0_see_3 0 rfl rfl)
abbrev cX0_felt : ByteArray := prog_1_method_67_code
def yX0_felt : MethodName := ⟨RX0, "felt", "(IIZ)I"⟩
def dkwX0_felt_0 : List UInt8 := [28, 3, 16, 99, 184, 0, 160, 153, 0, 14, 42, 27, 28, 4, 29, 182, 1, 143, 167, 0, 4, 2, 172]
abbrev dktX0_felt_0 : List UInt8 := dkwX0_felt_0 ++ []
theorem dksX0_felt_0 : cX0_felt.data.toList.drop 0 = dktX0_felt_0 := by decide +kernel
theorem dX0_felt_0 : decode cX0_felt 0 = .ok (.iload_n 2, 1) := dk_28 (dk_at dksX0_felt_0 0 rfl rfl)
theorem dX0_felt_1 : decode cX0_felt 1 = .ok (.iconst 0, 1) := dk_3 (dk_at dksX0_felt_0 1 rfl rfl)
theorem dX0_felt_2 : decode cX0_felt 2 = .ok (.bipush 99, 2) := dk_16 99 (dk_at dksX0_felt_0 2 rfl rfl)
theorem dX0_felt_4 : decode cX0_felt 4 = .ok (.invokestatic 160, 3) := dk_184 0 160 (dk_at dksX0_felt_0 4 rfl rfl)
theorem dX0_felt_7 : decode cX0_felt 7 = .ok (.ifCond .eq 14, 3) := dk_153 0 14 (dk_at dksX0_felt_0 7 rfl rfl)
theorem dX0_felt_10 : decode cX0_felt 10 = .ok (.aload_n 0, 1) := dk_42 (dk_at dksX0_felt_0 10 rfl rfl)
theorem dX0_felt_11 : decode cX0_felt 11 = .ok (.iload_n 1, 1) := dk_27 (dk_at dksX0_felt_0 11 rfl rfl)
theorem dX0_felt_12 : decode cX0_felt 12 = .ok (.iload_n 2, 1) := dk_28 (dk_at dksX0_felt_0 12 rfl rfl)
theorem dX0_felt_13 : decode cX0_felt 13 = .ok (.iconst 1, 1) := dk_4 (dk_at dksX0_felt_0 13 rfl rfl)
theorem dX0_felt_14 : decode cX0_felt 14 = .ok (.iload_n 3, 1) := dk_29 (dk_at dksX0_felt_0 14 rfl rfl)
theorem dX0_felt_15 : decode cX0_felt 15 = .ok (.invokevirtual 399, 3) := dk_182 1 143 (dk_at dksX0_felt_0 15 rfl rfl)
theorem dX0_felt_18 : decode cX0_felt 18 = .ok (.goto 4, 3) := dk_167 0 4 (dk_at dksX0_felt_0 18 rfl rfl)
theorem dX0_felt_21 : decode cX0_felt 21 = .ok (.iconst (-1), 1) := dk_2 (dk_at dksX0_felt_0 21 rfl rfl)
theorem dX0_felt_22 : decode cX0_felt 22 = .ok (.ireturn, 1) := dk_172 (dk_at dksX0_felt_0 22 rfl rfl)
abbrev cX0_untell : ByteArray := prog_1_method_68_code
def yX0_untell : MethodName := ⟨RX0, "untell", "(I)Z"⟩
def dkwX0_untell_2 : List UInt8 := [192, 1, 135, 42, 180, 1, 137, 181, 1, 147, 4, 172]
abbrev dktX0_untell_2 : List UInt8 := dkwX0_untell_2 ++ []
def dkwX0_untell_1 : List UInt8 := [182, 0, 195, 192, 1, 135, 180, 1, 147, 155, 0, 5, 3, 172, 42, 180, 0, 96, 27, 182, 0, 195]
abbrev dktX0_untell_1 : List UInt8 := dkwX0_untell_1 ++ dktX0_untell_2
def dkwX0_untell_0 : List UInt8 := [27, 3, 42, 180, 0, 96, 182, 0, 136, 4, 100, 184, 0, 160, 153, 0, 20, 42, 180, 0, 96, 27]
abbrev dktX0_untell_0 : List UInt8 := dkwX0_untell_0 ++ dktX0_untell_1
theorem dksX0_untell_0 : cX0_untell.data.toList.drop 0 = dktX0_untell_0 := by decide +kernel
theorem dksX0_untell_1 : cX0_untell.data.toList.drop 22 = dktX0_untell_1 := dk_seg dksX0_untell_0 22 rfl rfl
theorem dksX0_untell_2 : cX0_untell.data.toList.drop 44 = dktX0_untell_2 := dk_seg dksX0_untell_1 22 rfl rfl
theorem dX0_untell_0 : decode cX0_untell 0 = .ok (.iload_n 1, 1) := dk_27 (dk_at dksX0_untell_0 0 rfl rfl)
theorem dX0_untell_1 : decode cX0_untell 1 = .ok (.iconst 0, 1) := dk_3 (dk_at dksX0_untell_0 1 rfl rfl)
theorem dX0_untell_2 : decode cX0_untell 2 = .ok (.aload_n 0, 1) := dk_42 (dk_at dksX0_untell_0 2 rfl rfl)
theorem dX0_untell_3 : decode cX0_untell 3 = .ok (.getfield 96, 3) := dk_180 0 96 (dk_at dksX0_untell_0 3 rfl rfl)
theorem dX0_untell_6 : decode cX0_untell 6 = .ok (.invokevirtual 136, 3) := dk_182 0 136 (dk_at dksX0_untell_0 6 rfl rfl)
theorem dX0_untell_9 : decode cX0_untell 9 = .ok (.iconst 1, 1) := dk_4 (dk_at dksX0_untell_0 9 rfl rfl)
theorem dX0_untell_10 : decode cX0_untell 10 = .ok (.isub, 1) := dk_100 (dk_at dksX0_untell_0 10 rfl rfl)
theorem dX0_untell_11 : decode cX0_untell 11 = .ok (.invokestatic 160, 3) := dk_184 0 160 (dk_at dksX0_untell_0 11 rfl rfl)
theorem dX0_untell_14 : decode cX0_untell 14 = .ok (.ifCond .eq 20, 3) := dk_153 0 20 (dk_at dksX0_untell_0 14 rfl rfl)
theorem dX0_untell_17 : decode cX0_untell 17 = .ok (.aload_n 0, 1) := dk_42 (dk_at dksX0_untell_0 17 rfl rfl)
theorem dX0_untell_18 : decode cX0_untell 18 = .ok (.getfield 96, 3) := dk_180 0 96 (dk_at dksX0_untell_0 18 rfl rfl)
theorem dX0_untell_21 : decode cX0_untell 21 = .ok (.iload_n 1, 1) := dk_27 (dk_at dksX0_untell_0 21 rfl rfl)
theorem dX0_untell_22 : decode cX0_untell 22 = .ok (.invokevirtual 195, 3) := dk_182 0 195 (dk_at dksX0_untell_1 0 rfl rfl)
theorem dX0_untell_25 : decode cX0_untell 25 = .ok (.checkcast 391, 3) := dk_192 1 135 (dk_at dksX0_untell_1 3 rfl rfl)
theorem dX0_untell_28 : decode cX0_untell 28 = .ok (.getfield 403, 3) := dk_180 1 147 (dk_at dksX0_untell_1 6 rfl rfl)
theorem dX0_untell_31 : decode cX0_untell 31 = .ok (.ifCond .lt 5, 3) := dk_155 0 5 (dk_at dksX0_untell_1 9 rfl rfl)
theorem dX0_untell_34 : decode cX0_untell 34 = .ok (.iconst 0, 1) := dk_3 (dk_at dksX0_untell_1 12 rfl rfl)
theorem dX0_untell_35 : decode cX0_untell 35 = .ok (.ireturn, 1) := dk_172 (dk_at dksX0_untell_1 13 rfl rfl)
theorem dX0_untell_36 : decode cX0_untell 36 = .ok (.aload_n 0, 1) := dk_42 (dk_at dksX0_untell_1 14 rfl rfl)
theorem dX0_untell_37 : decode cX0_untell 37 = .ok (.getfield 96, 3) := dk_180 0 96 (dk_at dksX0_untell_1 15 rfl rfl)
theorem dX0_untell_40 : decode cX0_untell 40 = .ok (.iload_n 1, 1) := dk_27 (dk_at dksX0_untell_1 18 rfl rfl)
theorem dX0_untell_41 : decode cX0_untell 41 = .ok (.invokevirtual 195, 3) := dk_182 0 195 (dk_at dksX0_untell_1 19 rfl rfl)
theorem dX0_untell_44 : decode cX0_untell 44 = .ok (.checkcast 391, 3) := dk_192 1 135 (dk_at dksX0_untell_2 0 rfl rfl)
theorem dX0_untell_47 : decode cX0_untell 47 = .ok (.aload_n 0, 1) := dk_42 (dk_at dksX0_untell_2 3 rfl rfl)
theorem dX0_untell_48 : decode cX0_untell 48 = .ok (.getfield 393, 3) := dk_180 1 137 (dk_at dksX0_untell_2 4 rfl rfl)
theorem dX0_untell_51 : decode cX0_untell 51 = .ok (.putfield 403, 3) := dk_181 1 147 (dk_at dksX0_untell_2 7 rfl rfl)
theorem dX0_untell_54 : decode cX0_untell 54 = .ok (.iconst 1, 1) := dk_4 (dk_at dksX0_untell_2 10 rfl rfl)
theorem dX0_untell_55 : decode cX0_untell 55 = .ok (.ireturn, 1) := dk_172 (dk_at dksX0_untell_2 11 rfl rfl)
abbrev cX0_later : ByteArray := prog_1_method_69_code
def yX0_later : MethodName := ⟨RX0, "late\x72", "(I)I"⟩
def dkwX0_later_1 : List UInt8 := [172, 42, 89, 180, 1, 137, 27, 96, 181, 1, 137, 42, 180, 1, 137, 172]
abbrev dktX0_later_1 : List UInt8 := dkwX0_later_1 ++ []
def dkwX0_later_0 : List UInt8 := [27, 155, 0, 22, 27, 17, 3, 232, 163, 0, 15, 42, 180, 1, 137, 27, 96, 19, 1, 150, 164, 0, 5, 2]
abbrev dktX0_later_0 : List UInt8 := dkwX0_later_0 ++ dktX0_later_1
theorem dksX0_later_0 : cX0_later.data.toList.drop 0 = dktX0_later_0 := by decide +kernel
theorem dksX0_later_1 : cX0_later.data.toList.drop 24 = dktX0_later_1 := dk_seg dksX0_later_0 24 rfl rfl
theorem dX0_later_0 : decode cX0_later 0 = .ok (.iload_n 1, 1) := dk_27 (dk_at dksX0_later_0 0 rfl rfl)
theorem dX0_later_1 : decode cX0_later 1 = .ok (.ifCond .lt 22, 3) := dk_155 0 22 (dk_at dksX0_later_0 1 rfl rfl)
theorem dX0_later_4 : decode cX0_later 4 = .ok (.iload_n 1, 1) := dk_27 (dk_at dksX0_later_0 4 rfl rfl)
theorem dX0_later_5 : decode cX0_later 5 = .ok (.sipush 1000, 3) := dk_17 3 232 (dk_at dksX0_later_0 5 rfl rfl)
theorem dX0_later_8 : decode cX0_later 8 = .ok (.if_icmp .gt 15, 3) := dk_163 0 15 (dk_at dksX0_later_0 8 rfl rfl)
theorem dX0_later_11 : decode cX0_later 11 = .ok (.aload_n 0, 1) := dk_42 (dk_at dksX0_later_0 11 rfl rfl)
theorem dX0_later_12 : decode cX0_later 12 = .ok (.getfield 393, 3) := dk_180 1 137 (dk_at dksX0_later_0 12 rfl rfl)
theorem dX0_later_15 : decode cX0_later 15 = .ok (.iload_n 1, 1) := dk_27 (dk_at dksX0_later_0 15 rfl rfl)
theorem dX0_later_16 : decode cX0_later 16 = .ok (.iadd, 1) := dk_96 (dk_at dksX0_later_0 16 rfl rfl)
theorem dX0_later_17 : decode cX0_later 17 = .ok (.ldc_w 406, 3) := dk_19 1 150 (dk_at dksX0_later_0 17 rfl rfl)
theorem dX0_later_20 : decode cX0_later 20 = .ok (.if_icmp .le 5, 3) := dk_164 0 5 (dk_at dksX0_later_0 20 rfl rfl)
theorem dX0_later_23 : decode cX0_later 23 = .ok (.iconst (-1), 1) := dk_2 (dk_at dksX0_later_0 23 rfl rfl)
theorem dX0_later_24 : decode cX0_later 24 = .ok (.ireturn, 1) := dk_172 (dk_at dksX0_later_1 0 rfl rfl)
theorem dX0_later_25 : decode cX0_later 25 = .ok (.aload_n 0, 1) := dk_42 (dk_at dksX0_later_1 1 rfl rfl)
theorem dX0_later_26 : decode cX0_later 26 = .ok (.dup, 1) := dk_89 (dk_at dksX0_later_1 2 rfl rfl)
theorem dX0_later_27 : decode cX0_later 27 = .ok (.getfield 393, 3) := dk_180 1 137 (dk_at dksX0_later_1 3 rfl rfl)
theorem dX0_later_30 : decode cX0_later 30 = .ok (.iload_n 1, 1) := dk_27 (dk_at dksX0_later_1 6 rfl rfl)
theorem dX0_later_31 : decode cX0_later 31 = .ok (.iadd, 1) := dk_96 (dk_at dksX0_later_1 7 rfl rfl)
theorem dX0_later_32 : decode cX0_later 32 = .ok (.putfield 393, 3) := dk_181 1 137 (dk_at dksX0_later_1 8 rfl rfl)
theorem dX0_later_35 : decode cX0_later 35 = .ok (.aload_n 0, 1) := dk_42 (dk_at dksX0_later_1 11 rfl rfl)
theorem dX0_later_36 : decode cX0_later 36 = .ok (.getfield 393, 3) := dk_180 1 137 (dk_at dksX0_later_1 12 rfl rfl)
theorem dX0_later_39 : decode cX0_later 39 = .ok (.ireturn, 1) := dk_172 (dk_at dksX0_later_1 15 rfl rfl)
abbrev cX0_fits : ByteArray := prog_1_method_72_code
def yX0_fits : MethodName := ⟨RX0, "fits", "(I)I"⟩
def dkwX0_fits_0 : List UInt8 := [42, 27, 182, 1, 185, 42, 180, 1, 179, 172]
abbrev dktX0_fits_0 : List UInt8 := dkwX0_fits_0 ++ []
theorem dksX0_fits_0 : cX0_fits.data.toList.drop 0 = dktX0_fits_0 := by decide +kernel
theorem dX0_fits_0 : decode cX0_fits 0 = .ok (.aload_n 0, 1) := dk_42 (dk_at dksX0_fits_0 0 rfl rfl)
theorem dX0_fits_1 : decode cX0_fits 1 = .ok (.iload_n 1, 1) := dk_27 (dk_at dksX0_fits_0 1 rfl rfl)
theorem dX0_fits_2 : decode cX0_fits 2 = .ok (.invokevirtual 441, 3) := dk_182 1 185 (dk_at dksX0_fits_0 2 rfl rfl)
theorem dX0_fits_5 : decode cX0_fits 5 = .ok (.aload_n 0, 1) := dk_42 (dk_at dksX0_fits_0 5 rfl rfl)
theorem dX0_fits_6 : decode cX0_fits 6 = .ok (.getfield 435, 3) := dk_180 1 179 (dk_at dksX0_fits_0 6 rfl rfl)
theorem dX0_fits_9 : decode cX0_fits 9 = .ok (.ireturn, 1) := dk_172 (dk_at dksX0_fits_0 9 rfl rfl)
abbrev cX0_layFits : ByteArray := prog_1_method_71_code
def yX0_layFits : MethodName := ⟨RX0, "layFits", "(I)V"⟩
def dkwX0_layFits_9 : List UInt8 := [167, 255, 86, 177]
abbrev dktX0_layFits_9 : List UInt8 := dkwX0_layFits_9 ++ []
def dkwX0_layFits_8 : List UInt8 := [21, 4, 184, 1, 33, 96, 4, 96, 92, 46, 4, 96, 79, 132, 4, 1, 167, 255, 224, 132, 3, 1]
abbrev dktX0_layFits_8 : List UInt8 := dkwX0_layFits_8 ++ dktX0_layFits_9
def dkwX0_layFits_7 : List UInt8 := [96, 181, 1, 179, 3, 54, 4, 21, 4, 28, 162, 0, 32, 42, 180, 0, 105, 6, 21, 4, 104, 29, 28]
abbrev dktX0_layFits_7 : List UInt8 := dkwX0_layFits_7 ++ dktX0_layFits_8
def dkwX0_layFits_6 : List UInt8 := [132, 4, 1, 167, 255, 182, 42, 29, 27, 182, 1, 182, 154, 0, 6, 167, 0, 51, 42, 89, 180, 1, 179, 4]
abbrev dktX0_layFits_6 : List UInt8 := dkwX0_layFits_6 ++ dktX0_layFits_7
def dkwX0_layFits_5 : List UInt8 := [46, 79, 42, 180, 0, 102, 16, 6, 29, 104, 21, 4, 96, 42, 180, 0, 32, 180, 0, 206, 3, 46, 79]
abbrev dktX0_layFits_5 : List UInt8 := dkwX0_layFits_5 ++ dktX0_layFits_6
def dkwX0_layFits_4 : List UInt8 := [182, 1, 8, 54, 5, 42, 180, 0, 99, 16, 6, 29, 104, 21, 4, 96, 42, 180, 0, 32, 180, 0, 200, 3]
abbrev dktX0_layFits_4 : List UInt8 := dkwX0_layFits_4 ++ dktX0_layFits_5
def dkwX0_layFits_3 : List UInt8 := [28, 162, 0, 74, 42, 180, 0, 32, 42, 180, 0, 19, 3, 29, 28, 21, 4, 184, 1, 33, 4, 3]
abbrev dktX0_layFits_3 : List UInt8 := dkwX0_layFits_3 ++ dktX0_layFits_4
def dkwX0_layFits_2 : List UInt8 := [6, 28, 184, 1, 30, 162, 0, 160, 42, 180, 0, 32, 42, 180, 0, 19, 182, 0, 120, 3, 54, 4, 21, 4]
abbrev dktX0_layFits_2 : List UInt8 := dkwX0_layFits_2 ++ dktX0_layFits_3
def dkwX0_layFits_1 : List UInt8 := [132, 2, 1, 167, 255, 237, 42, 180, 0, 19, 180, 0, 240, 61, 3, 62, 42, 182, 0, 158, 158, 0, 169, 29]
abbrev dktX0_layFits_1 : List UInt8 := dkwX0_layFits_1 ++ dktX0_layFits_2
def dkwX0_layFits_0 : List UInt8 := [42, 3, 181, 1, 179, 3, 61, 28, 42, 180, 0, 105, 190, 162, 0, 16, 42, 180, 0, 105, 28, 3, 79]
abbrev dktX0_layFits_0 : List UInt8 := dkwX0_layFits_0 ++ dktX0_layFits_1
theorem dksX0_layFits_0 : cX0_layFits.data.toList.drop 0 = dktX0_layFits_0 := by decide +kernel
theorem dksX0_layFits_1 : cX0_layFits.data.toList.drop 23 = dktX0_layFits_1 := dk_seg dksX0_layFits_0 23 rfl rfl
theorem dksX0_layFits_2 : cX0_layFits.data.toList.drop 47 = dktX0_layFits_2 := dk_seg dksX0_layFits_1 24 rfl rfl
theorem dksX0_layFits_3 : cX0_layFits.data.toList.drop 71 = dktX0_layFits_3 := dk_seg dksX0_layFits_2 24 rfl rfl
theorem dksX0_layFits_4 : cX0_layFits.data.toList.drop 93 = dktX0_layFits_4 := dk_seg dksX0_layFits_3 22 rfl rfl
theorem dksX0_layFits_5 : cX0_layFits.data.toList.drop 117 = dktX0_layFits_5 := dk_seg dksX0_layFits_4 24 rfl rfl
theorem dksX0_layFits_6 : cX0_layFits.data.toList.drop 140 = dktX0_layFits_6 := dk_seg dksX0_layFits_5 23 rfl rfl
theorem dksX0_layFits_7 : cX0_layFits.data.toList.drop 164 = dktX0_layFits_7 := dk_seg dksX0_layFits_6 24 rfl rfl
theorem dksX0_layFits_8 : cX0_layFits.data.toList.drop 187 = dktX0_layFits_8 := dk_seg dksX0_layFits_7 23 rfl rfl
theorem dksX0_layFits_9 : cX0_layFits.data.toList.drop 209 = dktX0_layFits_9 := dk_seg dksX0_layFits_8 22 rfl rfl
theorem dX0_layFits_0 : decode cX0_layFits 0 = .ok (.aload_n 0, 1) := dk_42 (dk_at dksX0_layFits_0 0 rfl rfl)
theorem dX0_layFits_1 : decode cX0_layFits 1 = .ok (.iconst 0, 1) := dk_3 (dk_at dksX0_layFits_0 1 rfl rfl)
theorem dX0_layFits_2 : decode cX0_layFits 2 = .ok (.putfield 435, 3) := dk_181 1 179 (dk_at dksX0_layFits_0 2 rfl rfl)
theorem dX0_layFits_5 : decode cX0_layFits 5 = .ok (.iconst 0, 1) := dk_3 (dk_at dksX0_layFits_0 5 rfl rfl)
theorem dX0_layFits_6 : decode cX0_layFits 6 = .ok (.istore_n 2, 1) := dk_61 (dk_at dksX0_layFits_0 6 rfl rfl)
theorem dX0_layFits_7 : decode cX0_layFits 7 = .ok (.iload_n 2, 1) := dk_28 (dk_at dksX0_layFits_0 7 rfl rfl)
theorem dX0_layFits_8 : decode cX0_layFits 8 = .ok (.aload_n 0, 1) := dk_42 (dk_at dksX0_layFits_0 8 rfl rfl)
theorem dX0_layFits_9 : decode cX0_layFits 9 = .ok (.getfield 105, 3) := dk_180 0 105 (dk_at dksX0_layFits_0 9 rfl rfl)
theorem dX0_layFits_12 : decode cX0_layFits 12 = .ok (.arraylength, 1) := dk_190 (dk_at dksX0_layFits_0 12 rfl rfl)
theorem dX0_layFits_13 : decode cX0_layFits 13 = .ok (.if_icmp .ge 16, 3) := dk_162 0 16 (dk_at dksX0_layFits_0 13 rfl rfl)
theorem dX0_layFits_16 : decode cX0_layFits 16 = .ok (.aload_n 0, 1) := dk_42 (dk_at dksX0_layFits_0 16 rfl rfl)
theorem dX0_layFits_17 : decode cX0_layFits 17 = .ok (.getfield 105, 3) := dk_180 0 105 (dk_at dksX0_layFits_0 17 rfl rfl)
theorem dX0_layFits_20 : decode cX0_layFits 20 = .ok (.iload_n 2, 1) := dk_28 (dk_at dksX0_layFits_0 20 rfl rfl)
theorem dX0_layFits_21 : decode cX0_layFits 21 = .ok (.iconst 0, 1) := dk_3 (dk_at dksX0_layFits_0 21 rfl rfl)
theorem dX0_layFits_22 : decode cX0_layFits 22 = .ok (.iastore, 1) := dk_79 (dk_at dksX0_layFits_0 22 rfl rfl)
theorem dX0_layFits_23 : decode cX0_layFits 23 = .ok (.iinc 2 1, 3) := dk_132 2 1 (dk_at dksX0_layFits_1 0 rfl rfl)
theorem dX0_layFits_26 : decode cX0_layFits 26 = .ok (.goto (-19), 3) := dk_167 255 237 (dk_at dksX0_layFits_1 3 rfl rfl)
theorem dX0_layFits_29 : decode cX0_layFits 29 = .ok (.aload_n 0, 1) := dk_42 (dk_at dksX0_layFits_1 6 rfl rfl)
theorem dX0_layFits_30 : decode cX0_layFits 30 = .ok (.getfield 19, 3) := dk_180 0 19 (dk_at dksX0_layFits_1 7 rfl rfl)
theorem dX0_layFits_33 : decode cX0_layFits 33 = .ok (.getfield 240, 3) := dk_180 0 240 (dk_at dksX0_layFits_1 10 rfl rfl)
theorem dX0_layFits_36 : decode cX0_layFits 36 = .ok (.istore_n 2, 1) := dk_61 (dk_at dksX0_layFits_1 13 rfl rfl)
theorem dX0_layFits_37 : decode cX0_layFits 37 = .ok (.iconst 0, 1) := dk_3 (dk_at dksX0_layFits_1 14 rfl rfl)
theorem dX0_layFits_38 : decode cX0_layFits 38 = .ok (.istore_n 3, 1) := dk_62 (dk_at dksX0_layFits_1 15 rfl rfl)
theorem dX0_layFits_39 : decode cX0_layFits 39 = .ok (.aload_n 0, 1) := dk_42 (dk_at dksX0_layFits_1 16 rfl rfl)
theorem dX0_layFits_40 : decode cX0_layFits 40 = .ok (.invokevirtual 158, 3) := dk_182 0 158 (dk_at dksX0_layFits_1 17 rfl rfl)
theorem dX0_layFits_43 : decode cX0_layFits 43 = .ok (.ifCond .le 169, 3) := dk_158 0 169 (dk_at dksX0_layFits_1 20 rfl rfl)
theorem dX0_layFits_46 : decode cX0_layFits 46 = .ok (.iload_n 3, 1) := dk_29 (dk_at dksX0_layFits_1 23 rfl rfl)
theorem dX0_layFits_47 : decode cX0_layFits 47 = .ok (.iconst 3, 1) := dk_6 (dk_at dksX0_layFits_2 0 rfl rfl)
theorem dX0_layFits_48 : decode cX0_layFits 48 = .ok (.iload_n 2, 1) := dk_28 (dk_at dksX0_layFits_2 1 rfl rfl)
theorem dX0_layFits_49 : decode cX0_layFits 49 = .ok (.invokestatic 286, 3) := dk_184 1 30 (dk_at dksX0_layFits_2 2 rfl rfl)
theorem dX0_layFits_52 : decode cX0_layFits 52 = .ok (.if_icmp .ge 160, 3) := dk_162 0 160 (dk_at dksX0_layFits_2 5 rfl rfl)
theorem dX0_layFits_55 : decode cX0_layFits 55 = .ok (.aload_n 0, 1) := dk_42 (dk_at dksX0_layFits_2 8 rfl rfl)
theorem dX0_layFits_56 : decode cX0_layFits 56 = .ok (.getfield 32, 3) := dk_180 0 32 (dk_at dksX0_layFits_2 9 rfl rfl)
theorem dX0_layFits_59 : decode cX0_layFits 59 = .ok (.aload_n 0, 1) := dk_42 (dk_at dksX0_layFits_2 12 rfl rfl)
theorem dX0_layFits_60 : decode cX0_layFits 60 = .ok (.getfield 19, 3) := dk_180 0 19 (dk_at dksX0_layFits_2 13 rfl rfl)
theorem dX0_layFits_63 : decode cX0_layFits 63 = .ok (.invokevirtual 120, 3) := dk_182 0 120 (dk_at dksX0_layFits_2 16 rfl rfl)
theorem dX0_layFits_66 : decode cX0_layFits 66 = .ok (.iconst 0, 1) := dk_3 (dk_at dksX0_layFits_2 19 rfl rfl)
theorem dX0_layFits_67 : decode cX0_layFits 67 = .ok (.istore 4, 2) := dk_54 4 (dk_at dksX0_layFits_2 20 rfl rfl)
theorem dX0_layFits_69 : decode cX0_layFits 69 = .ok (.iload 4, 2) := dk_21 4 (dk_at dksX0_layFits_2 22 rfl rfl)
theorem dX0_layFits_71 : decode cX0_layFits 71 = .ok (.iload_n 2, 1) := dk_28 (dk_at dksX0_layFits_3 0 rfl rfl)
theorem dX0_layFits_72 : decode cX0_layFits 72 = .ok (.if_icmp .ge 74, 3) := dk_162 0 74 (dk_at dksX0_layFits_3 1 rfl rfl)
theorem dX0_layFits_75 : decode cX0_layFits 75 = .ok (.aload_n 0, 1) := dk_42 (dk_at dksX0_layFits_3 4 rfl rfl)
theorem dX0_layFits_76 : decode cX0_layFits 76 = .ok (.getfield 32, 3) := dk_180 0 32 (dk_at dksX0_layFits_3 5 rfl rfl)
theorem dX0_layFits_79 : decode cX0_layFits 79 = .ok (.aload_n 0, 1) := dk_42 (dk_at dksX0_layFits_3 8 rfl rfl)
theorem dX0_layFits_80 : decode cX0_layFits 80 = .ok (.getfield 19, 3) := dk_180 0 19 (dk_at dksX0_layFits_3 9 rfl rfl)
theorem dX0_layFits_83 : decode cX0_layFits 83 = .ok (.iconst 0, 1) := dk_3 (dk_at dksX0_layFits_3 12 rfl rfl)
theorem dX0_layFits_84 : decode cX0_layFits 84 = .ok (.iload_n 3, 1) := dk_29 (dk_at dksX0_layFits_3 13 rfl rfl)
theorem dX0_layFits_85 : decode cX0_layFits 85 = .ok (.iload_n 2, 1) := dk_28 (dk_at dksX0_layFits_3 14 rfl rfl)
theorem dX0_layFits_86 : decode cX0_layFits 86 = .ok (.iload 4, 2) := dk_21 4 (dk_at dksX0_layFits_3 15 rfl rfl)
theorem dX0_layFits_88 : decode cX0_layFits 88 = .ok (.invokestatic 289, 3) := dk_184 1 33 (dk_at dksX0_layFits_3 17 rfl rfl)
theorem dX0_layFits_91 : decode cX0_layFits 91 = .ok (.iconst 1, 1) := dk_4 (dk_at dksX0_layFits_3 20 rfl rfl)
theorem dX0_layFits_92 : decode cX0_layFits 92 = .ok (.iconst 0, 1) := dk_3 (dk_at dksX0_layFits_3 21 rfl rfl)
theorem dX0_layFits_93 : decode cX0_layFits 93 = .ok (.invokevirtual 264, 3) := dk_182 1 8 (dk_at dksX0_layFits_4 0 rfl rfl)
theorem dX0_layFits_96 : decode cX0_layFits 96 = .ok (.istore 5, 2) := dk_54 5 (dk_at dksX0_layFits_4 3 rfl rfl)
theorem dX0_layFits_98 : decode cX0_layFits 98 = .ok (.aload_n 0, 1) := dk_42 (dk_at dksX0_layFits_4 5 rfl rfl)
theorem dX0_layFits_99 : decode cX0_layFits 99 = .ok (.getfield 99, 3) := dk_180 0 99 (dk_at dksX0_layFits_4 6 rfl rfl)
theorem dX0_layFits_102 : decode cX0_layFits 102 = .ok (.bipush 6, 2) := dk_16 6 (dk_at dksX0_layFits_4 9 rfl rfl)
theorem dX0_layFits_104 : decode cX0_layFits 104 = .ok (.iload_n 3, 1) := dk_29 (dk_at dksX0_layFits_4 11 rfl rfl)
theorem dX0_layFits_105 : decode cX0_layFits 105 = .ok (.imul, 1) := dk_104 (dk_at dksX0_layFits_4 12 rfl rfl)
theorem dX0_layFits_106 : decode cX0_layFits 106 = .ok (.iload 4, 2) := dk_21 4 (dk_at dksX0_layFits_4 13 rfl rfl)
theorem dX0_layFits_108 : decode cX0_layFits 108 = .ok (.iadd, 1) := dk_96 (dk_at dksX0_layFits_4 15 rfl rfl)
theorem dX0_layFits_109 : decode cX0_layFits 109 = .ok (.aload_n 0, 1) := dk_42 (dk_at dksX0_layFits_4 16 rfl rfl)
theorem dX0_layFits_110 : decode cX0_layFits 110 = .ok (.getfield 32, 3) := dk_180 0 32 (dk_at dksX0_layFits_4 17 rfl rfl)
theorem dX0_layFits_113 : decode cX0_layFits 113 = .ok (.getfield 200, 3) := dk_180 0 200 (dk_at dksX0_layFits_4 20 rfl rfl)
theorem dX0_layFits_116 : decode cX0_layFits 116 = .ok (.iconst 0, 1) := dk_3 (dk_at dksX0_layFits_4 23 rfl rfl)
theorem dX0_layFits_117 : decode cX0_layFits 117 = .ok (.iaload, 1) := dk_46 (dk_at dksX0_layFits_5 0 rfl rfl)
theorem dX0_layFits_118 : decode cX0_layFits 118 = .ok (.iastore, 1) := dk_79 (dk_at dksX0_layFits_5 1 rfl rfl)
theorem dX0_layFits_119 : decode cX0_layFits 119 = .ok (.aload_n 0, 1) := dk_42 (dk_at dksX0_layFits_5 2 rfl rfl)
theorem dX0_layFits_120 : decode cX0_layFits 120 = .ok (.getfield 102, 3) := dk_180 0 102 (dk_at dksX0_layFits_5 3 rfl rfl)
theorem dX0_layFits_123 : decode cX0_layFits 123 = .ok (.bipush 6, 2) := dk_16 6 (dk_at dksX0_layFits_5 6 rfl rfl)
theorem dX0_layFits_125 : decode cX0_layFits 125 = .ok (.iload_n 3, 1) := dk_29 (dk_at dksX0_layFits_5 8 rfl rfl)
theorem dX0_layFits_126 : decode cX0_layFits 126 = .ok (.imul, 1) := dk_104 (dk_at dksX0_layFits_5 9 rfl rfl)
theorem dX0_layFits_127 : decode cX0_layFits 127 = .ok (.iload 4, 2) := dk_21 4 (dk_at dksX0_layFits_5 10 rfl rfl)
theorem dX0_layFits_129 : decode cX0_layFits 129 = .ok (.iadd, 1) := dk_96 (dk_at dksX0_layFits_5 12 rfl rfl)
theorem dX0_layFits_130 : decode cX0_layFits 130 = .ok (.aload_n 0, 1) := dk_42 (dk_at dksX0_layFits_5 13 rfl rfl)
theorem dX0_layFits_131 : decode cX0_layFits 131 = .ok (.getfield 32, 3) := dk_180 0 32 (dk_at dksX0_layFits_5 14 rfl rfl)
theorem dX0_layFits_134 : decode cX0_layFits 134 = .ok (.getfield 206, 3) := dk_180 0 206 (dk_at dksX0_layFits_5 17 rfl rfl)
theorem dX0_layFits_137 : decode cX0_layFits 137 = .ok (.iconst 0, 1) := dk_3 (dk_at dksX0_layFits_5 20 rfl rfl)
theorem dX0_layFits_138 : decode cX0_layFits 138 = .ok (.iaload, 1) := dk_46 (dk_at dksX0_layFits_5 21 rfl rfl)
theorem dX0_layFits_139 : decode cX0_layFits 139 = .ok (.iastore, 1) := dk_79 (dk_at dksX0_layFits_5 22 rfl rfl)
theorem dX0_layFits_140 : decode cX0_layFits 140 = .ok (.iinc 4 1, 3) := dk_132 4 1 (dk_at dksX0_layFits_6 0 rfl rfl)
theorem dX0_layFits_143 : decode cX0_layFits 143 = .ok (.goto (-74), 3) := dk_167 255 182 (dk_at dksX0_layFits_6 3 rfl rfl)
theorem dX0_layFits_146 : decode cX0_layFits 146 = .ok (.aload_n 0, 1) := dk_42 (dk_at dksX0_layFits_6 6 rfl rfl)
theorem dX0_layFits_147 : decode cX0_layFits 147 = .ok (.iload_n 3, 1) := dk_29 (dk_at dksX0_layFits_6 7 rfl rfl)
theorem dX0_layFits_148 : decode cX0_layFits 148 = .ok (.iload_n 1, 1) := dk_27 (dk_at dksX0_layFits_6 8 rfl rfl)
theorem dX0_layFits_149 : decode cX0_layFits 149 = .ok (.invokevirtual 438, 3) := dk_182 1 182 (dk_at dksX0_layFits_6 9 rfl rfl)
theorem dX0_layFits_152 : decode cX0_layFits 152 = .ok (.ifCond .ne 6, 3) := dk_154 0 6 (dk_at dksX0_layFits_6 12 rfl rfl)
theorem dX0_layFits_155 : decode cX0_layFits 155 = .ok (.goto 51, 3) := dk_167 0 51 (dk_at dksX0_layFits_6 15 rfl rfl)
theorem dX0_layFits_158 : decode cX0_layFits 158 = .ok (.aload_n 0, 1) := dk_42 (dk_at dksX0_layFits_6 18 rfl rfl)
theorem dX0_layFits_159 : decode cX0_layFits 159 = .ok (.dup, 1) := dk_89 (dk_at dksX0_layFits_6 19 rfl rfl)
theorem dX0_layFits_160 : decode cX0_layFits 160 = .ok (.getfield 435, 3) := dk_180 1 179 (dk_at dksX0_layFits_6 20 rfl rfl)
theorem dX0_layFits_163 : decode cX0_layFits 163 = .ok (.iconst 1, 1) := dk_4 (dk_at dksX0_layFits_6 23 rfl rfl)
theorem dX0_layFits_164 : decode cX0_layFits 164 = .ok (.iadd, 1) := dk_96 (dk_at dksX0_layFits_7 0 rfl rfl)
theorem dX0_layFits_165 : decode cX0_layFits 165 = .ok (.putfield 435, 3) := dk_181 1 179 (dk_at dksX0_layFits_7 1 rfl rfl)
theorem dX0_layFits_168 : decode cX0_layFits 168 = .ok (.iconst 0, 1) := dk_3 (dk_at dksX0_layFits_7 4 rfl rfl)
theorem dX0_layFits_169 : decode cX0_layFits 169 = .ok (.istore 4, 2) := dk_54 4 (dk_at dksX0_layFits_7 5 rfl rfl)
theorem dX0_layFits_171 : decode cX0_layFits 171 = .ok (.iload 4, 2) := dk_21 4 (dk_at dksX0_layFits_7 7 rfl rfl)
theorem dX0_layFits_173 : decode cX0_layFits 173 = .ok (.iload_n 2, 1) := dk_28 (dk_at dksX0_layFits_7 9 rfl rfl)
theorem dX0_layFits_174 : decode cX0_layFits 174 = .ok (.if_icmp .ge 32, 3) := dk_162 0 32 (dk_at dksX0_layFits_7 10 rfl rfl)
theorem dX0_layFits_177 : decode cX0_layFits 177 = .ok (.aload_n 0, 1) := dk_42 (dk_at dksX0_layFits_7 13 rfl rfl)
theorem dX0_layFits_178 : decode cX0_layFits 178 = .ok (.getfield 105, 3) := dk_180 0 105 (dk_at dksX0_layFits_7 14 rfl rfl)
theorem dX0_layFits_181 : decode cX0_layFits 181 = .ok (.iconst 3, 1) := dk_6 (dk_at dksX0_layFits_7 17 rfl rfl)
theorem dX0_layFits_182 : decode cX0_layFits 182 = .ok (.iload 4, 2) := dk_21 4 (dk_at dksX0_layFits_7 18 rfl rfl)
theorem dX0_layFits_184 : decode cX0_layFits 184 = .ok (.imul, 1) := dk_104 (dk_at dksX0_layFits_7 20 rfl rfl)
theorem dX0_layFits_185 : decode cX0_layFits 185 = .ok (.iload_n 3, 1) := dk_29 (dk_at dksX0_layFits_7 21 rfl rfl)
theorem dX0_layFits_186 : decode cX0_layFits 186 = .ok (.iload_n 2, 1) := dk_28 (dk_at dksX0_layFits_7 22 rfl rfl)
theorem dX0_layFits_187 : decode cX0_layFits 187 = .ok (.iload 4, 2) := dk_21 4 (dk_at dksX0_layFits_8 0 rfl rfl)
theorem dX0_layFits_189 : decode cX0_layFits 189 = .ok (.invokestatic 289, 3) := dk_184 1 33 (dk_at dksX0_layFits_8 2 rfl rfl)
theorem dX0_layFits_192 : decode cX0_layFits 192 = .ok (.iadd, 1) := dk_96 (dk_at dksX0_layFits_8 5 rfl rfl)
theorem dX0_layFits_193 : decode cX0_layFits 193 = .ok (.iconst 1, 1) := dk_4 (dk_at dksX0_layFits_8 6 rfl rfl)
theorem dX0_layFits_194 : decode cX0_layFits 194 = .ok (.iadd, 1) := dk_96 (dk_at dksX0_layFits_8 7 rfl rfl)
theorem dX0_layFits_195 : decode cX0_layFits 195 = .ok (.dup2, 1) := dk_92 (dk_at dksX0_layFits_8 8 rfl rfl)
theorem dX0_layFits_196 : decode cX0_layFits 196 = .ok (.iaload, 1) := dk_46 (dk_at dksX0_layFits_8 9 rfl rfl)
theorem dX0_layFits_197 : decode cX0_layFits 197 = .ok (.iconst 1, 1) := dk_4 (dk_at dksX0_layFits_8 10 rfl rfl)
theorem dX0_layFits_198 : decode cX0_layFits 198 = .ok (.iadd, 1) := dk_96 (dk_at dksX0_layFits_8 11 rfl rfl)
theorem dX0_layFits_199 : decode cX0_layFits 199 = .ok (.iastore, 1) := dk_79 (dk_at dksX0_layFits_8 12 rfl rfl)
theorem dX0_layFits_200 : decode cX0_layFits 200 = .ok (.iinc 4 1, 3) := dk_132 4 1 (dk_at dksX0_layFits_8 13 rfl rfl)
theorem dX0_layFits_203 : decode cX0_layFits 203 = .ok (.goto (-32), 3) := dk_167 255 224 (dk_at dksX0_layFits_8 16 rfl rfl)
theorem dX0_layFits_206 : decode cX0_layFits 206 = .ok (.iinc 3 1, 3) := dk_132 3 1 (dk_at dksX0_layFits_8 19 rfl rfl)
theorem dX0_layFits_209 : decode cX0_layFits 209 = .ok (.goto (-170), 3) := dk_167 255 86 (dk_at dksX0_layFits_9 0 rfl rfl)
theorem dX0_layFits_212 : decode cX0_layFits 212 = .ok (.return_, 1) := dk_177 (dk_at dksX0_layFits_9 3 rfl rfl)
abbrev cX0_doesFit : ByteArray := prog_1_method_70_code
def yX0_doesFit : MethodName := ⟨RX0, "doesFit", "(II)Z"⟩
def dkwX0_doesFit_4 : List UInt8 := [161, 0, 7, 4, 167, 0, 4, 3, 25, 4, 180, 1, 176, 159, 0, 5, 3, 172, 167, 255, 156, 4, 172]
abbrev dktX0_doesFit_4 : List UInt8 := dkwX0_doesFit_4 ++ []
def dkwX0_doesFit_3 : List UInt8 := [180, 0, 99, 16, 6, 27, 104, 25, 4, 180, 1, 171, 96, 46, 54, 5, 21, 5, 25, 4, 180, 1, 173]
abbrev dktX0_doesFit_3 : List UInt8 := dkwX0_doesFit_3 ++ dktX0_doesFit_4
def dkwX0_doesFit_2 : List UInt8 := [153, 0, 21, 42, 180, 0, 102, 16, 6, 27, 104, 25, 4, 180, 1, 171, 96, 46, 167, 0, 18, 42]
abbrev dktX0_doesFit_2 : List UInt8 := dkwX0_doesFit_2 ++ dktX0_doesFit_3
def dkwX0_doesFit_1 : List UInt8 := [192, 1, 135, 58, 4, 25, 4, 28, 182, 1, 164, 154, 0, 6, 167, 255, 227, 25, 4, 180, 1, 167]
abbrev dktX0_doesFit_1 : List UInt8 := dkwX0_doesFit_1 ++ dktX0_doesFit_2
def dkwX0_doesFit_0 : List UInt8 := [42, 180, 0, 96, 182, 1, 151, 78, 45, 185, 1, 155, 1, 0, 153, 0, 97, 45, 185, 1, 160, 1, 0]
abbrev dktX0_doesFit_0 : List UInt8 := dkwX0_doesFit_0 ++ dktX0_doesFit_1
theorem dksX0_doesFit_0 : cX0_doesFit.data.toList.drop 0 = dktX0_doesFit_0 := by decide +kernel
theorem dksX0_doesFit_1 : cX0_doesFit.data.toList.drop 23 = dktX0_doesFit_1 := dk_seg dksX0_doesFit_0 23 rfl rfl
theorem dksX0_doesFit_2 : cX0_doesFit.data.toList.drop 45 = dktX0_doesFit_2 := dk_seg dksX0_doesFit_1 22 rfl rfl
theorem dksX0_doesFit_3 : cX0_doesFit.data.toList.drop 67 = dktX0_doesFit_3 := dk_seg dksX0_doesFit_2 22 rfl rfl
theorem dksX0_doesFit_4 : cX0_doesFit.data.toList.drop 90 = dktX0_doesFit_4 := dk_seg dksX0_doesFit_3 23 rfl rfl
theorem dX0_doesFit_0 : decode cX0_doesFit 0 = .ok (.aload_n 0, 1) := dk_42 (dk_at dksX0_doesFit_0 0 rfl rfl)
theorem dX0_doesFit_1 : decode cX0_doesFit 1 = .ok (.getfield 96, 3) := dk_180 0 96 (dk_at dksX0_doesFit_0 1 rfl rfl)
theorem dX0_doesFit_4 : decode cX0_doesFit 4 = .ok (.invokevirtual 407, 3) := dk_182 1 151 (dk_at dksX0_doesFit_0 4 rfl rfl)
theorem dX0_doesFit_7 : decode cX0_doesFit 7 = .ok (.astore_n 3, 1) := dk_78 (dk_at dksX0_doesFit_0 7 rfl rfl)
theorem dX0_doesFit_8 : decode cX0_doesFit 8 = .ok (.aload_n 3, 1) := dk_45 (dk_at dksX0_doesFit_0 8 rfl rfl)
theorem dX0_doesFit_9 : decode cX0_doesFit 9 = .ok (.invokeinterface 411 1, 5) := by decide +kernel
theorem dX0_doesFit_14 : decode cX0_doesFit 14 = .ok (.ifCond .eq 97, 3) := dk_153 0 97 (dk_at dksX0_doesFit_0 14 rfl rfl)
theorem dX0_doesFit_17 : decode cX0_doesFit 17 = .ok (.aload_n 3, 1) := dk_45 (dk_at dksX0_doesFit_0 17 rfl rfl)
theorem dX0_doesFit_18 : decode cX0_doesFit 18 = .ok (.invokeinterface 416 1, 5) := by decide +kernel
theorem dX0_doesFit_23 : decode cX0_doesFit 23 = .ok (.checkcast 391, 3) := dk_192 1 135 (dk_at dksX0_doesFit_1 0 rfl rfl)
theorem dX0_doesFit_26 : decode cX0_doesFit 26 = .ok (.astore 4, 2) := dk_58 4 (dk_at dksX0_doesFit_1 3 rfl rfl)
theorem dX0_doesFit_28 : decode cX0_doesFit 28 = .ok (.aload 4, 2) := dk_25 4 (dk_at dksX0_doesFit_1 5 rfl rfl)
theorem dX0_doesFit_30 : decode cX0_doesFit 30 = .ok (.iload_n 2, 1) := dk_28 (dk_at dksX0_doesFit_1 7 rfl rfl)
theorem dX0_doesFit_31 : decode cX0_doesFit 31 = .ok (.invokevirtual 420, 3) := dk_182 1 164 (dk_at dksX0_doesFit_1 8 rfl rfl)
theorem dX0_doesFit_34 : decode cX0_doesFit 34 = .ok (.ifCond .ne 6, 3) := dk_154 0 6 (dk_at dksX0_doesFit_1 11 rfl rfl)
theorem dX0_doesFit_37 : decode cX0_doesFit 37 = .ok (.goto (-29), 3) := dk_167 255 227 (dk_at dksX0_doesFit_1 14 rfl rfl)
theorem dX0_doesFit_40 : decode cX0_doesFit 40 = .ok (.aload 4, 2) := dk_25 4 (dk_at dksX0_doesFit_1 17 rfl rfl)
theorem dX0_doesFit_42 : decode cX0_doesFit 42 = .ok (.getfield 423, 3) := dk_180 1 167 (dk_at dksX0_doesFit_1 19 rfl rfl)
theorem dX0_doesFit_45 : decode cX0_doesFit 45 = .ok (.ifCond .eq 21, 3) := dk_153 0 21 (dk_at dksX0_doesFit_2 0 rfl rfl)
theorem dX0_doesFit_48 : decode cX0_doesFit 48 = .ok (.aload_n 0, 1) := dk_42 (dk_at dksX0_doesFit_2 3 rfl rfl)
theorem dX0_doesFit_49 : decode cX0_doesFit 49 = .ok (.getfield 102, 3) := dk_180 0 102 (dk_at dksX0_doesFit_2 4 rfl rfl)
theorem dX0_doesFit_52 : decode cX0_doesFit 52 = .ok (.bipush 6, 2) := dk_16 6 (dk_at dksX0_doesFit_2 7 rfl rfl)
theorem dX0_doesFit_54 : decode cX0_doesFit 54 = .ok (.iload_n 1, 1) := dk_27 (dk_at dksX0_doesFit_2 9 rfl rfl)
theorem dX0_doesFit_55 : decode cX0_doesFit 55 = .ok (.imul, 1) := dk_104 (dk_at dksX0_doesFit_2 10 rfl rfl)
theorem dX0_doesFit_56 : decode cX0_doesFit 56 = .ok (.aload 4, 2) := dk_25 4 (dk_at dksX0_doesFit_2 11 rfl rfl)
theorem dX0_doesFit_58 : decode cX0_doesFit 58 = .ok (.getfield 427, 3) := dk_180 1 171 (dk_at dksX0_doesFit_2 13 rfl rfl)
theorem dX0_doesFit_61 : decode cX0_doesFit 61 = .ok (.iadd, 1) := dk_96 (dk_at dksX0_doesFit_2 16 rfl rfl)
theorem dX0_doesFit_62 : decode cX0_doesFit 62 = .ok (.iaload, 1) := dk_46 (dk_at dksX0_doesFit_2 17 rfl rfl)
theorem dX0_doesFit_63 : decode cX0_doesFit 63 = .ok (.goto 18, 3) := dk_167 0 18 (dk_at dksX0_doesFit_2 18 rfl rfl)
theorem dX0_doesFit_66 : decode cX0_doesFit 66 = .ok (.aload_n 0, 1) := dk_42 (dk_at dksX0_doesFit_2 21 rfl rfl)
theorem dX0_doesFit_67 : decode cX0_doesFit 67 = .ok (.getfield 99, 3) := dk_180 0 99 (dk_at dksX0_doesFit_3 0 rfl rfl)
theorem dX0_doesFit_70 : decode cX0_doesFit 70 = .ok (.bipush 6, 2) := dk_16 6 (dk_at dksX0_doesFit_3 3 rfl rfl)
theorem dX0_doesFit_72 : decode cX0_doesFit 72 = .ok (.iload_n 1, 1) := dk_27 (dk_at dksX0_doesFit_3 5 rfl rfl)
theorem dX0_doesFit_73 : decode cX0_doesFit 73 = .ok (.imul, 1) := dk_104 (dk_at dksX0_doesFit_3 6 rfl rfl)
theorem dX0_doesFit_74 : decode cX0_doesFit 74 = .ok (.aload 4, 2) := dk_25 4 (dk_at dksX0_doesFit_3 7 rfl rfl)
theorem dX0_doesFit_76 : decode cX0_doesFit 76 = .ok (.getfield 427, 3) := dk_180 1 171 (dk_at dksX0_doesFit_3 9 rfl rfl)
theorem dX0_doesFit_79 : decode cX0_doesFit 79 = .ok (.iadd, 1) := dk_96 (dk_at dksX0_doesFit_3 12 rfl rfl)
theorem dX0_doesFit_80 : decode cX0_doesFit 80 = .ok (.iaload, 1) := dk_46 (dk_at dksX0_doesFit_3 13 rfl rfl)
theorem dX0_doesFit_81 : decode cX0_doesFit 81 = .ok (.istore 5, 2) := dk_54 5 (dk_at dksX0_doesFit_3 14 rfl rfl)
theorem dX0_doesFit_83 : decode cX0_doesFit 83 = .ok (.iload 5, 2) := dk_21 5 (dk_at dksX0_doesFit_3 16 rfl rfl)
theorem dX0_doesFit_85 : decode cX0_doesFit 85 = .ok (.aload 4, 2) := dk_25 4 (dk_at dksX0_doesFit_3 18 rfl rfl)
theorem dX0_doesFit_87 : decode cX0_doesFit 87 = .ok (.getfield 429, 3) := dk_180 1 173 (dk_at dksX0_doesFit_3 20 rfl rfl)
theorem dX0_doesFit_90 : decode cX0_doesFit 90 = .ok (.if_icmp .lt 7, 3) := dk_161 0 7 (dk_at dksX0_doesFit_4 0 rfl rfl)
theorem dX0_doesFit_93 : decode cX0_doesFit 93 = .ok (.iconst 1, 1) := dk_4 (dk_at dksX0_doesFit_4 3 rfl rfl)
theorem dX0_doesFit_94 : decode cX0_doesFit 94 = .ok (.goto 4, 3) := dk_167 0 4 (dk_at dksX0_doesFit_4 4 rfl rfl)
theorem dX0_doesFit_97 : decode cX0_doesFit 97 = .ok (.iconst 0, 1) := dk_3 (dk_at dksX0_doesFit_4 7 rfl rfl)
theorem dX0_doesFit_98 : decode cX0_doesFit 98 = .ok (.aload 4, 2) := dk_25 4 (dk_at dksX0_doesFit_4 8 rfl rfl)
theorem dX0_doesFit_100 : decode cX0_doesFit 100 = .ok (.getfield 432, 3) := dk_180 1 176 (dk_at dksX0_doesFit_4 10 rfl rfl)
theorem dX0_doesFit_103 : decode cX0_doesFit 103 = .ok (.if_icmp .eq 5, 3) := dk_159 0 5 (dk_at dksX0_doesFit_4 13 rfl rfl)
theorem dX0_doesFit_106 : decode cX0_doesFit 106 = .ok (.iconst 0, 1) := dk_3 (dk_at dksX0_doesFit_4 16 rfl rfl)
theorem dX0_doesFit_107 : decode cX0_doesFit 107 = .ok (.ireturn, 1) := dk_172 (dk_at dksX0_doesFit_4 17 rfl rfl)
theorem dX0_doesFit_108 : decode cX0_doesFit 108 = .ok (.goto (-100), 3) := dk_167 255 156 (dk_at dksX0_doesFit_4 18 rfl rfl)
theorem dX0_doesFit_111 : decode cX0_doesFit 111 = .ok (.iconst 1, 1) := dk_4 (dk_at dksX0_doesFit_4 21 rfl rfl)
theorem dX0_doesFit_112 : decode cX0_doesFit 112 = .ok (.ireturn, 1) := dk_172 (dk_at dksX0_doesFit_4 22 rfl rfl)
abbrev cX0_sure : ByteArray := prog_1_method_73_code
def yX0_sure : MethodName := ⟨RX0, "sure", "(II)I"⟩
def dkwX0_sure_2 : List UInt8 := [104, 29, 96, 4, 96, 46, 42, 180, 1, 179, 160, 0, 5, 29, 172, 132, 3, 1, 167, 255, 225, 16, 254, 172]
abbrev dktX0_sure_2 : List UInt8 := dkwX0_sure_2 ++ []
def dkwX0_sure_1 : List UInt8 := [180, 1, 179, 154, 0, 6, 16, 253, 172, 2, 62, 29, 5, 162, 0, 32, 42, 180, 0, 105, 6, 27, 4, 100]
abbrev dktX0_sure_1 : List UInt8 := dkwX0_sure_1 ++ dktX0_sure_2
def dkwX0_sure_0 : List UInt8 := [27, 4, 42, 180, 0, 19, 180, 0, 240, 184, 0, 160, 154, 0, 6, 16, 253, 172, 42, 28, 182, 1, 185, 42]
abbrev dktX0_sure_0 : List UInt8 := dkwX0_sure_0 ++ dktX0_sure_1
theorem dksX0_sure_0 : cX0_sure.data.toList.drop 0 = dktX0_sure_0 := by decide +kernel
theorem dksX0_sure_1 : cX0_sure.data.toList.drop 24 = dktX0_sure_1 := dk_seg dksX0_sure_0 24 rfl rfl
theorem dksX0_sure_2 : cX0_sure.data.toList.drop 48 = dktX0_sure_2 := dk_seg dksX0_sure_1 24 rfl rfl
theorem dX0_sure_0 : decode cX0_sure 0 = .ok (.iload_n 1, 1) := dk_27 (dk_at dksX0_sure_0 0 rfl rfl)
theorem dX0_sure_1 : decode cX0_sure 1 = .ok (.iconst 1, 1) := dk_4 (dk_at dksX0_sure_0 1 rfl rfl)
theorem dX0_sure_2 : decode cX0_sure 2 = .ok (.aload_n 0, 1) := dk_42 (dk_at dksX0_sure_0 2 rfl rfl)
theorem dX0_sure_3 : decode cX0_sure 3 = .ok (.getfield 19, 3) := dk_180 0 19 (dk_at dksX0_sure_0 3 rfl rfl)
theorem dX0_sure_6 : decode cX0_sure 6 = .ok (.getfield 240, 3) := dk_180 0 240 (dk_at dksX0_sure_0 6 rfl rfl)
theorem dX0_sure_9 : decode cX0_sure 9 = .ok (.invokestatic 160, 3) := dk_184 0 160 (dk_at dksX0_sure_0 9 rfl rfl)
theorem dX0_sure_12 : decode cX0_sure 12 = .ok (.ifCond .ne 6, 3) := dk_154 0 6 (dk_at dksX0_sure_0 12 rfl rfl)
theorem dX0_sure_15 : decode cX0_sure 15 = .ok (.bipush (-3), 2) := dk_16 253 (dk_at dksX0_sure_0 15 rfl rfl)
theorem dX0_sure_17 : decode cX0_sure 17 = .ok (.ireturn, 1) := dk_172 (dk_at dksX0_sure_0 17 rfl rfl)
theorem dX0_sure_18 : decode cX0_sure 18 = .ok (.aload_n 0, 1) := dk_42 (dk_at dksX0_sure_0 18 rfl rfl)
theorem dX0_sure_19 : decode cX0_sure 19 = .ok (.iload_n 2, 1) := dk_28 (dk_at dksX0_sure_0 19 rfl rfl)
theorem dX0_sure_20 : decode cX0_sure 20 = .ok (.invokevirtual 441, 3) := dk_182 1 185 (dk_at dksX0_sure_0 20 rfl rfl)
theorem dX0_sure_23 : decode cX0_sure 23 = .ok (.aload_n 0, 1) := dk_42 (dk_at dksX0_sure_0 23 rfl rfl)
theorem dX0_sure_24 : decode cX0_sure 24 = .ok (.getfield 435, 3) := dk_180 1 179 (dk_at dksX0_sure_1 0 rfl rfl)
theorem dX0_sure_27 : decode cX0_sure 27 = .ok (.ifCond .ne 6, 3) := dk_154 0 6 (dk_at dksX0_sure_1 3 rfl rfl)
theorem dX0_sure_30 : decode cX0_sure 30 = .ok (.bipush (-3), 2) := dk_16 253 (dk_at dksX0_sure_1 6 rfl rfl)
theorem dX0_sure_32 : decode cX0_sure 32 = .ok (.ireturn, 1) := dk_172 (dk_at dksX0_sure_1 8 rfl rfl)
theorem dX0_sure_33 : decode cX0_sure 33 = .ok (.iconst (-1), 1) := dk_2 (dk_at dksX0_sure_1 9 rfl rfl)
theorem dX0_sure_34 : decode cX0_sure 34 = .ok (.istore_n 3, 1) := dk_62 (dk_at dksX0_sure_1 10 rfl rfl)
theorem dX0_sure_35 : decode cX0_sure 35 = .ok (.iload_n 3, 1) := dk_29 (dk_at dksX0_sure_1 11 rfl rfl)
theorem dX0_sure_36 : decode cX0_sure 36 = .ok (.iconst 2, 1) := dk_5 (dk_at dksX0_sure_1 12 rfl rfl)
theorem dX0_sure_37 : decode cX0_sure 37 = .ok (.if_icmp .ge 32, 3) := dk_162 0 32 (dk_at dksX0_sure_1 13 rfl rfl)
theorem dX0_sure_40 : decode cX0_sure 40 = .ok (.aload_n 0, 1) := dk_42 (dk_at dksX0_sure_1 16 rfl rfl)
theorem dX0_sure_41 : decode cX0_sure 41 = .ok (.getfield 105, 3) := dk_180 0 105 (dk_at dksX0_sure_1 17 rfl rfl)
theorem dX0_sure_44 : decode cX0_sure 44 = .ok (.iconst 3, 1) := dk_6 (dk_at dksX0_sure_1 20 rfl rfl)
theorem dX0_sure_45 : decode cX0_sure 45 = .ok (.iload_n 1, 1) := dk_27 (dk_at dksX0_sure_1 21 rfl rfl)
theorem dX0_sure_46 : decode cX0_sure 46 = .ok (.iconst 1, 1) := dk_4 (dk_at dksX0_sure_1 22 rfl rfl)
theorem dX0_sure_47 : decode cX0_sure 47 = .ok (.isub, 1) := dk_100 (dk_at dksX0_sure_1 23 rfl rfl)
theorem dX0_sure_48 : decode cX0_sure 48 = .ok (.imul, 1) := dk_104 (dk_at dksX0_sure_2 0 rfl rfl)
theorem dX0_sure_49 : decode cX0_sure 49 = .ok (.iload_n 3, 1) := dk_29 (dk_at dksX0_sure_2 1 rfl rfl)
theorem dX0_sure_50 : decode cX0_sure 50 = .ok (.iadd, 1) := dk_96 (dk_at dksX0_sure_2 2 rfl rfl)
theorem dX0_sure_51 : decode cX0_sure 51 = .ok (.iconst 1, 1) := dk_4 (dk_at dksX0_sure_2 3 rfl rfl)
theorem dX0_sure_52 : decode cX0_sure 52 = .ok (.iadd, 1) := dk_96 (dk_at dksX0_sure_2 4 rfl rfl)
theorem dX0_sure_53 : decode cX0_sure 53 = .ok (.iaload, 1) := dk_46 (dk_at dksX0_sure_2 5 rfl rfl)
theorem dX0_sure_54 : decode cX0_sure 54 = .ok (.aload_n 0, 1) := dk_42 (dk_at dksX0_sure_2 6 rfl rfl)
theorem dX0_sure_55 : decode cX0_sure 55 = .ok (.getfield 435, 3) := dk_180 1 179 (dk_at dksX0_sure_2 7 rfl rfl)
theorem dX0_sure_58 : decode cX0_sure 58 = .ok (.if_icmp .ne 5, 3) := dk_160 0 5 (dk_at dksX0_sure_2 10 rfl rfl)
theorem dX0_sure_61 : decode cX0_sure 61 = .ok (.iload_n 3, 1) := dk_29 (dk_at dksX0_sure_2 13 rfl rfl)
theorem dX0_sure_62 : decode cX0_sure 62 = .ok (.ireturn, 1) := dk_172 (dk_at dksX0_sure_2 14 rfl rfl)
theorem dX0_sure_63 : decode cX0_sure 63 = .ok (.iinc 3 1, 3) := dk_132 3 1 (dk_at dksX0_sure_2 15 rfl rfl)
theorem dX0_sure_66 : decode cX0_sure 66 = .ok (.goto (-31), 3) := dk_167 255 225 (dk_at dksX0_sure_2 18 rfl rfl)
theorem dX0_sure_69 : decode cX0_sure 69 = .ok (.bipush (-2), 2) := dk_16 254 (dk_at dksX0_sure_2 21 rfl rfl)
theorem dX0_sure_71 : decode cX0_sure 71 = .ok (.ireturn, 1) := dk_172 (dk_at dksX0_sure_2 23 rfl rfl)
abbrev cX0_ask : ByteArray := prog_1_method_75_code
def yX0_ask : MethodName := ⟨RX0, "ask", "(II)I"⟩
def dkwX0_ask_3 : List UInt8 := [167, 0, 8, 42, 29, 182, 1, 188, 172]
abbrev dktX0_ask_3 : List UInt8 := dkwX0_ask_3 ++ []
def dkwX0_ask_2 : List UInt8 := [42, 29, 182, 1, 188, 162, 0, 6, 21, 4, 62, 132, 4, 1, 167, 255, 224, 27, 154, 0, 9, 29, 4, 96]
abbrev dktX0_ask_2 : List UInt8 := dkwX0_ask_2 ++ dktX0_ask_3
def dkwX0_ask_1 : List UInt8 := [172, 3, 62, 4, 54, 4, 21, 4, 42, 180, 0, 19, 180, 0, 240, 162, 0, 26, 42, 21, 4, 182, 1, 188]
abbrev dktX0_ask_1 : List UInt8 := dkwX0_ask_1 ++ dktX0_ask_2
def dkwX0_ask_0 : List UInt8 := [27, 3, 4, 184, 0, 160, 154, 0, 5, 2, 172, 42, 28, 182, 1, 185, 42, 180, 1, 179, 154, 0, 5, 2]
abbrev dktX0_ask_0 : List UInt8 := dkwX0_ask_0 ++ dktX0_ask_1
theorem dksX0_ask_0 : cX0_ask.data.toList.drop 0 = dktX0_ask_0 := by decide +kernel
theorem dksX0_ask_1 : cX0_ask.data.toList.drop 24 = dktX0_ask_1 := dk_seg dksX0_ask_0 24 rfl rfl
theorem dksX0_ask_2 : cX0_ask.data.toList.drop 48 = dktX0_ask_2 := dk_seg dksX0_ask_1 24 rfl rfl
theorem dksX0_ask_3 : cX0_ask.data.toList.drop 72 = dktX0_ask_3 := dk_seg dksX0_ask_2 24 rfl rfl
theorem dX0_ask_0 : decode cX0_ask 0 = .ok (.iload_n 1, 1) := dk_27 (dk_at dksX0_ask_0 0 rfl rfl)
theorem dX0_ask_1 : decode cX0_ask 1 = .ok (.iconst 0, 1) := dk_3 (dk_at dksX0_ask_0 1 rfl rfl)
theorem dX0_ask_2 : decode cX0_ask 2 = .ok (.iconst 1, 1) := dk_4 (dk_at dksX0_ask_0 2 rfl rfl)
theorem dX0_ask_3 : decode cX0_ask 3 = .ok (.invokestatic 160, 3) := dk_184 0 160 (dk_at dksX0_ask_0 3 rfl rfl)
theorem dX0_ask_6 : decode cX0_ask 6 = .ok (.ifCond .ne 5, 3) := dk_154 0 5 (dk_at dksX0_ask_0 6 rfl rfl)
theorem dX0_ask_9 : decode cX0_ask 9 = .ok (.iconst (-1), 1) := dk_2 (dk_at dksX0_ask_0 9 rfl rfl)
theorem dX0_ask_10 : decode cX0_ask 10 = .ok (.ireturn, 1) := dk_172 (dk_at dksX0_ask_0 10 rfl rfl)
theorem dX0_ask_11 : decode cX0_ask 11 = .ok (.aload_n 0, 1) := dk_42 (dk_at dksX0_ask_0 11 rfl rfl)
theorem dX0_ask_12 : decode cX0_ask 12 = .ok (.iload_n 2, 1) := dk_28 (dk_at dksX0_ask_0 12 rfl rfl)
theorem dX0_ask_13 : decode cX0_ask 13 = .ok (.invokevirtual 441, 3) := dk_182 1 185 (dk_at dksX0_ask_0 13 rfl rfl)
theorem dX0_ask_16 : decode cX0_ask 16 = .ok (.aload_n 0, 1) := dk_42 (dk_at dksX0_ask_0 16 rfl rfl)
theorem dX0_ask_17 : decode cX0_ask 17 = .ok (.getfield 435, 3) := dk_180 1 179 (dk_at dksX0_ask_0 17 rfl rfl)
theorem dX0_ask_20 : decode cX0_ask 20 = .ok (.ifCond .ne 5, 3) := dk_154 0 5 (dk_at dksX0_ask_0 20 rfl rfl)
theorem dX0_ask_23 : decode cX0_ask 23 = .ok (.iconst (-1), 1) := dk_2 (dk_at dksX0_ask_0 23 rfl rfl)
theorem dX0_ask_24 : decode cX0_ask 24 = .ok (.ireturn, 1) := dk_172 (dk_at dksX0_ask_1 0 rfl rfl)
theorem dX0_ask_25 : decode cX0_ask 25 = .ok (.iconst 0, 1) := dk_3 (dk_at dksX0_ask_1 1 rfl rfl)
theorem dX0_ask_26 : decode cX0_ask 26 = .ok (.istore_n 3, 1) := dk_62 (dk_at dksX0_ask_1 2 rfl rfl)
theorem dX0_ask_27 : decode cX0_ask 27 = .ok (.iconst 1, 1) := dk_4 (dk_at dksX0_ask_1 3 rfl rfl)
theorem dX0_ask_28 : decode cX0_ask 28 = .ok (.istore 4, 2) := dk_54 4 (dk_at dksX0_ask_1 4 rfl rfl)
theorem dX0_ask_30 : decode cX0_ask 30 = .ok (.iload 4, 2) := dk_21 4 (dk_at dksX0_ask_1 6 rfl rfl)
theorem dX0_ask_32 : decode cX0_ask 32 = .ok (.aload_n 0, 1) := dk_42 (dk_at dksX0_ask_1 8 rfl rfl)
theorem dX0_ask_33 : decode cX0_ask 33 = .ok (.getfield 19, 3) := dk_180 0 19 (dk_at dksX0_ask_1 9 rfl rfl)
theorem dX0_ask_36 : decode cX0_ask 36 = .ok (.getfield 240, 3) := dk_180 0 240 (dk_at dksX0_ask_1 12 rfl rfl)
theorem dX0_ask_39 : decode cX0_ask 39 = .ok (.if_icmp .ge 26, 3) := dk_162 0 26 (dk_at dksX0_ask_1 15 rfl rfl)
theorem dX0_ask_42 : decode cX0_ask 42 = .ok (.aload_n 0, 1) := dk_42 (dk_at dksX0_ask_1 18 rfl rfl)
theorem dX0_ask_43 : decode cX0_ask 43 = .ok (.iload 4, 2) := dk_21 4 (dk_at dksX0_ask_1 19 rfl rfl)
theorem dX0_ask_45 : decode cX0_ask 45 = .ok (.invokevirtual 444, 3) := dk_182 1 188 (dk_at dksX0_ask_1 21 rfl rfl)
theorem dX0_ask_48 : decode cX0_ask 48 = .ok (.aload_n 0, 1) := dk_42 (dk_at dksX0_ask_2 0 rfl rfl)
theorem dX0_ask_49 : decode cX0_ask 49 = .ok (.iload_n 3, 1) := dk_29 (dk_at dksX0_ask_2 1 rfl rfl)
theorem dX0_ask_50 : decode cX0_ask 50 = .ok (.invokevirtual 444, 3) := dk_182 1 188 (dk_at dksX0_ask_2 2 rfl rfl)
theorem dX0_ask_53 : decode cX0_ask 53 = .ok (.if_icmp .ge 6, 3) := dk_162 0 6 (dk_at dksX0_ask_2 5 rfl rfl)
theorem dX0_ask_56 : decode cX0_ask 56 = .ok (.iload 4, 2) := dk_21 4 (dk_at dksX0_ask_2 8 rfl rfl)
theorem dX0_ask_58 : decode cX0_ask 58 = .ok (.istore_n 3, 1) := dk_62 (dk_at dksX0_ask_2 10 rfl rfl)
theorem dX0_ask_59 : decode cX0_ask 59 = .ok (.iinc 4 1, 3) := dk_132 4 1 (dk_at dksX0_ask_2 11 rfl rfl)
theorem dX0_ask_62 : decode cX0_ask 62 = .ok (.goto (-32), 3) := dk_167 255 224 (dk_at dksX0_ask_2 14 rfl rfl)
theorem dX0_ask_65 : decode cX0_ask 65 = .ok (.iload_n 1, 1) := dk_27 (dk_at dksX0_ask_2 17 rfl rfl)
theorem dX0_ask_66 : decode cX0_ask 66 = .ok (.ifCond .ne 9, 3) := dk_154 0 9 (dk_at dksX0_ask_2 18 rfl rfl)
theorem dX0_ask_69 : decode cX0_ask 69 = .ok (.iload_n 3, 1) := dk_29 (dk_at dksX0_ask_2 21 rfl rfl)
theorem dX0_ask_70 : decode cX0_ask 70 = .ok (.iconst 1, 1) := dk_4 (dk_at dksX0_ask_2 22 rfl rfl)
theorem dX0_ask_71 : decode cX0_ask 71 = .ok (.iadd, 1) := dk_96 (dk_at dksX0_ask_2 23 rfl rfl)
theorem dX0_ask_72 : decode cX0_ask 72 = .ok (.goto 8, 3) := dk_167 0 8 (dk_at dksX0_ask_3 0 rfl rfl)
theorem dX0_ask_75 : decode cX0_ask 75 = .ok (.aload_n 0, 1) := dk_42 (dk_at dksX0_ask_3 3 rfl rfl)
theorem dX0_ask_76 : decode cX0_ask 76 = .ok (.iload_n 3, 1) := dk_29 (dk_at dksX0_ask_3 4 rfl rfl)
theorem dX0_ask_77 : decode cX0_ask 77 = .ok (.invokevirtual 444, 3) := dk_182 1 188 (dk_at dksX0_ask_3 5 rfl rfl)
theorem dX0_ask_80 : decode cX0_ask 80 = .ok (.ireturn, 1) := dk_172 (dk_at dksX0_ask_3 8 rfl rfl)
abbrev cX0_mostOf : ByteArray := prog_1_method_74_code
def yX0_mostOf : MethodName := ⟨RX0, "mostOf", "(I)I"⟩
def dkwX0_mostOf_1 : List UInt8 := [104, 5, 96, 46, 184, 0, 7, 184, 0, 7, 172]
abbrev dktX0_mostOf_1 : List UInt8 := dkwX0_mostOf_1 ++ []
def dkwX0_mostOf_0 : List UInt8 := [42, 180, 0, 105, 6, 27, 104, 46, 42, 180, 0, 105, 6, 27, 104, 4, 96, 46, 42, 180, 0, 105, 6, 27]
abbrev dktX0_mostOf_0 : List UInt8 := dkwX0_mostOf_0 ++ dktX0_mostOf_1
theorem dksX0_mostOf_0 : cX0_mostOf.data.toList.drop 0 = dktX0_mostOf_0 := by decide +kernel
theorem dksX0_mostOf_1 : cX0_mostOf.data.toList.drop 24 = dktX0_mostOf_1 := dk_seg dksX0_mostOf_0 24 rfl rfl
theorem dX0_mostOf_0 : decode cX0_mostOf 0 = .ok (.aload_n 0, 1) := dk_42 (dk_at dksX0_mostOf_0 0 rfl rfl)
theorem dX0_mostOf_1 : decode cX0_mostOf 1 = .ok (.getfield 105, 3) := dk_180 0 105 (dk_at dksX0_mostOf_0 1 rfl rfl)
theorem dX0_mostOf_4 : decode cX0_mostOf 4 = .ok (.iconst 3, 1) := dk_6 (dk_at dksX0_mostOf_0 4 rfl rfl)
theorem dX0_mostOf_5 : decode cX0_mostOf 5 = .ok (.iload_n 1, 1) := dk_27 (dk_at dksX0_mostOf_0 5 rfl rfl)
theorem dX0_mostOf_6 : decode cX0_mostOf 6 = .ok (.imul, 1) := dk_104 (dk_at dksX0_mostOf_0 6 rfl rfl)
theorem dX0_mostOf_7 : decode cX0_mostOf 7 = .ok (.iaload, 1) := dk_46 (dk_at dksX0_mostOf_0 7 rfl rfl)
theorem dX0_mostOf_8 : decode cX0_mostOf 8 = .ok (.aload_n 0, 1) := dk_42 (dk_at dksX0_mostOf_0 8 rfl rfl)
theorem dX0_mostOf_9 : decode cX0_mostOf 9 = .ok (.getfield 105, 3) := dk_180 0 105 (dk_at dksX0_mostOf_0 9 rfl rfl)
theorem dX0_mostOf_12 : decode cX0_mostOf 12 = .ok (.iconst 3, 1) := dk_6 (dk_at dksX0_mostOf_0 12 rfl rfl)
theorem dX0_mostOf_13 : decode cX0_mostOf 13 = .ok (.iload_n 1, 1) := dk_27 (dk_at dksX0_mostOf_0 13 rfl rfl)
theorem dX0_mostOf_14 : decode cX0_mostOf 14 = .ok (.imul, 1) := dk_104 (dk_at dksX0_mostOf_0 14 rfl rfl)
theorem dX0_mostOf_15 : decode cX0_mostOf 15 = .ok (.iconst 1, 1) := dk_4 (dk_at dksX0_mostOf_0 15 rfl rfl)
theorem dX0_mostOf_16 : decode cX0_mostOf 16 = .ok (.iadd, 1) := dk_96 (dk_at dksX0_mostOf_0 16 rfl rfl)
theorem dX0_mostOf_17 : decode cX0_mostOf 17 = .ok (.iaload, 1) := dk_46 (dk_at dksX0_mostOf_0 17 rfl rfl)
theorem dX0_mostOf_18 : decode cX0_mostOf 18 = .ok (.aload_n 0, 1) := dk_42 (dk_at dksX0_mostOf_0 18 rfl rfl)
theorem dX0_mostOf_19 : decode cX0_mostOf 19 = .ok (.getfield 105, 3) := dk_180 0 105 (dk_at dksX0_mostOf_0 19 rfl rfl)
theorem dX0_mostOf_22 : decode cX0_mostOf 22 = .ok (.iconst 3, 1) := dk_6 (dk_at dksX0_mostOf_0 22 rfl rfl)
theorem dX0_mostOf_23 : decode cX0_mostOf 23 = .ok (.iload_n 1, 1) := dk_27 (dk_at dksX0_mostOf_0 23 rfl rfl)
theorem dX0_mostOf_24 : decode cX0_mostOf 24 = .ok (.imul, 1) := dk_104 (dk_at dksX0_mostOf_1 0 rfl rfl)
theorem dX0_mostOf_25 : decode cX0_mostOf 25 = .ok (.iconst 2, 1) := dk_5 (dk_at dksX0_mostOf_1 1 rfl rfl)
theorem dX0_mostOf_26 : decode cX0_mostOf 26 = .ok (.iadd, 1) := dk_96 (dk_at dksX0_mostOf_1 2 rfl rfl)
theorem dX0_mostOf_27 : decode cX0_mostOf 27 = .ok (.iaload, 1) := dk_46 (dk_at dksX0_mostOf_1 3 rfl rfl)
theorem dX0_mostOf_28 : decode cX0_mostOf 28 = .ok (.invokestatic 7, 3) := dk_184 0 7 (dk_at dksX0_mostOf_1 4 rfl rfl)
theorem dX0_mostOf_31 : decode cX0_mostOf 31 = .ok (.invokestatic 7, 3) := dk_184 0 7 (dk_at dksX0_mostOf_1 7 rfl rfl)
theorem dX0_mostOf_34 : decode cX0_mostOf 34 = .ok (.ireturn, 1) := dk_172 (dk_at dksX0_mostOf_1 10 rfl rfl)
abbrev cX0_image : ByteArray := prog_1_method_76_code
def yX0_image : MethodName := ⟨RX0, "image", "(I)I"⟩
def dkwX0_image_1 : List UInt8 := [181, 0, 130, 42, 182, 1, 129, 184, 1, 84, 172]
abbrev dktX0_image_1 : List UInt8 := dkwX0_image_1 ++ []
def dkwX0_image_0 : List UInt8 := [27, 3, 5, 184, 0, 160, 154, 0, 5, 2, 172, 42, 180, 0, 113, 27, 50, 42, 180, 0, 28, 184, 0, 144]
abbrev dktX0_image_0 : List UInt8 := dkwX0_image_0 ++ dktX0_image_1
theorem dksX0_image_0 : cX0_image.data.toList.drop 0 = dktX0_image_0 := by decide +kernel
theorem dksX0_image_1 : cX0_image.data.toList.drop 24 = dktX0_image_1 := dk_seg dksX0_image_0 24 rfl rfl
theorem dX0_image_0 : decode cX0_image 0 = .ok (.iload_n 1, 1) := dk_27 (dk_at dksX0_image_0 0 rfl rfl)
theorem dX0_image_1 : decode cX0_image 1 = .ok (.iconst 0, 1) := dk_3 (dk_at dksX0_image_0 1 rfl rfl)
theorem dX0_image_2 : decode cX0_image 2 = .ok (.iconst 2, 1) := dk_5 (dk_at dksX0_image_0 2 rfl rfl)
theorem dX0_image_3 : decode cX0_image 3 = .ok (.invokestatic 160, 3) := dk_184 0 160 (dk_at dksX0_image_0 3 rfl rfl)
theorem dX0_image_6 : decode cX0_image 6 = .ok (.ifCond .ne 5, 3) := dk_154 0 5 (dk_at dksX0_image_0 6 rfl rfl)
theorem dX0_image_9 : decode cX0_image 9 = .ok (.iconst (-1), 1) := dk_2 (dk_at dksX0_image_0 9 rfl rfl)
theorem dX0_image_10 : decode cX0_image 10 = .ok (.ireturn, 1) := dk_172 (dk_at dksX0_image_0 10 rfl rfl)
theorem dX0_image_11 : decode cX0_image 11 = .ok (.aload_n 0, 1) := dk_42 (dk_at dksX0_image_0 11 rfl rfl)
theorem dX0_image_12 : decode cX0_image 12 = .ok (.getfield 113, 3) := dk_180 0 113 (dk_at dksX0_image_0 12 rfl rfl)
theorem dX0_image_15 : decode cX0_image 15 = .ok (.iload_n 1, 1) := dk_27 (dk_at dksX0_image_0 15 rfl rfl)
theorem dX0_image_16 : decode cX0_image 16 = .ok (.aaload, 1) := dk_50 (dk_at dksX0_image_0 16 rfl rfl)
theorem dX0_image_17 : decode cX0_image 17 = .ok (.aload_n 0, 1) := dk_42 (dk_at dksX0_image_0 17 rfl rfl)
theorem dX0_image_18 : decode cX0_image 18 = .ok (.getfield 28, 3) := dk_180 0 28 (dk_at dksX0_image_0 18 rfl rfl)
theorem dX0_image_21 : decode cX0_image 21 = .ok (.invokestatic 144, 3) := dk_184 0 144 (dk_at dksX0_image_0 21 rfl rfl)
theorem dX0_image_24 : decode cX0_image 24 = .ok (.putfield 130, 3) := dk_181 0 130 (dk_at dksX0_image_1 0 rfl rfl)
theorem dX0_image_27 : decode cX0_image 27 = .ok (.aload_n 0, 1) := dk_42 (dk_at dksX0_image_1 3 rfl rfl)
theorem dX0_image_28 : decode cX0_image 28 = .ok (.invokevirtual 385, 3) := dk_182 1 129 (dk_at dksX0_image_1 4 rfl rfl)
theorem dX0_image_31 : decode cX0_image 31 = .ok (.invokestatic 340, 3) := dk_184 1 84 (dk_at dksX0_image_1 7 rfl rfl)
theorem dX0_image_34 : decode cX0_image 34 = .ok (.ireturn, 1) := dk_172 (dk_at dksX0_image_1 10 rfl rfl)
abbrev cX0_back : ByteArray := prog_1_method_77_code
def yX0_back : MethodName := ⟨RX0, "back", "(I)I"⟩
def dkwX0_back_2 : List UInt8 := [180, 0, 57, 182, 0, 124, 42, 182, 1, 129, 184, 1, 84, 172]
abbrev dktX0_back_2 : List UInt8 := dkwX0_back_2 ++ []
def dkwX0_back_1 : List UInt8 := [180, 0, 28, 42, 180, 0, 113, 27, 50, 180, 0, 130, 182, 0, 133, 42, 180, 0, 53, 182, 0, 124, 42]
abbrev dktX0_back_1 : List UInt8 := dkwX0_back_1 ++ dktX0_back_2
def dkwX0_back_0 : List UInt8 := [27, 3, 5, 184, 0, 160, 153, 0, 15, 42, 180, 0, 113, 27, 50, 180, 0, 130, 199, 0, 5, 2, 172, 42]
abbrev dktX0_back_0 : List UInt8 := dkwX0_back_0 ++ dktX0_back_1
theorem dksX0_back_0 : cX0_back.data.toList.drop 0 = dktX0_back_0 := by decide +kernel
theorem dksX0_back_1 : cX0_back.data.toList.drop 24 = dktX0_back_1 := dk_seg dksX0_back_0 24 rfl rfl
theorem dksX0_back_2 : cX0_back.data.toList.drop 47 = dktX0_back_2 := dk_seg dksX0_back_1 23 rfl rfl
theorem dX0_back_0 : decode cX0_back 0 = .ok (.iload_n 1, 1) := dk_27 (dk_at dksX0_back_0 0 rfl rfl)
theorem dX0_back_1 : decode cX0_back 1 = .ok (.iconst 0, 1) := dk_3 (dk_at dksX0_back_0 1 rfl rfl)
theorem dX0_back_2 : decode cX0_back 2 = .ok (.iconst 2, 1) := dk_5 (dk_at dksX0_back_0 2 rfl rfl)
theorem dX0_back_3 : decode cX0_back 3 = .ok (.invokestatic 160, 3) := dk_184 0 160 (dk_at dksX0_back_0 3 rfl rfl)
theorem dX0_back_6 : decode cX0_back 6 = .ok (.ifCond .eq 15, 3) := dk_153 0 15 (dk_at dksX0_back_0 6 rfl rfl)
theorem dX0_back_9 : decode cX0_back 9 = .ok (.aload_n 0, 1) := dk_42 (dk_at dksX0_back_0 9 rfl rfl)
theorem dX0_back_10 : decode cX0_back 10 = .ok (.getfield 113, 3) := dk_180 0 113 (dk_at dksX0_back_0 10 rfl rfl)
theorem dX0_back_13 : decode cX0_back 13 = .ok (.iload_n 1, 1) := dk_27 (dk_at dksX0_back_0 13 rfl rfl)
theorem dX0_back_14 : decode cX0_back 14 = .ok (.aaload, 1) := dk_50 (dk_at dksX0_back_0 14 rfl rfl)
theorem dX0_back_15 : decode cX0_back 15 = .ok (.getfield 130, 3) := dk_180 0 130 (dk_at dksX0_back_0 15 rfl rfl)
theorem dX0_back_18 : decode cX0_back 18 = .ok (.ifnonnull 5, 3) := dk_199 0 5 (dk_at dksX0_back_0 18 rfl rfl)
theorem dX0_back_21 : decode cX0_back 21 = .ok (.iconst (-1), 1) := dk_2 (dk_at dksX0_back_0 21 rfl rfl)
theorem dX0_back_22 : decode cX0_back 22 = .ok (.ireturn, 1) := dk_172 (dk_at dksX0_back_0 22 rfl rfl)
theorem dX0_back_23 : decode cX0_back 23 = .ok (.aload_n 0, 1) := dk_42 (dk_at dksX0_back_0 23 rfl rfl)
theorem dX0_back_24 : decode cX0_back 24 = .ok (.getfield 28, 3) := dk_180 0 28 (dk_at dksX0_back_1 0 rfl rfl)
theorem dX0_back_27 : decode cX0_back 27 = .ok (.aload_n 0, 1) := dk_42 (dk_at dksX0_back_1 3 rfl rfl)
theorem dX0_back_28 : decode cX0_back 28 = .ok (.getfield 113, 3) := dk_180 0 113 (dk_at dksX0_back_1 4 rfl rfl)
theorem dX0_back_31 : decode cX0_back 31 = .ok (.iload_n 1, 1) := dk_27 (dk_at dksX0_back_1 7 rfl rfl)
theorem dX0_back_32 : decode cX0_back 32 = .ok (.aaload, 1) := dk_50 (dk_at dksX0_back_1 8 rfl rfl)
theorem dX0_back_33 : decode cX0_back 33 = .ok (.getfield 130, 3) := dk_180 0 130 (dk_at dksX0_back_1 9 rfl rfl)
theorem dX0_back_36 : decode cX0_back 36 = .ok (.invokevirtual 133, 3) := dk_182 0 133 (dk_at dksX0_back_1 12 rfl rfl)
theorem dX0_back_39 : decode cX0_back 39 = .ok (.aload_n 0, 1) := dk_42 (dk_at dksX0_back_1 15 rfl rfl)
theorem dX0_back_40 : decode cX0_back 40 = .ok (.getfield 53, 3) := dk_180 0 53 (dk_at dksX0_back_1 16 rfl rfl)
theorem dX0_back_43 : decode cX0_back 43 = .ok (.invokevirtual 124, 3) := dk_182 0 124 (dk_at dksX0_back_1 19 rfl rfl)
theorem dX0_back_46 : decode cX0_back 46 = .ok (.aload_n 0, 1) := dk_42 (dk_at dksX0_back_1 22 rfl rfl)
theorem dX0_back_47 : decode cX0_back 47 = .ok (.getfield 57, 3) := dk_180 0 57 (dk_at dksX0_back_2 0 rfl rfl)
theorem dX0_back_50 : decode cX0_back 50 = .ok (.invokevirtual 124, 3) := dk_182 0 124 (dk_at dksX0_back_2 3 rfl rfl)
theorem dX0_back_53 : decode cX0_back 53 = .ok (.aload_n 0, 1) := dk_42 (dk_at dksX0_back_2 6 rfl rfl)
theorem dX0_back_54 : decode cX0_back 54 = .ok (.invokevirtual 385, 3) := dk_182 1 129 (dk_at dksX0_back_2 7 rfl rfl)
theorem dX0_back_57 : decode cX0_back 57 = .ok (.invokestatic 340, 3) := dk_184 1 84 (dk_at dksX0_back_2 10 rfl rfl)
theorem dX0_back_60 : decode cX0_back 60 = .ok (.ireturn, 1) := dk_172 (dk_at dksX0_back_2 13 rfl rfl)
abbrev cX0_about : ByteArray := prog_1_method_78_code
def yX0_about : MethodName := ⟨RX0, "about", "(I)I"⟩
def dkwX0_about_5 : List UInt8 := [172, 42, 180, 0, 166, 172, 42, 180, 0, 19, 180, 1, 191, 172, 42, 180, 0, 127, 172, 2, 172]
abbrev dktX0_about_5 : List UInt8 := dkwX0_about_5 ++ []
def dkwX0_about_4 : List UInt8 := [182, 0, 136, 172, 42, 180, 0, 57, 182, 0, 136, 172, 42, 180, 0, 96, 182, 0, 136, 172, 42, 180, 1, 137]
abbrev dktX0_about_4 : List UInt8 := dkwX0_about_4 ++ dktX0_about_5
def dkwX0_about_3 : List UInt8 := [180, 0, 240, 172, 42, 180, 0, 19, 180, 1, 5, 172, 42, 180, 0, 28, 180, 1, 2, 172, 42, 180, 0, 53]
abbrev dktX0_about_3 : List UInt8 := dkwX0_about_3 ++ dktX0_about_4
def dkwX0_about_2 : List UInt8 := [42, 182, 0, 158, 172, 42, 182, 0, 164, 172, 42, 180, 0, 19, 180, 0, 237, 172, 42, 180, 0, 19]
abbrev dktX0_about_2 : List UInt8 := dkwX0_about_2 ++ dktX0_about_3
def dkwX0_about_1 : List UInt8 := [170, 0, 0, 0, 0, 0, 156, 0, 0, 0, 0, 0, 0, 0, 12, 0, 0, 0, 67, 0, 0, 0, 72, 0, 0, 0, 77, 0, 0, 0, 85, 0, 0, 0, 93, 0, 0, 0, 101, 0, 0, 0, 109, 0, 0, 0, 117, 0, 0, 0, 125, 0, 0, 0, 133, 0, 0, 0, 138, 0, 0, 0, 143, 0, 0, 0, 151]
abbrev dktX0_about_1 : List UInt8 := dkwX0_about_1 ++ dktX0_about_2
def dkwX0_about_0 : List UInt8 := [27]
abbrev dktX0_about_0 : List UInt8 := dkwX0_about_0 ++ dktX0_about_1
theorem dksX0_about_0 : cX0_about.data.toList.drop 0 = dktX0_about_0 := by decide +kernel
theorem dksX0_about_1 : cX0_about.data.toList.drop 1 = dktX0_about_1 := dk_seg dksX0_about_0 1 rfl rfl
theorem dksX0_about_2 : cX0_about.data.toList.drop 68 = dktX0_about_2 := dk_seg dksX0_about_1 67 rfl rfl
theorem dksX0_about_3 : cX0_about.data.toList.drop 90 = dktX0_about_3 := dk_seg dksX0_about_2 22 rfl rfl
theorem dksX0_about_4 : cX0_about.data.toList.drop 114 = dktX0_about_4 := dk_seg dksX0_about_3 24 rfl rfl
theorem dksX0_about_5 : cX0_about.data.toList.drop 138 = dktX0_about_5 := dk_seg dksX0_about_4 24 rfl rfl
theorem dX0_about_0 : decode cX0_about 0 = .ok (.iload_n 1, 1) := dk_27 (dk_at dksX0_about_0 0 rfl rfl)
theorem dX0_about_1 : decode cX0_about 1 = .ok (.tableswitch 156 0 12 #[67, 72, 77, 85, 93, 101, 109, 117, 125, 133, 138, 143, 151], 67) := by decide +kernel
theorem dX0_about_68 : decode cX0_about 68 = .ok (.aload_n 0, 1) := dk_42 (dk_at dksX0_about_2 0 rfl rfl)
theorem dX0_about_69 : decode cX0_about 69 = .ok (.invokevirtual 158, 3) := dk_182 0 158 (dk_at dksX0_about_2 1 rfl rfl)
theorem dX0_about_72 : decode cX0_about 72 = .ok (.ireturn, 1) := dk_172 (dk_at dksX0_about_2 4 rfl rfl)
theorem dX0_about_73 : decode cX0_about 73 = .ok (.aload_n 0, 1) := dk_42 (dk_at dksX0_about_2 5 rfl rfl)
theorem dX0_about_74 : decode cX0_about 74 = .ok (.invokevirtual 164, 3) := dk_182 0 164 (dk_at dksX0_about_2 6 rfl rfl)
theorem dX0_about_77 : decode cX0_about 77 = .ok (.ireturn, 1) := dk_172 (dk_at dksX0_about_2 9 rfl rfl)
theorem dX0_about_78 : decode cX0_about 78 = .ok (.aload_n 0, 1) := dk_42 (dk_at dksX0_about_2 10 rfl rfl)
theorem dX0_about_79 : decode cX0_about 79 = .ok (.getfield 19, 3) := dk_180 0 19 (dk_at dksX0_about_2 11 rfl rfl)
theorem dX0_about_82 : decode cX0_about 82 = .ok (.getfield 237, 3) := dk_180 0 237 (dk_at dksX0_about_2 14 rfl rfl)
theorem dX0_about_85 : decode cX0_about 85 = .ok (.ireturn, 1) := dk_172 (dk_at dksX0_about_2 17 rfl rfl)
theorem dX0_about_86 : decode cX0_about 86 = .ok (.aload_n 0, 1) := dk_42 (dk_at dksX0_about_2 18 rfl rfl)
theorem dX0_about_87 : decode cX0_about 87 = .ok (.getfield 19, 3) := dk_180 0 19 (dk_at dksX0_about_2 19 rfl rfl)
theorem dX0_about_90 : decode cX0_about 90 = .ok (.getfield 240, 3) := dk_180 0 240 (dk_at dksX0_about_3 0 rfl rfl)
theorem dX0_about_93 : decode cX0_about 93 = .ok (.ireturn, 1) := dk_172 (dk_at dksX0_about_3 3 rfl rfl)
theorem dX0_about_94 : decode cX0_about 94 = .ok (.aload_n 0, 1) := dk_42 (dk_at dksX0_about_3 4 rfl rfl)
theorem dX0_about_95 : decode cX0_about 95 = .ok (.getfield 19, 3) := dk_180 0 19 (dk_at dksX0_about_3 5 rfl rfl)
theorem dX0_about_98 : decode cX0_about 98 = .ok (.getfield 261, 3) := dk_180 1 5 (dk_at dksX0_about_3 8 rfl rfl)
theorem dX0_about_101 : decode cX0_about 101 = .ok (.ireturn, 1) := dk_172 (dk_at dksX0_about_3 11 rfl rfl)
theorem dX0_about_102 : decode cX0_about 102 = .ok (.aload_n 0, 1) := dk_42 (dk_at dksX0_about_3 12 rfl rfl)
theorem dX0_about_103 : decode cX0_about 103 = .ok (.getfield 28, 3) := dk_180 0 28 (dk_at dksX0_about_3 13 rfl rfl)
theorem dX0_about_106 : decode cX0_about 106 = .ok (.getfield 258, 3) := dk_180 1 2 (dk_at dksX0_about_3 16 rfl rfl)
theorem dX0_about_109 : decode cX0_about 109 = .ok (.ireturn, 1) := dk_172 (dk_at dksX0_about_3 19 rfl rfl)
theorem dX0_about_110 : decode cX0_about 110 = .ok (.aload_n 0, 1) := dk_42 (dk_at dksX0_about_3 20 rfl rfl)
theorem dX0_about_111 : decode cX0_about 111 = .ok (.getfield 53, 3) := dk_180 0 53 (dk_at dksX0_about_3 21 rfl rfl)
theorem dX0_about_114 : decode cX0_about 114 = .ok (.invokevirtual 136, 3) := dk_182 0 136 (dk_at dksX0_about_4 0 rfl rfl)
theorem dX0_about_117 : decode cX0_about 117 = .ok (.ireturn, 1) := dk_172 (dk_at dksX0_about_4 3 rfl rfl)
theorem dX0_about_118 : decode cX0_about 118 = .ok (.aload_n 0, 1) := dk_42 (dk_at dksX0_about_4 4 rfl rfl)
theorem dX0_about_119 : decode cX0_about 119 = .ok (.getfield 57, 3) := dk_180 0 57 (dk_at dksX0_about_4 5 rfl rfl)
theorem dX0_about_122 : decode cX0_about 122 = .ok (.invokevirtual 136, 3) := dk_182 0 136 (dk_at dksX0_about_4 8 rfl rfl)
theorem dX0_about_125 : decode cX0_about 125 = .ok (.ireturn, 1) := dk_172 (dk_at dksX0_about_4 11 rfl rfl)
theorem dX0_about_126 : decode cX0_about 126 = .ok (.aload_n 0, 1) := dk_42 (dk_at dksX0_about_4 12 rfl rfl)
theorem dX0_about_127 : decode cX0_about 127 = .ok (.getfield 96, 3) := dk_180 0 96 (dk_at dksX0_about_4 13 rfl rfl)
theorem dX0_about_130 : decode cX0_about 130 = .ok (.invokevirtual 136, 3) := dk_182 0 136 (dk_at dksX0_about_4 16 rfl rfl)
theorem dX0_about_133 : decode cX0_about 133 = .ok (.ireturn, 1) := dk_172 (dk_at dksX0_about_4 19 rfl rfl)
theorem dX0_about_134 : decode cX0_about 134 = .ok (.aload_n 0, 1) := dk_42 (dk_at dksX0_about_4 20 rfl rfl)
theorem dX0_about_135 : decode cX0_about 135 = .ok (.getfield 393, 3) := dk_180 1 137 (dk_at dksX0_about_4 21 rfl rfl)
theorem dX0_about_138 : decode cX0_about 138 = .ok (.ireturn, 1) := dk_172 (dk_at dksX0_about_5 0 rfl rfl)
theorem dX0_about_139 : decode cX0_about 139 = .ok (.aload_n 0, 1) := dk_42 (dk_at dksX0_about_5 1 rfl rfl)
theorem dX0_about_140 : decode cX0_about 140 = .ok (.getfield 166, 3) := dk_180 0 166 (dk_at dksX0_about_5 2 rfl rfl)
theorem dX0_about_143 : decode cX0_about 143 = .ok (.ireturn, 1) := dk_172 (dk_at dksX0_about_5 5 rfl rfl)
theorem dX0_about_144 : decode cX0_about 144 = .ok (.aload_n 0, 1) := dk_42 (dk_at dksX0_about_5 6 rfl rfl)
theorem dX0_about_145 : decode cX0_about 145 = .ok (.getfield 19, 3) := dk_180 0 19 (dk_at dksX0_about_5 7 rfl rfl)
theorem dX0_about_148 : decode cX0_about 148 = .ok (.getfield 447, 3) := dk_180 1 191 (dk_at dksX0_about_5 10 rfl rfl)
theorem dX0_about_151 : decode cX0_about 151 = .ok (.ireturn, 1) := dk_172 (dk_at dksX0_about_5 13 rfl rfl)
theorem dX0_about_152 : decode cX0_about 152 = .ok (.aload_n 0, 1) := dk_42 (dk_at dksX0_about_5 14 rfl rfl)
theorem dX0_about_153 : decode cX0_about 153 = .ok (.getfield 127, 3) := dk_180 0 127 (dk_at dksX0_about_5 15 rfl rfl)
theorem dX0_about_156 : decode cX0_about 156 = .ok (.ireturn, 1) := dk_172 (dk_at dksX0_about_5 18 rfl rfl)
theorem dX0_about_157 : decode cX0_about 157 = .ok (.iconst (-1), 1) := dk_2 (dk_at dksX0_about_5 19 rfl rfl)
theorem dX0_about_158 : decode cX0_about 158 = .ok (.ireturn, 1) := dk_172 (dk_at dksX0_about_5 20 rfl rfl)
theorem q129 : (Jvm.Cond.initialized "BoardCrossing") ∈ lw_all := lw_g (lw_at lw_m1 1 rfl) rfl
theorem q165 : (Jvm.Cond.instantiable "BoardCrossing" (29 : Nat)) ∈ lw_all := lw_g (lw_at lw_m1 37 rfl) rfl
theorem q167 : (Jvm.Cond.instanceMethod ({ cls := "BoardCrossing", name := "<init>", desc := "()V" } : Jvm.MethodName)) ∈ lw_all := lw_g (lw_at lw_m1 39 rfl) rfl
theorem q168 : (Jvm.Cond.code ({ cls := "BoardCrossing", name := "<init>", desc := "()V" } : Jvm.MethodName) prog_1_method_5_code (1 : Nat) (Option.none : Option Jvm.ClassFile.FieldType)) ∈ lw_all := lw_g (lw_at lw_m1 40 rfl) rfl
theorem q169 : (Jvm.Cond.methodLink "BoardCrossing" (10 : Nat) ({ cls := "java/lang/Object", name := "<init>", desc := "()V" } : Jvm.MethodName)) ∈ lw_all := lw_g (lw_at lw_m1 41 rfl) rfl
theorem q172 : (Jvm.Cond.classLink "BoardCrossing" (16 : Nat) "BoardCrossing$Rive\x72") ∈ lw_all := lw_g (lw_at lw_m1 44 rfl) rfl
theorem q174 : (Jvm.Cond.methodLinkNest "BoardCrossing" (18 : Nat) ({ cls := "BoardCrossing$Rive\x72", name := "<init>", desc := "()V" } : Jvm.MethodName) "BoardCrossing") ∈ lw_tbl := lw_at lw_m1 46 rfl
theorem q209 : (Jvm.Cond.fieldLinkNest "BoardCrossing" (152 : Nat) "BoardCrossing$Rive\x72" "boards" "Ljava/util/ArrayList;" "BoardCrossing") ∈ lw_tbl := lw_at lw_m1 81 rfl
theorem q213 : (Jvm.Cond.fieldLinkNest "BoardCrossing" (155 : Nat) "BoardCrossing$Rive\x72" "loads" "Ljava/util/ArrayList;" "BoardCrossing") ∈ lw_tbl := lw_at lw_m1 85 rfl
theorem q218 : (Jvm.Cond.fieldLinkNest "BoardCrossing" (242 : Nat) "BoardCrossing$Rive\x72" "current" "[I" "BoardCrossing") ∈ lw_tbl := lw_at lw_m1 90 rfl
theorem q224 : (Jvm.Cond.fieldLinkNest "BoardCrossing" (248 : Nat) "BoardCrossing$Rive\x72" "isIron" "[Z" "BoardCrossing") ∈ lw_tbl := lw_at lw_m1 96 rfl
theorem q232 : (Jvm.Cond.fieldLinkNest "BoardCrossing" (237 : Nat) "BoardCrossing$Rive\x72" "columns" "I" "BoardCrossing") ∈ lw_tbl := lw_at lw_m1 104 rfl
theorem q237 : (Jvm.Cond.fieldLinkNest "BoardCrossing" (240 : Nat) "BoardCrossing$Rive\x72" "strokes" "I" "BoardCrossing") ∈ lw_tbl := lw_at lw_m1 109 rfl
theorem q242 : (Jvm.Cond.fieldLinkNest "BoardCrossing" (447 : Nat) "BoardCrossing$Rive\x72" "units" "I" "BoardCrossing") ∈ lw_tbl := lw_at lw_m1 114 rfl
theorem q243 : (Jvm.Cond.fieldLinkNest "BoardCrossing" (261 : Nat) "BoardCrossing$Rive\x72" "flood" "I" "BoardCrossing") ∈ lw_tbl := lw_at lw_m1 115 rfl
theorem q285 : (Jvm.Cond.classLink "BoardCrossing" (25 : Nat) "BoardCrossing$State") ∈ lw_all := lw_g (lw_at lw_m1 157 rfl) rfl
theorem q287 : (Jvm.Cond.methodLinkNest "BoardCrossing" (27 : Nat) ({ cls := "BoardCrossing$State", name := "<init>", desc := "()V" } : Jvm.MethodName) "BoardCrossing") ∈ lw_tbl := lw_at lw_m1 159 rfl
theorem q294 : (Jvm.Cond.fieldLinkNest "BoardCrossing" (200 : Nat) "BoardCrossing$State" "column" "[I" "BoardCrossing") ∈ lw_tbl := lw_at lw_m1 166 rfl
theorem q298 : (Jvm.Cond.fieldLinkNest "BoardCrossing" (203 : Nat) "BoardCrossing$State" "row" "[I" "BoardCrossing") ∈ lw_tbl := lw_at lw_m1 170 rfl
theorem q302 : (Jvm.Cond.fieldLinkNest "BoardCrossing" (206 : Nat) "BoardCrossing$State" "heat" "[I" "BoardCrossing") ∈ lw_tbl := lw_at lw_m1 174 rfl
theorem q305 : (Jvm.Cond.fieldLinkNest "BoardCrossing" (209 : Nat) "BoardCrossing$State" "scorches" "[I" "BoardCrossing") ∈ lw_tbl := lw_at lw_m1 177 rfl
theorem q308 : (Jvm.Cond.fieldLinkNest "BoardCrossing" (212 : Nat) "BoardCrossing$State" "strokes" "[I" "BoardCrossing") ∈ lw_tbl := lw_at lw_m1 180 rfl
theorem q310 : (Jvm.Cond.fieldLinkNest "BoardCrossing" (234 : Nat) "BoardCrossing$State" "where" "[I" "BoardCrossing") ∈ lw_tbl := lw_at lw_m1 182 rfl
theorem q312 : (Jvm.Cond.fieldLinkNest "BoardCrossing" (258 : Nat) "BoardCrossing$State" "seed" "I" "BoardCrossing") ∈ lw_tbl := lw_at lw_m1 184 rfl
theorem q328 : (Jvm.Cond.classLink "BoardCrossing" (39 : Nat) "BoardCrossing$Wrong") ∈ lw_all := lw_g (lw_at lw_m1 200 rfl) rfl
theorem q365 : (Jvm.Cond.methodLinkNest "BoardCrossing" (41 : Nat) ({ cls := "BoardCrossing$Wrong", name := "<init>", desc := "()V" } : Jvm.MethodName) "BoardCrossing") ∈ lw_tbl := lw_at lw_m1 237 rfl
theorem q373 : (Jvm.Cond.fieldLinkNest "BoardCrossing" (185 : Nat) "BoardCrossing$Wrong" "kind" "I" "BoardCrossing") ∈ lw_tbl := lw_at lw_m2 5 rfl
theorem q375 : (Jvm.Cond.fieldLinkNest "BoardCrossing" (188 : Nat) "BoardCrossing$Wrong" "place" "I" "BoardCrossing") ∈ lw_tbl := lw_at lw_m2 7 rfl
theorem q393 : (Jvm.Cond.classLink "BoardCrossing" (50 : Nat) "java/util/ArrayList") ∈ lw_all := lw_g (lw_at lw_m2 25 rfl) rfl
theorem q394 : (Jvm.Cond.methodLink "BoardCrossing" (52 : Nat) ({ cls := "java/util/ArrayList", name := "<init>", desc := "()V" } : Jvm.MethodName)) ∈ lw_all := lw_g (lw_at lw_m2 26 rfl) rfl
theorem q395 : (Jvm.Cond.classLink "BoardCrossing" (67 : Nat) "BoardCrossing$Coolest") ∈ lw_all := lw_g (lw_at lw_m2 27 rfl) rfl
theorem q397 : (Jvm.Cond.methodLinkNest "BoardCrossing" (69 : Nat) ({ cls := "BoardCrossing$Coolest", name := "<init>", desc := "(LBoardCrossing;)V" } : Jvm.MethodName) "BoardCrossing") ∈ lw_tbl := lw_at lw_m2 29 rfl
theorem q406 : (Jvm.Cond.fieldLinkNest "BoardCrossing" (314 : Nat) "BoardCrossing$Wish" "best" "I" "BoardCrossing") ∈ lw_tbl := lw_at lw_m2 38 rfl
theorem q408 : (Jvm.Cond.fieldLinkNest "BoardCrossing" (321 : Nat) "BoardCrossing$Wish" "cost" "I" "BoardCrossing") ∈ lw_tbl := lw_at lw_m2 40 rfl
theorem q419 : (Jvm.Cond.classLink "BoardCrossing" (76 : Nat) "BoardCrossing$Straightest") ∈ lw_all := lw_g (lw_at lw_m2 51 rfl) rfl
theorem q421 : (Jvm.Cond.methodLinkNest "BoardCrossing" (78 : Nat) ({ cls := "BoardCrossing$Straightest", name := "<init>", desc := "(LBoardCrossing;)V" } : Jvm.MethodName) "BoardCrossing") ∈ lw_tbl := lw_at lw_m2 53 rfl
theorem q426 : (Jvm.Cond.fieldLinkNest "BoardCrossing" (317 : Nat) "BoardCrossing$Straightest" "to" "I" "BoardCrossing") ∈ lw_tbl := lw_at lw_m2 58 rfl
theorem q436 : (Jvm.Cond.classLink "BoardCrossing" (108 : Nat) "BoardCrossing$Kept") ∈ lw_all := lw_g (lw_at lw_m2 68 rfl) rfl
theorem q439 : (Jvm.Cond.methodLink "BoardCrossing" (110 : Nat) ({ cls := "BoardCrossing$Kept", name := "<init>", desc := "(LBoardCrossing$State;)V" } : Jvm.MethodName)) ∈ lw_all := lw_g (lw_at lw_m2 71 rfl) rfl
theorem q444 : (Jvm.Cond.fieldLinkNest "BoardCrossing" (130 : Nat) "BoardCrossing$Kept" "state" "LBoardCrossing$State;" "BoardCrossing") ∈ lw_tbl := lw_at lw_m2 76 rfl
theorem q448 : (Jvm.Cond.methodLink "BoardCrossing" (117 : Nat) ({ cls := "BoardCrossing", name := "start", desc := "()V" } : Jvm.MethodName)) ∈ lw_all := lw_g (lw_at lw_m2 80 rfl) rfl
theorem q449 : (Jvm.Cond.privateMethod ({ cls := "BoardCrossing", name := "start", desc := "()V" } : Jvm.MethodName)) ∈ lw_tbl := lw_at lw_m2 81 rfl
theorem q450 : (Jvm.Cond.instanceMethod ({ cls := "BoardCrossing", name := "start", desc := "()V" } : Jvm.MethodName)) ∈ lw_all := lw_g (lw_at lw_m2 82 rfl) rfl
theorem q451 : (Jvm.Cond.code ({ cls := "BoardCrossing", name := "start", desc := "()V" } : Jvm.MethodName) prog_1_method_6_code (2 : Nat) (Option.none : Option Jvm.ClassFile.FieldType)) ∈ lw_all := lw_g (lw_at lw_m2 83 rfl) rfl
theorem q452 : (Jvm.Cond.methodLink "BoardCrossing" (120 : Nat) ({ cls := "BoardCrossing$State", name := "begin", desc := "(LBoardCrossing$River;)V" } : Jvm.MethodName)) ∈ lw_all := lw_g (lw_at lw_m2 84 rfl) rfl
theorem q475 : (Jvm.Cond.methodLink "BoardCrossing" (124 : Nat) ({ cls := "java/util/ArrayList", name := "clea\x72", desc := "()V" } : Jvm.MethodName)) ∈ lw_all := lw_g (lw_at lw_m2 107 rfl) rfl
theorem q480 : (Jvm.Cond.fieldLink "BoardCrossing" (19 : Nat) "BoardCrossing" "rive\x72" "LBoardCrossing$River;") ∈ lw_all := lw_g (lw_at lw_m2 112 rfl) rfl
theorem q483 : (Jvm.Cond.fieldLink "BoardCrossing" (28 : Nat) "BoardCrossing" "now" "LBoardCrossing$State;") ∈ lw_all := lw_g (lw_at lw_m2 115 rfl) rfl
theorem q485 : (Jvm.Cond.fieldLink "BoardCrossing" (32 : Nat) "BoardCrossing" "then" "LBoardCrossing$State;") ∈ lw_all := lw_g (lw_at lw_m2 117 rfl) rfl
theorem q486 : (Jvm.Cond.fieldLink "BoardCrossing" (35 : Nat) "BoardCrossing" "tape" "[B") ∈ lw_all := lw_g (lw_at lw_m2 118 rfl) rfl
theorem q487 : (Jvm.Cond.fieldLink "BoardCrossing" (42 : Nat) "BoardCrossing" "fault" "LBoardCrossing$Wrong;") ∈ lw_all := lw_g (lw_at lw_m2 119 rfl) rfl
theorem q488 : (Jvm.Cond.fieldLink "BoardCrossing" (166 : Nat) "BoardCrossing" "taped" "I") ∈ lw_all := lw_g (lw_at lw_m2 120 rfl) rfl
theorem q489 : (Jvm.Cond.fieldLink "BoardCrossing" (393 : Nat) "BoardCrossing" "time" "I") ∈ lw_all := lw_g (lw_at lw_m2 121 rfl) rfl
theorem q490 : (Jvm.Cond.fieldLink "BoardCrossing" (173 : Nat) "BoardCrossing" "faultKind" "I") ∈ lw_all := lw_g (lw_at lw_m2 122 rfl) rfl
theorem q491 : (Jvm.Cond.fieldLink "BoardCrossing" (46 : Nat) "BoardCrossing" "faultPlace" "I") ∈ lw_all := lw_g (lw_at lw_m2 123 rfl) rfl
theorem q492 : (Jvm.Cond.fieldLink "BoardCrossing" (53 : Nat) "BoardCrossing" "acts" "Ljava/util/ArrayList;") ∈ lw_all := lw_g (lw_at lw_m2 124 rfl) rfl
theorem q493 : (Jvm.Cond.fieldLink "BoardCrossing" (57 : Nat) "BoardCrossing" "undone" "Ljava/util/ArrayList;") ∈ lw_all := lw_g (lw_at lw_m2 125 rfl) rfl
theorem q495 : (Jvm.Cond.fieldLink "BoardCrossing" (60 : Nat) "BoardCrossing" "laidRow" "[I") ∈ lw_all := lw_g (lw_at lw_m2 127 rfl) rfl
theorem q496 : (Jvm.Cond.fieldLink "BoardCrossing" (64 : Nat) "BoardCrossing" "trial" "[I") ∈ lw_all := lw_g (lw_at lw_m2 128 rfl) rfl
theorem q498 : (Jvm.Cond.fieldLink "BoardCrossing" (127 : Nat) "BoardCrossing" "laid" "I") ∈ lw_all := lw_g (lw_at lw_m2 130 rfl) rfl
theorem q499 : (Jvm.Cond.fieldLink "BoardCrossing" (72 : Nat) "BoardCrossing" "coolest" "LBoardCrossing$Wish;") ∈ lw_all := lw_g (lw_at lw_m2 131 rfl) rfl
theorem q500 : (Jvm.Cond.fieldLink "BoardCrossing" (79 : Nat) "BoardCrossing" "straightest" "LBoardCrossing$Straightest;") ∈ lw_all := lw_g (lw_at lw_m2 132 rfl) rfl
theorem q501 : (Jvm.Cond.fieldLink "BoardCrossing" (327 : Nat) "BoardCrossing" "fewest" "I") ∈ lw_all := lw_g (lw_at lw_m2 133 rfl) rfl
theorem q502 : (Jvm.Cond.fieldLink "BoardCrossing" (83 : Nat) "BoardCrossing" "widths" "[I") ∈ lw_all := lw_g (lw_at lw_m2 134 rfl) rfl
theorem q503 : (Jvm.Cond.fieldLink "BoardCrossing" (86 : Nat) "BoardCrossing" "canBe" "[Z") ∈ lw_all := lw_g (lw_at lw_m2 135 rfl) rfl
theorem q504 : (Jvm.Cond.fieldLink "BoardCrossing" (90 : Nat) "BoardCrossing" "canNext" "[Z") ∈ lw_all := lw_g (lw_at lw_m2 136 rfl) rfl
theorem q505 : (Jvm.Cond.fieldLink "BoardCrossing" (358 : Nat) "BoardCrossing" "bestMoored" "I") ∈ lw_all := lw_g (lw_at lw_m2 137 rfl) rfl
theorem q506 : (Jvm.Cond.fieldLink "BoardCrossing" (361 : Nat) "BoardCrossing" "leastBetween" "I") ∈ lw_all := lw_g (lw_at lw_m2 138 rfl) rfl
theorem q507 : (Jvm.Cond.fieldLink "BoardCrossing" (93 : Nat) "BoardCrossing" "landingsBy" "[I") ∈ lw_all := lw_g (lw_at lw_m2 139 rfl) rfl
theorem q508 : (Jvm.Cond.fieldLink "BoardCrossing" (96 : Nat) "BoardCrossing" "sights" "Ljava/util/ArrayList;") ∈ lw_all := lw_g (lw_at lw_m2 140 rfl) rfl
theorem q509 : (Jvm.Cond.fieldLink "BoardCrossing" (99 : Nat) "BoardCrossing" "columnsBy" "[I") ∈ lw_all := lw_g (lw_at lw_m2 141 rfl) rfl
theorem q510 : (Jvm.Cond.fieldLink "BoardCrossing" (102 : Nat) "BoardCrossing" "heatsBy" "[I") ∈ lw_all := lw_g (lw_at lw_m2 142 rfl) rfl
theorem q511 : (Jvm.Cond.fieldLink "BoardCrossing" (105 : Nat) "BoardCrossing" "parts" "[I") ∈ lw_all := lw_g (lw_at lw_m2 143 rfl) rfl
theorem q512 : (Jvm.Cond.fieldLink "BoardCrossing" (435 : Nat) "BoardCrossing" "fitting" "I") ∈ lw_all := lw_g (lw_at lw_m2 144 rfl) rfl
theorem q513 : (Jvm.Cond.fieldLink "BoardCrossing" (113 : Nat) "BoardCrossing" "boxes" "[LBoardCrossing$Kept;") ∈ lw_all := lw_g (lw_at lw_m2 145 rfl) rfl
theorem q514 : (Jvm.Cond.lays "BoardCrossing" "BoardCrossing" "rive\x72" "LBoardCrossing$River;") ∈ lw_all := lw_g (lw_at lw_m2 146 rfl) rfl
theorem q515 : (Jvm.Cond.soleField "BoardCrossing" "rive\x72") ∈ lw_all := lw_g (lw_at lw_m2 147 rfl) rfl
theorem q516 : (Jvm.Cond.laysFinal "BoardCrossing" "BoardCrossing" "now" "LBoardCrossing$State;") ∈ lw_all := lw_g (lw_at lw_m2 148 rfl) rfl
theorem q517 : (Jvm.Cond.soleField "BoardCrossing" "now") ∈ lw_all := lw_g (lw_at lw_m2 149 rfl) rfl
theorem q518 : (Jvm.Cond.laysFinal "BoardCrossing" "BoardCrossing" "then" "LBoardCrossing$State;") ∈ lw_all := lw_g (lw_at lw_m2 150 rfl) rfl
theorem q519 : (Jvm.Cond.soleField "BoardCrossing" "then") ∈ lw_all := lw_g (lw_at lw_m2 151 rfl) rfl
theorem q520 : (Jvm.Cond.laysFinal "BoardCrossing" "BoardCrossing" "tape" "[B") ∈ lw_all := lw_g (lw_at lw_m2 152 rfl) rfl
theorem q521 : (Jvm.Cond.soleField "BoardCrossing" "tape") ∈ lw_all := lw_g (lw_at lw_m2 153 rfl) rfl
theorem q522 : (Jvm.Cond.laysFinal "BoardCrossing" "BoardCrossing" "fault" "LBoardCrossing$Wrong;") ∈ lw_all := lw_g (lw_at lw_m2 154 rfl) rfl
theorem q523 : (Jvm.Cond.soleField "BoardCrossing" "fault") ∈ lw_all := lw_g (lw_at lw_m2 155 rfl) rfl
theorem q524 : (Jvm.Cond.lays "BoardCrossing" "BoardCrossing" "taped" "I") ∈ lw_all := lw_g (lw_at lw_m2 156 rfl) rfl
theorem q525 : (Jvm.Cond.soleField "BoardCrossing" "taped") ∈ lw_all := lw_g (lw_at lw_m2 157 rfl) rfl
theorem q526 : (Jvm.Cond.lays "BoardCrossing" "BoardCrossing" "time" "I") ∈ lw_all := lw_g (lw_at lw_m2 158 rfl) rfl
theorem q527 : (Jvm.Cond.soleField "BoardCrossing" "time") ∈ lw_all := lw_g (lw_at lw_m2 159 rfl) rfl
theorem q528 : (Jvm.Cond.lays "BoardCrossing" "BoardCrossing" "faultKind" "I") ∈ lw_all := lw_g (lw_at lw_m2 160 rfl) rfl
theorem q529 : (Jvm.Cond.soleField "BoardCrossing" "faultKind") ∈ lw_all := lw_g (lw_at lw_m2 161 rfl) rfl
theorem q530 : (Jvm.Cond.lays "BoardCrossing" "BoardCrossing" "faultPlace" "I") ∈ lw_all := lw_g (lw_at lw_m2 162 rfl) rfl
theorem q531 : (Jvm.Cond.soleField "BoardCrossing" "faultPlace") ∈ lw_all := lw_g (lw_at lw_m2 163 rfl) rfl
theorem q532 : (Jvm.Cond.laysFinal "BoardCrossing" "BoardCrossing" "acts" "Ljava/util/ArrayList;") ∈ lw_all := lw_g (lw_at lw_m2 164 rfl) rfl
theorem q533 : (Jvm.Cond.soleField "BoardCrossing" "acts") ∈ lw_all := lw_g (lw_at lw_m2 165 rfl) rfl
theorem q534 : (Jvm.Cond.laysFinal "BoardCrossing" "BoardCrossing" "undone" "Ljava/util/ArrayList;") ∈ lw_all := lw_g (lw_at lw_m2 166 rfl) rfl
theorem q535 : (Jvm.Cond.soleField "BoardCrossing" "undone") ∈ lw_all := lw_g (lw_at lw_m2 167 rfl) rfl
theorem q536 : (Jvm.Cond.laysFinal "BoardCrossing" "BoardCrossing" "laidRow" "[I") ∈ lw_all := lw_g (lw_at lw_m2 168 rfl) rfl
theorem q537 : (Jvm.Cond.soleField "BoardCrossing" "laidRow") ∈ lw_all := lw_g (lw_at lw_m2 169 rfl) rfl
theorem q538 : (Jvm.Cond.laysFinal "BoardCrossing" "BoardCrossing" "trial" "[I") ∈ lw_all := lw_g (lw_at lw_m2 170 rfl) rfl
theorem q539 : (Jvm.Cond.soleField "BoardCrossing" "trial") ∈ lw_all := lw_g (lw_at lw_m2 171 rfl) rfl
theorem q540 : (Jvm.Cond.lays "BoardCrossing" "BoardCrossing" "laid" "I") ∈ lw_all := lw_g (lw_at lw_m2 172 rfl) rfl
theorem q541 : (Jvm.Cond.soleField "BoardCrossing" "laid") ∈ lw_all := lw_g (lw_at lw_m2 173 rfl) rfl
theorem q542 : (Jvm.Cond.laysFinal "BoardCrossing" "BoardCrossing" "coolest" "LBoardCrossing$Wish;") ∈ lw_all := lw_g (lw_at lw_m2 174 rfl) rfl
theorem q543 : (Jvm.Cond.soleField "BoardCrossing" "coolest") ∈ lw_all := lw_g (lw_at lw_m2 175 rfl) rfl
theorem q544 : (Jvm.Cond.laysFinal "BoardCrossing" "BoardCrossing" "straightest" "LBoardCrossing$Straightest;") ∈ lw_all := lw_g (lw_at lw_m2 176 rfl) rfl
theorem q545 : (Jvm.Cond.soleField "BoardCrossing" "straightest") ∈ lw_all := lw_g (lw_at lw_m2 177 rfl) rfl
theorem q546 : (Jvm.Cond.lays "BoardCrossing" "BoardCrossing" "fewest" "I") ∈ lw_all := lw_g (lw_at lw_m2 178 rfl) rfl
theorem q547 : (Jvm.Cond.soleField "BoardCrossing" "fewest") ∈ lw_all := lw_g (lw_at lw_m2 179 rfl) rfl
theorem q548 : (Jvm.Cond.laysFinal "BoardCrossing" "BoardCrossing" "widths" "[I") ∈ lw_all := lw_g (lw_at lw_m2 180 rfl) rfl
theorem q549 : (Jvm.Cond.soleField "BoardCrossing" "widths") ∈ lw_all := lw_g (lw_at lw_m2 181 rfl) rfl
theorem q550 : (Jvm.Cond.laysFinal "BoardCrossing" "BoardCrossing" "canBe" "[Z") ∈ lw_all := lw_g (lw_at lw_m2 182 rfl) rfl
theorem q551 : (Jvm.Cond.soleField "BoardCrossing" "canBe") ∈ lw_all := lw_g (lw_at lw_m2 183 rfl) rfl
theorem q552 : (Jvm.Cond.laysFinal "BoardCrossing" "BoardCrossing" "canNext" "[Z") ∈ lw_all := lw_g (lw_at lw_m2 184 rfl) rfl
theorem q553 : (Jvm.Cond.soleField "BoardCrossing" "canNext") ∈ lw_all := lw_g (lw_at lw_m2 185 rfl) rfl
theorem q554 : (Jvm.Cond.lays "BoardCrossing" "BoardCrossing" "bestMoored" "I") ∈ lw_all := lw_g (lw_at lw_m2 186 rfl) rfl
theorem q555 : (Jvm.Cond.soleField "BoardCrossing" "bestMoored") ∈ lw_all := lw_g (lw_at lw_m2 187 rfl) rfl
theorem q556 : (Jvm.Cond.lays "BoardCrossing" "BoardCrossing" "leastBetween" "I") ∈ lw_all := lw_g (lw_at lw_m2 188 rfl) rfl
theorem q557 : (Jvm.Cond.soleField "BoardCrossing" "leastBetween") ∈ lw_all := lw_g (lw_at lw_m2 189 rfl) rfl
theorem q558 : (Jvm.Cond.laysFinal "BoardCrossing" "BoardCrossing" "landingsBy" "[I") ∈ lw_all := lw_g (lw_at lw_m2 190 rfl) rfl
theorem q559 : (Jvm.Cond.soleField "BoardCrossing" "landingsBy") ∈ lw_all := lw_g (lw_at lw_m2 191 rfl) rfl
theorem q560 : (Jvm.Cond.laysFinal "BoardCrossing" "BoardCrossing" "sights" "Ljava/util/ArrayList;") ∈ lw_all := lw_g (lw_at lw_m2 192 rfl) rfl
theorem q561 : (Jvm.Cond.soleField "BoardCrossing" "sights") ∈ lw_all := lw_g (lw_at lw_m2 193 rfl) rfl
theorem q562 : (Jvm.Cond.laysFinal "BoardCrossing" "BoardCrossing" "columnsBy" "[I") ∈ lw_all := lw_g (lw_at lw_m2 194 rfl) rfl
theorem q563 : (Jvm.Cond.soleField "BoardCrossing" "columnsBy") ∈ lw_all := lw_g (lw_at lw_m2 195 rfl) rfl
theorem q564 : (Jvm.Cond.laysFinal "BoardCrossing" "BoardCrossing" "heatsBy" "[I") ∈ lw_all := lw_g (lw_at lw_m2 196 rfl) rfl
theorem q565 : (Jvm.Cond.soleField "BoardCrossing" "heatsBy") ∈ lw_all := lw_g (lw_at lw_m2 197 rfl) rfl
theorem q566 : (Jvm.Cond.laysFinal "BoardCrossing" "BoardCrossing" "parts" "[I") ∈ lw_all := lw_g (lw_at lw_m2 198 rfl) rfl
theorem q567 : (Jvm.Cond.soleField "BoardCrossing" "parts") ∈ lw_all := lw_g (lw_at lw_m2 199 rfl) rfl
theorem q568 : (Jvm.Cond.lays "BoardCrossing" "BoardCrossing" "fitting" "I") ∈ lw_all := lw_g (lw_at lw_m2 200 rfl) rfl
theorem q569 : (Jvm.Cond.soleField "BoardCrossing" "fitting") ∈ lw_all := lw_g (lw_at lw_m2 201 rfl) rfl
theorem q570 : (Jvm.Cond.laysFinal "BoardCrossing" "BoardCrossing" "boxes" "[LBoardCrossing$Kept;") ∈ lw_all := lw_g (lw_at lw_m2 202 rfl) rfl
theorem q571 : (Jvm.Cond.soleField "BoardCrossing" "boxes") ∈ lw_all := lw_g (lw_at lw_m2 203 rfl) rfl
theorem q572 : (Jvm.Cond.superclass "BoardCrossing" "java/lang/Object") ∈ lw_all := lw_g (lw_at lw_m2 204 rfl) rfl
theorem q574 : (Jvm.Cond.instanceMethod ({ cls := "BoardCrossing", name := "feed", desc := "(IIIII)I" } : Jvm.MethodName)) ∈ lw_all := lw_g (lw_at lw_m2 206 rfl) rfl
theorem q575 : (Jvm.Cond.selects "BoardCrossing" ({ cls := "BoardCrossing", name := "feed", desc := "(IIIII)I" } : Jvm.MethodName) ({ cls := "BoardCrossing", name := "feed", desc := "(IIIII)I" } : Jvm.MethodName)) ∈ lw_all := lw_g (lw_at lw_m2 207 rfl) rfl
theorem q576 : (Jvm.Cond.code ({ cls := "BoardCrossing", name := "feed", desc := "(IIIII)I" } : Jvm.MethodName) prog_1_method_14_code (6 : Nat) (Option.some Jvm.ClassFile.FieldType.int)) ∈ lw_all := lw_g (lw_at lw_m2 208 rfl) rfl
theorem q577 : (Jvm.Cond.methodLink "BoardCrossing" (169 : Nat) ({ cls := "BoardCrossing", name := "bytes", desc := "(I)V" } : Jvm.MethodName)) ∈ lw_all := lw_g (lw_at lw_m2 209 rfl) rfl
theorem q578 : (Jvm.Cond.privateMethod ({ cls := "BoardCrossing", name := "bytes", desc := "(I)V" } : Jvm.MethodName)) ∈ lw_tbl := lw_at lw_m2 210 rfl
theorem q579 : (Jvm.Cond.instanceMethod ({ cls := "BoardCrossing", name := "bytes", desc := "(I)V" } : Jvm.MethodName)) ∈ lw_all := lw_g (lw_at lw_m2 211 rfl) rfl
theorem q580 : (Jvm.Cond.code ({ cls := "BoardCrossing", name := "bytes", desc := "(I)V" } : Jvm.MethodName) prog_1_method_15_code (3 : Nat) (Option.none : Option Jvm.ClassFile.FieldType)) ∈ lw_all := lw_g (lw_at lw_m2 212 rfl) rfl
theorem q582 : (Jvm.Cond.instanceMethod ({ cls := "BoardCrossing", name := "end", desc := "(I)I" } : Jvm.MethodName)) ∈ lw_all := lw_g (lw_at lw_m2 214 rfl) rfl
theorem q583 : (Jvm.Cond.selects "BoardCrossing" ({ cls := "BoardCrossing", name := "end", desc := "(I)I" } : Jvm.MethodName) ({ cls := "BoardCrossing", name := "end", desc := "(I)I" } : Jvm.MethodName)) ∈ lw_all := lw_g (lw_at lw_m2 215 rfl) rfl
theorem q584 : (Jvm.Cond.code ({ cls := "BoardCrossing", name := "end", desc := "(I)I" } : Jvm.MethodName) prog_1_method_16_code (2 : Nat) (Option.some Jvm.ClassFile.FieldType.int)) ∈ lw_all := lw_g (lw_at lw_m2 216 rfl) rfl
theorem q586 : (Jvm.Cond.instanceMethod ({ cls := "BoardCrossing", name := "rive\x72", desc := "()I" } : Jvm.MethodName)) ∈ lw_all := lw_g (lw_at lw_m2 218 rfl) rfl
theorem q587 : (Jvm.Cond.selects "BoardCrossing" ({ cls := "BoardCrossing", name := "rive\x72", desc := "()I" } : Jvm.MethodName) ({ cls := "BoardCrossing", name := "rive\x72", desc := "()I" } : Jvm.MethodName)) ∈ lw_all := lw_g (lw_at lw_m2 219 rfl) rfl
theorem q588 : (Jvm.Cond.codeWith ({ cls := "BoardCrossing", name := "rive\x72", desc := "()I" } : Jvm.MethodName) prog_1_method_17_code (3 : Nat) (Option.some Jvm.ClassFile.FieldType.int) [((20 : Nat), (43 : Nat), (46 : Nat), (39 : Nat))]) ∈ lw_all := lw_g (lw_at lw_m2 220 rfl) rfl
theorem q589 : (Jvm.Cond.classLink "BoardCrossing" (176 : Nat) "BoardCrossing$Reade\x72") ∈ lw_all := lw_g (lw_at lw_m2 221 rfl) rfl
theorem q591 : (Jvm.Cond.methodLink "BoardCrossing" (178 : Nat) ({ cls := "BoardCrossing$Reade\x72", name := "<init>", desc := "([BILBoardCrossing$Wrong;)V" } : Jvm.MethodName)) ∈ lw_all := lw_g (lw_at lw_m2 223 rfl) rfl
theorem q631 : (Jvm.Cond.methodLink "BoardCrossing" (181 : Nat) ({ cls := "BoardCrossing$Reade\x72", name := "read", desc := "()LBoardCrossing$River;" } : Jvm.MethodName)) ∈ lw_all := lw_g (lw_at lw_m3 23 rfl) rfl
theorem q843 : (Jvm.Cond.fieldLinkNest "BoardCrossing" (218 : Nat) "BoardCrossing$Board" "bears" "I" "BoardCrossing") ∈ lw_tbl := lw_at lw_m3 235 rfl
theorem q851 : (Jvm.Cond.fieldLink "BoardCrossing" (215 : Nat) "BoardCrossing$Board" "wide" "I") ∈ lw_all := lw_g (lw_at lw_m4 3 rfl) rfl
theorem q852 : (Jvm.Cond.fieldLink "BoardCrossing" (233 : Nat) "BoardCrossing$Load" "wide" "I") ∈ lw_all := lw_g (lw_at lw_m4 4 rfl) rfl
theorem q898 : (Jvm.Cond.selects "BoardCrossing" ({ cls := "java/lang/Object", name := "getClass", desc := "()Ljava/lang/Class;" } : Jvm.MethodName) ({ cls := "java/lang/Object", name := "getClass", desc := "()Ljava/lang/Class;" } : Jvm.MethodName)) ∈ lw_all := lw_g (lw_at lw_m4 50 rfl) rfl
theorem q1034 : (Jvm.Cond.methodLink "BoardCrossing" (158 : Nat) ({ cls := "BoardCrossing", name := "boards", desc := "()I" } : Jvm.MethodName)) ∈ lw_all := lw_g (lw_at lw_m4 186 rfl) rfl
theorem q1035 : (Jvm.Cond.privateMethod ({ cls := "BoardCrossing", name := "boards", desc := "()I" } : Jvm.MethodName)) ∈ lw_tbl := lw_at lw_m4 187 rfl
theorem q1036 : (Jvm.Cond.instanceMethod ({ cls := "BoardCrossing", name := "boards", desc := "()I" } : Jvm.MethodName)) ∈ lw_all := lw_g (lw_at lw_m4 188 rfl) rfl
theorem q1037 : (Jvm.Cond.code ({ cls := "BoardCrossing", name := "boards", desc := "()I" } : Jvm.MethodName) prog_1_method_10_code (1 : Nat) (Option.some Jvm.ClassFile.FieldType.int)) ∈ lw_all := lw_g (lw_at lw_m4 189 rfl) rfl
theorem q1038 : (Jvm.Cond.methodLink "BoardCrossing" (136 : Nat) ({ cls := "java/util/ArrayList", name := "size", desc := "()I" } : Jvm.MethodName)) ∈ lw_all := lw_g (lw_at lw_m4 190 rfl) rfl
theorem q1040 : (Jvm.Cond.instanceMethod ({ cls := "BoardCrossing", name := "fault", desc := "(I)I" } : Jvm.MethodName)) ∈ lw_all := lw_g (lw_at lw_m4 192 rfl) rfl
theorem q1041 : (Jvm.Cond.selects "BoardCrossing" ({ cls := "BoardCrossing", name := "fault", desc := "(I)I" } : Jvm.MethodName) ({ cls := "BoardCrossing", name := "fault", desc := "(I)I" } : Jvm.MethodName)) ∈ lw_all := lw_g (lw_at lw_m4 193 rfl) rfl
theorem q1042 : (Jvm.Cond.code ({ cls := "BoardCrossing", name := "fault", desc := "(I)I" } : Jvm.MethodName) prog_1_method_18_code (2 : Nat) (Option.some Jvm.ClassFile.FieldType.int)) ∈ lw_all := lw_g (lw_at lw_m4 194 rfl) rfl
theorem q1044 : (Jvm.Cond.instanceMethod ({ cls := "BoardCrossing", name := "board", desc := "(II)I" } : Jvm.MethodName)) ∈ lw_all := lw_g (lw_at lw_m4 196 rfl) rfl
theorem q1045 : (Jvm.Cond.selects "BoardCrossing" ({ cls := "BoardCrossing", name := "board", desc := "(II)I" } : Jvm.MethodName) ({ cls := "BoardCrossing", name := "board", desc := "(II)I" } : Jvm.MethodName)) ∈ lw_all := lw_g (lw_at lw_m4 197 rfl) rfl
theorem q1046 : (Jvm.Cond.code ({ cls := "BoardCrossing", name := "board", desc := "(II)I" } : Jvm.MethodName) prog_1_method_19_code (4 : Nat) (Option.some Jvm.ClassFile.FieldType.int)) ∈ lw_all := lw_g (lw_at lw_m4 198 rfl) rfl
theorem q1047 : (Jvm.Cond.methodLink "BoardCrossing" (191 : Nat) ({ cls := "BoardCrossing", name := "isBoard", desc := "(I)Z" } : Jvm.MethodName)) ∈ lw_all := lw_g (lw_at lw_m4 199 rfl) rfl
theorem q1048 : (Jvm.Cond.privateMethod ({ cls := "BoardCrossing", name := "isBoard", desc := "(I)Z" } : Jvm.MethodName)) ∈ lw_tbl := lw_at lw_m4 200 rfl
theorem q1049 : (Jvm.Cond.instanceMethod ({ cls := "BoardCrossing", name := "isBoard", desc := "(I)Z" } : Jvm.MethodName)) ∈ lw_all := lw_g (lw_at lw_m4 201 rfl) rfl
theorem q1050 : (Jvm.Cond.code ({ cls := "BoardCrossing", name := "isBoard", desc := "(I)Z" } : Jvm.MethodName) prog_1_method_12_code (2 : Nat) (Option.some Jvm.ClassFile.FieldType.boolean)) ∈ lw_all := lw_g (lw_at lw_m4 202 rfl) rfl
theorem q1051 : (Jvm.Cond.methodLink "BoardCrossing" (160 : Nat) ({ cls := "BoardCrossing", name := "isIn", desc := "(III)Z" } : Jvm.MethodName)) ∈ lw_all := lw_g (lw_at lw_m4 203 rfl) rfl
theorem q1052 : (Jvm.Cond.static ({ cls := "BoardCrossing", name := "isIn", desc := "(III)Z" } : Jvm.MethodName)) ∈ lw_all := lw_g (lw_at lw_m4 204 rfl) rfl
theorem q1053 : (Jvm.Cond.code ({ cls := "BoardCrossing", name := "isIn", desc := "(III)Z" } : Jvm.MethodName) prog_1_method_1_code (3 : Nat) (Option.some Jvm.ClassFile.FieldType.boolean)) ∈ lw_all := lw_g (lw_at lw_m4 205 rfl) rfl
theorem q1054 : (Jvm.Cond.methodLink "BoardCrossing" (195 : Nat) ({ cls := "java/util/ArrayList", name := "get", desc := "(I)Ljava/lang/Object;" } : Jvm.MethodName)) ∈ lw_all := lw_g (lw_at lw_m4 206 rfl) rfl
theorem q1055 : (Jvm.Cond.classLink "BoardCrossing" (198 : Nat) "BoardCrossing$Board") ∈ lw_all := lw_g (lw_at lw_m4 207 rfl) rfl
theorem q1056 : (Jvm.Cond.methodLink "BoardCrossing" (221 : Nat) ({ cls := "BoardCrossing$State", name := "burden", desc := "(LBoardCrossing$River;I)I" } : Jvm.MethodName)) ∈ lw_all := lw_g (lw_at lw_m4 208 rfl) rfl
theorem q1074 : (Jvm.Cond.methodLink "BoardCrossing" (225 : Nat) ({ cls := "BoardCrossing$State", name := "loadsAt", desc := "(LBoardCrossing$River;I)I" } : Jvm.MethodName)) ∈ lw_all := lw_g (lw_at lw_m4 226 rfl) rfl
theorem q1076 : (Jvm.Cond.instanceMethod ({ cls := "BoardCrossing", name := "load", desc := "(II)I" } : Jvm.MethodName)) ∈ lw_all := lw_g (lw_at lw_m4 228 rfl) rfl
theorem q1077 : (Jvm.Cond.selects "BoardCrossing" ({ cls := "BoardCrossing", name := "load", desc := "(II)I" } : Jvm.MethodName) ({ cls := "BoardCrossing", name := "load", desc := "(II)I" } : Jvm.MethodName)) ∈ lw_all := lw_g (lw_at lw_m4 229 rfl) rfl
theorem q1078 : (Jvm.Cond.code ({ cls := "BoardCrossing", name := "load", desc := "(II)I" } : Jvm.MethodName) prog_1_method_20_code (3 : Nat) (Option.some Jvm.ClassFile.FieldType.int)) ∈ lw_all := lw_g (lw_at lw_m4 230 rfl) rfl
theorem q1079 : (Jvm.Cond.methodLink "BoardCrossing" (228 : Nat) ({ cls := "BoardCrossing", name := "isLoad", desc := "(I)Z" } : Jvm.MethodName)) ∈ lw_all := lw_g (lw_at lw_m4 231 rfl) rfl
theorem q1080 : (Jvm.Cond.privateMethod ({ cls := "BoardCrossing", name := "isLoad", desc := "(I)Z" } : Jvm.MethodName)) ∈ lw_tbl := lw_at lw_m4 232 rfl
theorem q1081 : (Jvm.Cond.instanceMethod ({ cls := "BoardCrossing", name := "isLoad", desc := "(I)Z" } : Jvm.MethodName)) ∈ lw_all := lw_g (lw_at lw_m4 233 rfl) rfl
theorem q1082 : (Jvm.Cond.code ({ cls := "BoardCrossing", name := "isLoad", desc := "(I)Z" } : Jvm.MethodName) prog_1_method_13_code (2 : Nat) (Option.some Jvm.ClassFile.FieldType.boolean)) ∈ lw_all := lw_g (lw_at lw_m4 234 rfl) rfl
theorem q1083 : (Jvm.Cond.methodLink "BoardCrossing" (164 : Nat) ({ cls := "BoardCrossing", name := "loads", desc := "()I" } : Jvm.MethodName)) ∈ lw_all := lw_g (lw_at lw_m4 235 rfl) rfl
theorem q1084 : (Jvm.Cond.privateMethod ({ cls := "BoardCrossing", name := "loads", desc := "()I" } : Jvm.MethodName)) ∈ lw_tbl := lw_at lw_m4 236 rfl
theorem q1085 : (Jvm.Cond.instanceMethod ({ cls := "BoardCrossing", name := "loads", desc := "()I" } : Jvm.MethodName)) ∈ lw_all := lw_g (lw_at lw_m4 237 rfl) rfl
theorem q1086 : (Jvm.Cond.code ({ cls := "BoardCrossing", name := "loads", desc := "()I" } : Jvm.MethodName) prog_1_method_11_code (1 : Nat) (Option.some Jvm.ClassFile.FieldType.int)) ∈ lw_all := lw_g (lw_at lw_m4 238 rfl) rfl
theorem q1087 : (Jvm.Cond.classLink "BoardCrossing" (231 : Nat) "BoardCrossing$Load") ∈ lw_all := lw_g (lw_at lw_m4 239 rfl) rfl
theorem q1089 : (Jvm.Cond.instanceMethod ({ cls := "BoardCrossing", name := "spot", desc := "(III)I" } : Jvm.MethodName)) ∈ lw_all := lw_g (lw_at lw_m5 1 rfl) rfl
theorem q1090 : (Jvm.Cond.selects "BoardCrossing" ({ cls := "BoardCrossing", name := "spot", desc := "(III)I" } : Jvm.MethodName) ({ cls := "BoardCrossing", name := "spot", desc := "(III)I" } : Jvm.MethodName)) ∈ lw_all := lw_g (lw_at lw_m5 2 rfl) rfl
theorem q1091 : (Jvm.Cond.code ({ cls := "BoardCrossing", name := "spot", desc := "(III)I" } : Jvm.MethodName) prog_1_method_21_code (4 : Nat) (Option.some Jvm.ClassFile.FieldType.int)) ∈ lw_all := lw_g (lw_at lw_m5 3 rfl) rfl
theorem q1092 : (Jvm.Cond.methodLink "BoardCrossing" (245 : Nat) ({ cls := "BoardCrossing$Rive\x72", name := "cell", desc := "(II)I" } : Jvm.MethodName)) ∈ lw_all := lw_g (lw_at lw_m5 4 rfl) rfl
theorem q1094 : (Jvm.Cond.instanceMethod ({ cls := "BoardCrossing", name := "hotte\x72", desc := "(I)I" } : Jvm.MethodName)) ∈ lw_all := lw_g (lw_at lw_m5 6 rfl) rfl
theorem q1095 : (Jvm.Cond.selects "BoardCrossing" ({ cls := "BoardCrossing", name := "hotte\x72", desc := "(I)I" } : Jvm.MethodName) ({ cls := "BoardCrossing", name := "hotte\x72", desc := "(I)I" } : Jvm.MethodName)) ∈ lw_all := lw_g (lw_at lw_m5 7 rfl) rfl
theorem q1096 : (Jvm.Cond.code ({ cls := "BoardCrossing", name := "hotte\x72", desc := "(I)I" } : Jvm.MethodName) prog_1_method_22_code (2 : Nat) (Option.some Jvm.ClassFile.FieldType.int)) ∈ lw_all := lw_g (lw_at lw_m5 8 rfl) rfl
theorem q1097 : (Jvm.Cond.methodLink "BoardCrossing" (251 : Nat) ({ cls := "BoardCrossing$Rive\x72", name := "hotte\x72", desc := "(LBoardCrossing$State;I)I" } : Jvm.MethodName)) ∈ lw_all := lw_g (lw_at lw_m5 9 rfl) rfl
theorem q1124 : (Jvm.Cond.static ({ cls := "BoardCrossing", name := "within", desc := "(II)I" } : Jvm.MethodName)) ∈ lw_all := lw_g (lw_at lw_m5 36 rfl) rfl
theorem q1125 : (Jvm.Cond.code ({ cls := "BoardCrossing", name := "within", desc := "(II)I" } : Jvm.MethodName) prog_1_method_2_code (2 : Nat) (Option.some Jvm.ClassFile.FieldType.int)) ∈ lw_all := lw_g (lw_at lw_m5 37 rfl) rfl
theorem q1126 : (Jvm.Cond.methodLink "BoardCrossing" (1 : Nat) ({ cls := "java/lang/Math", name := "min", desc := "(II)I" } : Jvm.MethodName)) ∈ lw_all := lw_g (lw_at lw_m5 38 rfl) rfl
theorem q1127 : (Jvm.Cond.methodLink "BoardCrossing" (7 : Nat) ({ cls := "java/lang/Math", name := "max", desc := "(II)I" } : Jvm.MethodName)) ∈ lw_all := lw_g (lw_at lw_m5 39 rfl) rfl
theorem q1129 : (Jvm.Cond.instanceMethod ({ cls := "BoardCrossing", name := "stroke", desc := "(IIZ)I" } : Jvm.MethodName)) ∈ lw_all := lw_g (lw_at lw_m5 41 rfl) rfl
theorem q1130 : (Jvm.Cond.selects "BoardCrossing" ({ cls := "BoardCrossing", name := "stroke", desc := "(IIZ)I" } : Jvm.MethodName) ({ cls := "BoardCrossing", name := "stroke", desc := "(IIZ)I" } : Jvm.MethodName)) ∈ lw_all := lw_g (lw_at lw_m5 42 rfl) rfl
theorem q1131 : (Jvm.Cond.code ({ cls := "BoardCrossing", name := "stroke", desc := "(IIZ)I" } : Jvm.MethodName) prog_1_method_23_code (4 : Nat) (Option.some Jvm.ClassFile.FieldType.int)) ∈ lw_all := lw_g (lw_at lw_m5 43 rfl) rfl
theorem q1132 : (Jvm.Cond.methodLink "BoardCrossing" (255 : Nat) ({ cls := "BoardCrossing", name := "keepAct", desc := "()V" } : Jvm.MethodName)) ∈ lw_all := lw_g (lw_at lw_m5 44 rfl) rfl
theorem q1133 : (Jvm.Cond.privateMethod ({ cls := "BoardCrossing", name := "keepAct", desc := "()V" } : Jvm.MethodName)) ∈ lw_tbl := lw_at lw_m5 45 rfl
theorem q1134 : (Jvm.Cond.instanceMethod ({ cls := "BoardCrossing", name := "keepAct", desc := "()V" } : Jvm.MethodName)) ∈ lw_all := lw_g (lw_at lw_m5 46 rfl) rfl
theorem q1135 : (Jvm.Cond.code ({ cls := "BoardCrossing", name := "keepAct", desc := "()V" } : Jvm.MethodName) prog_1_method_8_code (1 : Nat) (Option.none : Option Jvm.ClassFile.FieldType)) ∈ lw_all := lw_g (lw_at lw_m5 47 rfl) rfl
theorem q1136 : (Jvm.Cond.methodLink "BoardCrossing" (140 : Nat) ({ cls := "java/util/ArrayList", name := "remove", desc := "(I)Ljava/lang/Object;" } : Jvm.MethodName)) ∈ lw_all := lw_g (lw_at lw_m5 48 rfl) rfl
theorem q1145 : (Jvm.Cond.methodLink "BoardCrossing" (144 : Nat) ({ cls := "BoardCrossing", name := "copy", desc := "(LBoardCrossing$State;)LBoardCrossing$State;" } : Jvm.MethodName)) ∈ lw_all := lw_g (lw_at lw_m5 57 rfl) rfl
theorem q1146 : (Jvm.Cond.static ({ cls := "BoardCrossing", name := "copy", desc := "(LBoardCrossing$State;)LBoardCrossing$State;" } : Jvm.MethodName)) ∈ lw_all := lw_g (lw_at lw_m5 58 rfl) rfl
theorem q1147 : (Jvm.Cond.code ({ cls := "BoardCrossing", name := "copy", desc := "(LBoardCrossing$State;)LBoardCrossing$State;" } : Jvm.MethodName) prog_1_method_7_code (2 : Nat) (Option.some (Jvm.ClassFile.FieldType.object "BoardCrossing$State"))) ∈ lw_all := lw_g (lw_at lw_m5 59 rfl) rfl
theorem q1148 : (Jvm.Cond.methodLink "BoardCrossing" (133 : Nat) ({ cls := "BoardCrossing$State", name := "of", desc := "(LBoardCrossing$State;)V" } : Jvm.MethodName)) ∈ lw_all := lw_g (lw_at lw_m5 60 rfl) rfl
theorem q1153 : (Jvm.Cond.methodLink "BoardCrossing" (148 : Nat) ({ cls := "java/util/ArrayList", name := "add", desc := "(Ljava/lang/Object;)Z" } : Jvm.MethodName)) ∈ lw_all := lw_g (lw_at lw_m5 65 rfl) rfl
theorem q1154 : (Jvm.Cond.methodLink "BoardCrossing" (264 : Nat) ({ cls := "BoardCrossing$State", name := "stroke", desc := "(LBoardCrossing$River;IIZZ)I" } : Jvm.MethodName)) ∈ lw_all := lw_g (lw_at lw_m5 66 rfl) rfl
theorem q1163 : (Jvm.Cond.instanceMethod ({ cls := "BoardCrossing", name := "stow", desc := "(II)I" } : Jvm.MethodName)) ∈ lw_all := lw_g (lw_at lw_m5 75 rfl) rfl
theorem q1164 : (Jvm.Cond.selects "BoardCrossing" ({ cls := "BoardCrossing", name := "stow", desc := "(II)I" } : Jvm.MethodName) ({ cls := "BoardCrossing", name := "stow", desc := "(II)I" } : Jvm.MethodName)) ∈ lw_all := lw_g (lw_at lw_m5 76 rfl) rfl
theorem q1165 : (Jvm.Cond.code ({ cls := "BoardCrossing", name := "stow", desc := "(II)I" } : Jvm.MethodName) prog_1_method_25_code (3 : Nat) (Option.some Jvm.ClassFile.FieldType.int)) ∈ lw_all := lw_g (lw_at lw_m5 77 rfl) rfl
theorem q1166 : (Jvm.Cond.methodLink "BoardCrossing" (268 : Nat) ({ cls := "BoardCrossing$State", name := "bankOf", desc := "(LBoardCrossing$River;I)I" } : Jvm.MethodName)) ∈ lw_all := lw_g (lw_at lw_m5 78 rfl) rfl
theorem q1170 : (Jvm.Cond.methodLink "BoardCrossing" (271 : Nat) ({ cls := "BoardCrossing", name := "liesFlat", desc := "(II)Z" } : Jvm.MethodName)) ∈ lw_all := lw_g (lw_at lw_m5 82 rfl) rfl
theorem q1171 : (Jvm.Cond.privateMethod ({ cls := "BoardCrossing", name := "liesFlat", desc := "(II)Z" } : Jvm.MethodName)) ∈ lw_tbl := lw_at lw_m5 83 rfl
theorem q1172 : (Jvm.Cond.instanceMethod ({ cls := "BoardCrossing", name := "liesFlat", desc := "(II)Z" } : Jvm.MethodName)) ∈ lw_all := lw_g (lw_at lw_m5 84 rfl) rfl
theorem q1173 : (Jvm.Cond.code ({ cls := "BoardCrossing", name := "liesFlat", desc := "(II)Z" } : Jvm.MethodName) prog_1_method_24_code (3 : Nat) (Option.some Jvm.ClassFile.FieldType.boolean)) ∈ lw_all := lw_g (lw_at lw_m5 85 rfl) rfl
theorem q1175 : (Jvm.Cond.instanceMethod ({ cls := "BoardCrossing", name := "take", desc := "(I)I" } : Jvm.MethodName)) ∈ lw_all := lw_g (lw_at lw_m5 87 rfl) rfl
theorem q1176 : (Jvm.Cond.selects "BoardCrossing" ({ cls := "BoardCrossing", name := "take", desc := "(I)I" } : Jvm.MethodName) ({ cls := "BoardCrossing", name := "take", desc := "(I)I" } : Jvm.MethodName)) ∈ lw_all := lw_g (lw_at lw_m5 88 rfl) rfl
theorem q1177 : (Jvm.Cond.code ({ cls := "BoardCrossing", name := "take", desc := "(I)I" } : Jvm.MethodName) prog_1_method_26_code (3 : Nat) (Option.some Jvm.ClassFile.FieldType.int)) ∈ lw_all := lw_g (lw_at lw_m5 89 rfl) rfl
theorem q1179 : (Jvm.Cond.instanceMethod ({ cls := "BoardCrossing", name := "cool", desc := "(II)I" } : Jvm.MethodName)) ∈ lw_all := lw_g (lw_at lw_m5 91 rfl) rfl
theorem q1180 : (Jvm.Cond.selects "BoardCrossing" ({ cls := "BoardCrossing", name := "cool", desc := "(II)I" } : Jvm.MethodName) ({ cls := "BoardCrossing", name := "cool", desc := "(II)I" } : Jvm.MethodName)) ∈ lw_all := lw_g (lw_at lw_m5 92 rfl) rfl
theorem q1181 : (Jvm.Cond.code ({ cls := "BoardCrossing", name := "cool", desc := "(II)I" } : Jvm.MethodName) prog_1_method_27_code (3 : Nat) (Option.some Jvm.ClassFile.FieldType.int)) ∈ lw_all := lw_g (lw_at lw_m5 93 rfl) rfl
theorem q1182 : (Jvm.Cond.methodLink "BoardCrossing" (275 : Nat) ({ cls := "BoardCrossing", name := "within", desc := "(II)I" } : Jvm.MethodName)) ∈ lw_all := lw_g (lw_at lw_m5 94 rfl) rfl
theorem q1184 : (Jvm.Cond.instanceMethod ({ cls := "BoardCrossing", name := "undo", desc := "()Z" } : Jvm.MethodName)) ∈ lw_all := lw_g (lw_at lw_m5 96 rfl) rfl
theorem q1185 : (Jvm.Cond.selects "BoardCrossing" ({ cls := "BoardCrossing", name := "undo", desc := "()Z" } : Jvm.MethodName) ({ cls := "BoardCrossing", name := "undo", desc := "()Z" } : Jvm.MethodName)) ∈ lw_all := lw_g (lw_at lw_m5 97 rfl) rfl
theorem q1186 : (Jvm.Cond.code ({ cls := "BoardCrossing", name := "undo", desc := "()Z" } : Jvm.MethodName) prog_1_method_28_code (1 : Nat) (Option.some Jvm.ClassFile.FieldType.boolean)) ∈ lw_all := lw_g (lw_at lw_m5 98 rfl) rfl
theorem q1187 : (Jvm.Cond.methodLink "BoardCrossing" (278 : Nat) ({ cls := "java/util/ArrayList", name := "isEmpty", desc := "()Z" } : Jvm.MethodName)) ∈ lw_all := lw_g (lw_at lw_m5 99 rfl) rfl
theorem q1191 : (Jvm.Cond.methodLink "BoardCrossing" (282 : Nat) ({ cls := "BoardCrossing", name := "turned", desc := "(LBoardCrossing$Kept;)LBoardCrossing$Kept;" } : Jvm.MethodName)) ∈ lw_all := lw_g (lw_at lw_m5 103 rfl) rfl
theorem q1192 : (Jvm.Cond.privateMethod ({ cls := "BoardCrossing", name := "turned", desc := "(LBoardCrossing$Kept;)LBoardCrossing$Kept;" } : Jvm.MethodName)) ∈ lw_tbl := lw_at lw_m5 104 rfl
theorem q1193 : (Jvm.Cond.instanceMethod ({ cls := "BoardCrossing", name := "turned", desc := "(LBoardCrossing$Kept;)LBoardCrossing$Kept;" } : Jvm.MethodName)) ∈ lw_all := lw_g (lw_at lw_m5 105 rfl) rfl
theorem q1194 : (Jvm.Cond.code ({ cls := "BoardCrossing", name := "turned", desc := "(LBoardCrossing$Kept;)LBoardCrossing$Kept;" } : Jvm.MethodName) prog_1_method_9_code (3 : Nat) (Option.some (Jvm.ClassFile.FieldType.object "BoardCrossing$Kept"))) ∈ lw_all := lw_g (lw_at lw_m5 106 rfl) rfl
theorem q1196 : (Jvm.Cond.instanceMethod ({ cls := "BoardCrossing", name := "redo", desc := "()Z" } : Jvm.MethodName)) ∈ lw_all := lw_g (lw_at lw_m5 108 rfl) rfl
theorem q1197 : (Jvm.Cond.selects "BoardCrossing" ({ cls := "BoardCrossing", name := "redo", desc := "()Z" } : Jvm.MethodName) ({ cls := "BoardCrossing", name := "redo", desc := "()Z" } : Jvm.MethodName)) ∈ lw_all := lw_g (lw_at lw_m5 109 rfl) rfl
theorem q1198 : (Jvm.Cond.code ({ cls := "BoardCrossing", name := "redo", desc := "()Z" } : Jvm.MethodName) prog_1_method_29_code (1 : Nat) (Option.some Jvm.ClassFile.FieldType.boolean)) ∈ lw_all := lw_g (lw_at lw_m5 110 rfl) rfl
theorem q1200 : (Jvm.Cond.instanceMethod ({ cls := "BoardCrossing", name := "lies", desc := "(I)I" } : Jvm.MethodName)) ∈ lw_all := lw_g (lw_at lw_m5 112 rfl) rfl
theorem q1201 : (Jvm.Cond.selects "BoardCrossing" ({ cls := "BoardCrossing", name := "lies", desc := "(I)I" } : Jvm.MethodName) ({ cls := "BoardCrossing", name := "lies", desc := "(I)I" } : Jvm.MethodName)) ∈ lw_all := lw_g (lw_at lw_m5 113 rfl) rfl
theorem q1202 : (Jvm.Cond.code ({ cls := "BoardCrossing", name := "lies", desc := "(I)I" } : Jvm.MethodName) prog_1_method_30_code (2 : Nat) (Option.some Jvm.ClassFile.FieldType.int)) ∈ lw_all := lw_g (lw_at lw_m5 114 rfl) rfl
theorem q1204 : (Jvm.Cond.instanceMethod ({ cls := "BoardCrossing", name := "landings", desc := "(I)I" } : Jvm.MethodName)) ∈ lw_all := lw_g (lw_at lw_m5 116 rfl) rfl
theorem q1205 : (Jvm.Cond.selects "BoardCrossing" ({ cls := "BoardCrossing", name := "landings", desc := "(I)I" } : Jvm.MethodName) ({ cls := "BoardCrossing", name := "landings", desc := "(I)I" } : Jvm.MethodName)) ∈ lw_all := lw_g (lw_at lw_m5 117 rfl) rfl
theorem q1206 : (Jvm.Cond.code ({ cls := "BoardCrossing", name := "landings", desc := "(I)I" } : Jvm.MethodName) prog_1_method_35_code (2 : Nat) (Option.some Jvm.ClassFile.FieldType.int)) ∈ lw_all := lw_g (lw_at lw_m5 118 rfl) rfl
theorem q1207 : (Jvm.Cond.methodLink "BoardCrossing" (303 : Nat) ({ cls := "BoardCrossing", name := "landingsOf", desc := "(I)I" } : Jvm.MethodName)) ∈ lw_all := lw_g (lw_at lw_m5 119 rfl) rfl
theorem q1208 : (Jvm.Cond.privateMethod ({ cls := "BoardCrossing", name := "landingsOf", desc := "(I)I" } : Jvm.MethodName)) ∈ lw_tbl := lw_at lw_m5 120 rfl
theorem q1209 : (Jvm.Cond.instanceMethod ({ cls := "BoardCrossing", name := "landingsOf", desc := "(I)I" } : Jvm.MethodName)) ∈ lw_all := lw_g (lw_at lw_m5 121 rfl) rfl
theorem q1210 : (Jvm.Cond.code ({ cls := "BoardCrossing", name := "landingsOf", desc := "(I)I" } : Jvm.MethodName) prog_1_method_34_code (5 : Nat) (Option.some Jvm.ClassFile.FieldType.int)) ∈ lw_all := lw_g (lw_at lw_m5 122 rfl) rfl
theorem q1211 : (Jvm.Cond.methodLink "BoardCrossing" (297 : Nat) ({ cls := "BoardCrossing", name := "strokesLeft", desc := "(I)I" } : Jvm.MethodName)) ∈ lw_all := lw_g (lw_at lw_m5 123 rfl) rfl
theorem q1212 : (Jvm.Cond.privateMethod ({ cls := "BoardCrossing", name := "strokesLeft", desc := "(I)I" } : Jvm.MethodName)) ∈ lw_tbl := lw_at lw_m5 124 rfl
theorem q1213 : (Jvm.Cond.instanceMethod ({ cls := "BoardCrossing", name := "strokesLeft", desc := "(I)I" } : Jvm.MethodName)) ∈ lw_all := lw_g (lw_at lw_m5 125 rfl) rfl
theorem q1214 : (Jvm.Cond.code ({ cls := "BoardCrossing", name := "strokesLeft", desc := "(I)I" } : Jvm.MethodName) prog_1_method_33_code (2 : Nat) (Option.some Jvm.ClassFile.FieldType.int)) ∈ lw_all := lw_g (lw_at lw_m5 126 rfl) rfl
theorem q1215 : (Jvm.Cond.methodLink "BoardCrossing" (286 : Nat) ({ cls := "BoardCrossing", name := "powe\x72", desc := "(II)I" } : Jvm.MethodName)) ∈ lw_all := lw_g (lw_at lw_m5 127 rfl) rfl
theorem q1216 : (Jvm.Cond.static ({ cls := "BoardCrossing", name := "powe\x72", desc := "(II)I" } : Jvm.MethodName)) ∈ lw_all := lw_g (lw_at lw_m5 128 rfl) rfl
theorem q1217 : (Jvm.Cond.code ({ cls := "BoardCrossing", name := "powe\x72", desc := "(II)I" } : Jvm.MethodName) prog_1_method_4_code (4 : Nat) (Option.some Jvm.ClassFile.FieldType.int)) ∈ lw_all := lw_g (lw_at lw_m5 129 rfl) rfl
theorem q1218 : (Jvm.Cond.methodLink "BoardCrossing" (300 : Nat) ({ cls := "BoardCrossing", name := "goRow", desc := "(III)I" } : Jvm.MethodName)) ∈ lw_all := lw_g (lw_at lw_m5 130 rfl) rfl
theorem q1219 : (Jvm.Cond.privateMethod ({ cls := "BoardCrossing", name := "goRow", desc := "(III)I" } : Jvm.MethodName)) ∈ lw_tbl := lw_at lw_m5 131 rfl
theorem q1220 : (Jvm.Cond.instanceMethod ({ cls := "BoardCrossing", name := "goRow", desc := "(III)I" } : Jvm.MethodName)) ∈ lw_all := lw_g (lw_at lw_m5 132 rfl) rfl
theorem q1221 : (Jvm.Cond.code ({ cls := "BoardCrossing", name := "goRow", desc := "(III)I" } : Jvm.MethodName) prog_1_method_32_code (7 : Nat) (Option.some Jvm.ClassFile.FieldType.int)) ∈ lw_all := lw_g (lw_at lw_m5 133 rfl) rfl
theorem q1222 : (Jvm.Cond.methodLink "BoardCrossing" (289 : Nat) ({ cls := "BoardCrossing", name := "steerOf", desc := "(III)I" } : Jvm.MethodName)) ∈ lw_all := lw_g (lw_at lw_m5 134 rfl) rfl
theorem q1223 : (Jvm.Cond.static ({ cls := "BoardCrossing", name := "steerOf", desc := "(III)I" } : Jvm.MethodName)) ∈ lw_all := lw_g (lw_at lw_m5 135 rfl) rfl
theorem q1224 : (Jvm.Cond.code ({ cls := "BoardCrossing", name := "steerOf", desc := "(III)I" } : Jvm.MethodName) prog_1_method_31_code (3 : Nat) (Option.some Jvm.ClassFile.FieldType.int)) ∈ lw_all := lw_g (lw_at lw_m5 136 rfl) rfl
theorem q1225 : (Jvm.Cond.methodLink "BoardCrossing" (293 : Nat) ({ cls := "java/lang/Math", name := "abs", desc := "(I)I" } : Jvm.MethodName)) ∈ lw_all := lw_g (lw_at lw_m5 137 rfl) rfl
theorem q1229 : (Jvm.Cond.instanceMethod ({ cls := "BoardCrossing", name := "rows", desc := "(I)I" } : Jvm.MethodName)) ∈ lw_all := lw_g (lw_at lw_m5 141 rfl) rfl
theorem q1230 : (Jvm.Cond.selects "BoardCrossing" ({ cls := "BoardCrossing", name := "rows", desc := "(I)I" } : Jvm.MethodName) ({ cls := "BoardCrossing", name := "rows", desc := "(I)I" } : Jvm.MethodName)) ∈ lw_all := lw_g (lw_at lw_m5 142 rfl) rfl
theorem q1231 : (Jvm.Cond.code ({ cls := "BoardCrossing", name := "rows", desc := "(I)I" } : Jvm.MethodName) prog_1_method_36_code (5 : Nat) (Option.some Jvm.ClassFile.FieldType.int)) ∈ lw_all := lw_g (lw_at lw_m5 143 rfl) rfl
theorem q1233 : (Jvm.Cond.instanceMethod ({ cls := "BoardCrossing", name := "drift", desc := "(I)I" } : Jvm.MethodName)) ∈ lw_all := lw_g (lw_at lw_m5 145 rfl) rfl
theorem q1234 : (Jvm.Cond.selects "BoardCrossing" ({ cls := "BoardCrossing", name := "drift", desc := "(I)I" } : Jvm.MethodName) ({ cls := "BoardCrossing", name := "drift", desc := "(I)I" } : Jvm.MethodName)) ∈ lw_all := lw_g (lw_at lw_m5 146 rfl) rfl
theorem q1235 : (Jvm.Cond.code ({ cls := "BoardCrossing", name := "drift", desc := "(I)I" } : Jvm.MethodName) prog_1_method_38_code (3 : Nat) (Option.some Jvm.ClassFile.FieldType.int)) ∈ lw_all := lw_g (lw_at lw_m5 147 rfl) rfl
theorem q1236 : (Jvm.Cond.methodLink "BoardCrossing" (306 : Nat) ({ cls := "BoardCrossing", name := "straightOn", desc := "(I)I" } : Jvm.MethodName)) ∈ lw_all := lw_g (lw_at lw_m5 148 rfl) rfl
theorem q1237 : (Jvm.Cond.static ({ cls := "BoardCrossing", name := "straightOn", desc := "(I)I" } : Jvm.MethodName)) ∈ lw_all := lw_g (lw_at lw_m5 149 rfl) rfl
theorem q1238 : (Jvm.Cond.code ({ cls := "BoardCrossing", name := "straightOn", desc := "(I)I" } : Jvm.MethodName) prog_1_method_37_code (1 : Nat) (Option.some Jvm.ClassFile.FieldType.int)) ∈ lw_all := lw_g (lw_at lw_m5 150 rfl) rfl
theorem q1240 : (Jvm.Cond.instanceMethod ({ cls := "BoardCrossing", name := "coolest", desc := "(II)I" } : Jvm.MethodName)) ∈ lw_all := lw_g (lw_at lw_m5 152 rfl) rfl
theorem q1241 : (Jvm.Cond.selects "BoardCrossing" ({ cls := "BoardCrossing", name := "coolest", desc := "(II)I" } : Jvm.MethodName) ({ cls := "BoardCrossing", name := "coolest", desc := "(II)I" } : Jvm.MethodName)) ∈ lw_all := lw_g (lw_at lw_m5 153 rfl) rfl
theorem q1242 : (Jvm.Cond.code ({ cls := "BoardCrossing", name := "coolest", desc := "(II)I" } : Jvm.MethodName) prog_1_method_39_code (4 : Nat) (Option.some Jvm.ClassFile.FieldType.int)) ∈ lw_all := lw_g (lw_at lw_m5 154 rfl) rfl
theorem q1243 : (Jvm.Cond.methodLink "BoardCrossing" (309 : Nat) ({ cls := "BoardCrossing$Wish", name := "seek", desc := "(I)Z" } : Jvm.MethodName)) ∈ lw_all := lw_g (lw_at lw_m5 155 rfl) rfl
theorem q1262 : (Jvm.Cond.instanceMethod ({ cls := "BoardCrossing", name := "straight", desc := "(II)I" } : Jvm.MethodName)) ∈ lw_all := lw_g (lw_at lw_m5 174 rfl) rfl
theorem q1263 : (Jvm.Cond.selects "BoardCrossing" ({ cls := "BoardCrossing", name := "straight", desc := "(II)I" } : Jvm.MethodName) ({ cls := "BoardCrossing", name := "straight", desc := "(II)I" } : Jvm.MethodName)) ∈ lw_all := lw_g (lw_at lw_m5 175 rfl) rfl
theorem q1264 : (Jvm.Cond.code ({ cls := "BoardCrossing", name := "straight", desc := "(II)I" } : Jvm.MethodName) prog_1_method_40_code (3 : Nat) (Option.some Jvm.ClassFile.FieldType.int)) ∈ lw_all := lw_g (lw_at lw_m5 176 rfl) rfl
theorem q1265 : (Jvm.Cond.methodLink "BoardCrossing" (320 : Nat) ({ cls := "BoardCrossing$Straightest", name := "seek", desc := "(I)Z" } : Jvm.MethodName)) ∈ lw_all := lw_g (lw_at lw_m5 177 rfl) rfl
theorem q1270 : (Jvm.Cond.instanceMethod ({ cls := "BoardCrossing", name := "singe", desc := "(I)I" } : Jvm.MethodName)) ∈ lw_all := lw_g (lw_at lw_m5 182 rfl) rfl
theorem q1271 : (Jvm.Cond.selects "BoardCrossing" ({ cls := "BoardCrossing", name := "singe", desc := "(I)I" } : Jvm.MethodName) ({ cls := "BoardCrossing", name := "singe", desc := "(I)I" } : Jvm.MethodName)) ∈ lw_all := lw_g (lw_at lw_m5 183 rfl) rfl
theorem q1272 : (Jvm.Cond.code ({ cls := "BoardCrossing", name := "singe", desc := "(I)I" } : Jvm.MethodName) prog_1_method_41_code (4 : Nat) (Option.some Jvm.ClassFile.FieldType.int)) ∈ lw_all := lw_g (lw_at lw_m5 184 rfl) rfl
theorem q1274 : (Jvm.Cond.instanceMethod ({ cls := "BoardCrossing", name := "widest", desc := "(II)I" } : Jvm.MethodName)) ∈ lw_all := lw_g (lw_at lw_m5 186 rfl) rfl
theorem q1275 : (Jvm.Cond.selects "BoardCrossing" ({ cls := "BoardCrossing", name := "widest", desc := "(II)I" } : Jvm.MethodName) ({ cls := "BoardCrossing", name := "widest", desc := "(II)I" } : Jvm.MethodName)) ∈ lw_all := lw_g (lw_at lw_m5 187 rfl) rfl
theorem q1276 : (Jvm.Cond.code ({ cls := "BoardCrossing", name := "widest", desc := "(II)I" } : Jvm.MethodName) prog_1_method_42_code (6 : Nat) (Option.some Jvm.ClassFile.FieldType.int)) ∈ lw_all := lw_g (lw_at lw_m5 188 rfl) rfl
theorem q1277 : (Jvm.Cond.methodLink "BoardCrossing" (324 : Nat) ({ cls := "BoardCrossing$Rive\x72", name := "widthOf", desc := "(I)I" } : Jvm.MethodName)) ∈ lw_all := lw_g (lw_at lw_m5 189 rfl) rfl
theorem q1279 : (Jvm.Cond.instanceMethod ({ cls := "BoardCrossing", name := "trips", desc := "(I)I" } : Jvm.MethodName)) ∈ lw_all := lw_g (lw_at lw_m5 191 rfl) rfl
theorem q1280 : (Jvm.Cond.selects "BoardCrossing" ({ cls := "BoardCrossing", name := "trips", desc := "(I)I" } : Jvm.MethodName) ({ cls := "BoardCrossing", name := "trips", desc := "(I)I" } : Jvm.MethodName)) ∈ lw_all := lw_g (lw_at lw_m5 192 rfl) rfl
theorem q1281 : (Jvm.Cond.code ({ cls := "BoardCrossing", name := "trips", desc := "(I)I" } : Jvm.MethodName) prog_1_method_44_code (2 : Nat) (Option.some Jvm.ClassFile.FieldType.int)) ∈ lw_all := lw_g (lw_at lw_m5 193 rfl) rfl
theorem q1282 : (Jvm.Cond.methodLink "BoardCrossing" (336 : Nat) ({ cls := "BoardCrossing", name := "goTrips", desc := "(III[I)V" } : Jvm.MethodName)) ∈ lw_all := lw_g (lw_at lw_m5 194 rfl) rfl
theorem q1283 : (Jvm.Cond.privateMethod ({ cls := "BoardCrossing", name := "goTrips", desc := "(III[I)V" } : Jvm.MethodName)) ∈ lw_tbl := lw_at lw_m5 195 rfl
theorem q1284 : (Jvm.Cond.instanceMethod ({ cls := "BoardCrossing", name := "goTrips", desc := "(III[I)V" } : Jvm.MethodName)) ∈ lw_all := lw_g (lw_at lw_m5 196 rfl) rfl
theorem q1285 : (Jvm.Cond.code ({ cls := "BoardCrossing", name := "goTrips", desc := "(III[I)V" } : Jvm.MethodName) prog_1_method_43_code (7 : Nat) (Option.none : Option Jvm.ClassFile.FieldType)) ∈ lw_all := lw_g (lw_at lw_m5 197 rfl) rfl
theorem q1286 : (Jvm.Cond.methodLink "BoardCrossing" (330 : Nat) ({ cls := "java/lang/System", name := "arraycopy", desc := "(Ljava/lang/Object;ILjava/lang/Object;II)V" } : Jvm.MethodName)) ∈ lw_all := lw_g (lw_at lw_m5 198 rfl) rfl
theorem q1288 : (Jvm.Cond.instanceMethod ({ cls := "BoardCrossing", name := "stowing", desc := "()I" } : Jvm.MethodName)) ∈ lw_all := lw_g (lw_at lw_m5 200 rfl) rfl
theorem q1289 : (Jvm.Cond.selects "BoardCrossing" ({ cls := "BoardCrossing", name := "stowing", desc := "()I" } : Jvm.MethodName) ({ cls := "BoardCrossing", name := "stowing", desc := "()I" } : Jvm.MethodName)) ∈ lw_all := lw_g (lw_at lw_m5 201 rfl) rfl
theorem q1290 : (Jvm.Cond.code ({ cls := "BoardCrossing", name := "stowing", desc := "()I" } : Jvm.MethodName) prog_1_method_46_code (1 : Nat) (Option.some Jvm.ClassFile.FieldType.int)) ∈ lw_all := lw_g (lw_at lw_m5 202 rfl) rfl
theorem q1291 : (Jvm.Cond.methodLink "BoardCrossing" (345 : Nat) ({ cls := "BoardCrossing", name := "goStow", desc := "(II[I)V" } : Jvm.MethodName)) ∈ lw_all := lw_g (lw_at lw_m5 203 rfl) rfl
theorem q1292 : (Jvm.Cond.privateMethod ({ cls := "BoardCrossing", name := "goStow", desc := "(II[I)V" } : Jvm.MethodName)) ∈ lw_tbl := lw_at lw_m5 204 rfl
theorem q1293 : (Jvm.Cond.instanceMethod ({ cls := "BoardCrossing", name := "goStow", desc := "(II[I)V" } : Jvm.MethodName)) ∈ lw_all := lw_g (lw_at lw_m5 205 rfl) rfl
theorem q1294 : (Jvm.Cond.code ({ cls := "BoardCrossing", name := "goStow", desc := "(II[I)V" } : Jvm.MethodName) prog_1_method_45_code (6 : Nat) (Option.none : Option Jvm.ClassFile.FieldType)) ∈ lw_all := lw_g (lw_at lw_m5 206 rfl) rfl
theorem q1295 : (Jvm.Cond.methodLink "BoardCrossing" (340 : Nat) ({ cls := "java/lang/Intege\x72", name := "bitCount", desc := "(I)I" } : Jvm.MethodName)) ∈ lw_all := lw_g (lw_at lw_m5 207 rfl) rfl
theorem q1302 : (Jvm.Cond.instanceMethod ({ cls := "BoardCrossing", name := "meet", desc := "(II)I" } : Jvm.MethodName)) ∈ lw_all := lw_g (lw_at lw_m5 214 rfl) rfl
theorem q1303 : (Jvm.Cond.selects "BoardCrossing" ({ cls := "BoardCrossing", name := "meet", desc := "(II)I" } : Jvm.MethodName) ({ cls := "BoardCrossing", name := "meet", desc := "(II)I" } : Jvm.MethodName)) ∈ lw_all := lw_g (lw_at lw_m5 215 rfl) rfl
theorem q1304 : (Jvm.Cond.code ({ cls := "BoardCrossing", name := "meet", desc := "(II)I" } : Jvm.MethodName) prog_1_method_50_code (4 : Nat) (Option.some Jvm.ClassFile.FieldType.int)) ∈ lw_all := lw_g (lw_at lw_m5 216 rfl) rfl
theorem q1305 : (Jvm.Cond.methodLink "BoardCrossing" (352 : Nat) ({ cls := "BoardCrossing", name := "areSideBySide", desc := "()Z" } : Jvm.MethodName)) ∈ lw_all := lw_g (lw_at lw_m5 217 rfl) rfl
theorem q1306 : (Jvm.Cond.privateMethod ({ cls := "BoardCrossing", name := "areSideBySide", desc := "()Z" } : Jvm.MethodName)) ∈ lw_tbl := lw_at lw_m5 218 rfl
theorem q1307 : (Jvm.Cond.instanceMethod ({ cls := "BoardCrossing", name := "areSideBySide", desc := "()Z" } : Jvm.MethodName)) ∈ lw_all := lw_g (lw_at lw_m5 219 rfl) rfl
theorem q1308 : (Jvm.Cond.code ({ cls := "BoardCrossing", name := "areSideBySide", desc := "()Z" } : Jvm.MethodName) prog_1_method_47_code (2 : Nat) (Option.some Jvm.ClassFile.FieldType.boolean)) ∈ lw_all := lw_g (lw_at lw_m5 220 rfl) rfl
theorem q1309 : (Jvm.Cond.methodLink "BoardCrossing" (355 : Nat) ({ cls := "BoardCrossing", name := "goMeet", desc := "(I)V" } : Jvm.MethodName)) ∈ lw_all := lw_g (lw_at lw_m5 221 rfl) rfl
theorem q1310 : (Jvm.Cond.privateMethod ({ cls := "BoardCrossing", name := "goMeet", desc := "(I)V" } : Jvm.MethodName)) ∈ lw_tbl := lw_at lw_m5 222 rfl
theorem q1311 : (Jvm.Cond.instanceMethod ({ cls := "BoardCrossing", name := "goMeet", desc := "(I)V" } : Jvm.MethodName)) ∈ lw_all := lw_g (lw_at lw_m5 223 rfl) rfl
theorem q1312 : (Jvm.Cond.code ({ cls := "BoardCrossing", name := "goMeet", desc := "(I)V" } : Jvm.MethodName) prog_1_method_49_code (6 : Nat) (Option.none : Option Jvm.ClassFile.FieldType)) ∈ lw_all := lw_g (lw_at lw_m5 224 rfl) rfl
theorem q1313 : (Jvm.Cond.methodLink "BoardCrossing" (349 : Nat) ({ cls := "BoardCrossing", name := "columnBy", desc := "(III)I" } : Jvm.MethodName)) ∈ lw_all := lw_g (lw_at lw_m5 225 rfl) rfl
theorem q1314 : (Jvm.Cond.privateMethod ({ cls := "BoardCrossing", name := "columnBy", desc := "(III)I" } : Jvm.MethodName)) ∈ lw_tbl := lw_at lw_m5 226 rfl
theorem q1315 : (Jvm.Cond.instanceMethod ({ cls := "BoardCrossing", name := "columnBy", desc := "(III)I" } : Jvm.MethodName)) ∈ lw_all := lw_g (lw_at lw_m5 227 rfl) rfl
theorem q1316 : (Jvm.Cond.code ({ cls := "BoardCrossing", name := "columnBy", desc := "(III)I" } : Jvm.MethodName) prog_1_method_48_code (5 : Nat) (Option.some Jvm.ClassFile.FieldType.int)) ∈ lw_all := lw_g (lw_at lw_m5 228 rfl) rfl
theorem q1318 : (Jvm.Cond.instanceMethod ({ cls := "BoardCrossing", name := "mooring", desc := "(I)I" } : Jvm.MethodName)) ∈ lw_all := lw_g (lw_at lw_m5 230 rfl) rfl
theorem q1319 : (Jvm.Cond.selects "BoardCrossing" ({ cls := "BoardCrossing", name := "mooring", desc := "(I)I" } : Jvm.MethodName) ({ cls := "BoardCrossing", name := "mooring", desc := "(I)I" } : Jvm.MethodName)) ∈ lw_all := lw_g (lw_at lw_m5 231 rfl) rfl
theorem q1320 : (Jvm.Cond.code ({ cls := "BoardCrossing", name := "mooring", desc := "(I)I" } : Jvm.MethodName) prog_1_method_52_code (3 : Nat) (Option.some Jvm.ClassFile.FieldType.int)) ∈ lw_all := lw_g (lw_at lw_m5 232 rfl) rfl
theorem q1321 : (Jvm.Cond.methodLink "BoardCrossing" (367 : Nat) ({ cls := "BoardCrossing", name := "goMoo\x72", desc := "(IIII)V" } : Jvm.MethodName)) ∈ lw_all := lw_g (lw_at lw_m5 233 rfl) rfl
theorem q1322 : (Jvm.Cond.privateMethod ({ cls := "BoardCrossing", name := "goMoo\x72", desc := "(IIII)V" } : Jvm.MethodName)) ∈ lw_tbl := lw_at lw_m5 234 rfl
theorem q1323 : (Jvm.Cond.instanceMethod ({ cls := "BoardCrossing", name := "goMoo\x72", desc := "(IIII)V" } : Jvm.MethodName)) ∈ lw_all := lw_g (lw_at lw_m5 235 rfl) rfl
theorem q1324 : (Jvm.Cond.code ({ cls := "BoardCrossing", name := "goMoo\x72", desc := "(IIII)V" } : Jvm.MethodName) prog_1_method_51_code (6 : Nat) (Option.none : Option Jvm.ClassFile.FieldType)) ∈ lw_all := lw_g (lw_at lw_m5 236 rfl) rfl
theorem q1325 : (Jvm.Cond.methodLink "BoardCrossing" (364 : Nat) ({ cls := "BoardCrossing", name := "has", desc := "(II)Z" } : Jvm.MethodName)) ∈ lw_all := lw_g (lw_at lw_m5 237 rfl) rfl
theorem q1326 : (Jvm.Cond.static ({ cls := "BoardCrossing", name := "has", desc := "(II)Z" } : Jvm.MethodName)) ∈ lw_all := lw_g (lw_at lw_m5 238 rfl) rfl
theorem q1327 : (Jvm.Cond.code ({ cls := "BoardCrossing", name := "has", desc := "(II)Z" } : Jvm.MethodName) prog_1_method_3_code (2 : Nat) (Option.some Jvm.ClassFile.FieldType.boolean)) ∈ lw_all := lw_g (lw_at lw_m5 239 rfl) rfl
theorem q1329 : (Jvm.Cond.instanceMethod ({ cls := "BoardCrossing", name := "guests", desc := "(II)I" } : Jvm.MethodName)) ∈ lw_all := lw_g (lw_at lw_m6 1 rfl) rfl
theorem q1330 : (Jvm.Cond.selects "BoardCrossing" ({ cls := "BoardCrossing", name := "guests", desc := "(II)I" } : Jvm.MethodName) ({ cls := "BoardCrossing", name := "guests", desc := "(II)I" } : Jvm.MethodName)) ∈ lw_all := lw_g (lw_at lw_m6 2 rfl) rfl
theorem q1331 : (Jvm.Cond.code ({ cls := "BoardCrossing", name := "guests", desc := "(II)I" } : Jvm.MethodName) prog_1_method_55_code (8 : Nat) (Option.some Jvm.ClassFile.FieldType.int)) ∈ lw_all := lw_g (lw_at lw_m6 3 rfl) rfl
theorem q1332 : (Jvm.Cond.methodLink "BoardCrossing" (374 : Nat) ({ cls := "BoardCrossing", name := "rests", desc := "(IIIIII)Z" } : Jvm.MethodName)) ∈ lw_all := lw_g (lw_at lw_m6 4 rfl) rfl
theorem q1333 : (Jvm.Cond.privateMethod ({ cls := "BoardCrossing", name := "rests", desc := "(IIIIII)Z" } : Jvm.MethodName)) ∈ lw_tbl := lw_at lw_m6 5 rfl
theorem q1334 : (Jvm.Cond.instanceMethod ({ cls := "BoardCrossing", name := "rests", desc := "(IIIIII)Z" } : Jvm.MethodName)) ∈ lw_all := lw_g (lw_at lw_m6 6 rfl) rfl
theorem q1335 : (Jvm.Cond.code ({ cls := "BoardCrossing", name := "rests", desc := "(IIIIII)Z" } : Jvm.MethodName) prog_1_method_54_code (8 : Nat) (Option.some Jvm.ClassFile.FieldType.boolean)) ∈ lw_all := lw_g (lw_at lw_m6 7 rfl) rfl
theorem q1336 : (Jvm.Cond.methodLink "BoardCrossing" (371 : Nat) ({ cls := "BoardCrossing", name := "good", desc := "(III)I" } : Jvm.MethodName)) ∈ lw_all := lw_g (lw_at lw_m6 8 rfl) rfl
theorem q1337 : (Jvm.Cond.privateMethod ({ cls := "BoardCrossing", name := "good", desc := "(III)I" } : Jvm.MethodName)) ∈ lw_tbl := lw_at lw_m6 9 rfl
theorem q1338 : (Jvm.Cond.instanceMethod ({ cls := "BoardCrossing", name := "good", desc := "(III)I" } : Jvm.MethodName)) ∈ lw_all := lw_g (lw_at lw_m6 10 rfl) rfl
theorem q1339 : (Jvm.Cond.code ({ cls := "BoardCrossing", name := "good", desc := "(III)I" } : Jvm.MethodName) prog_1_method_53_code (4 : Nat) (Option.some Jvm.ClassFile.FieldType.int)) ∈ lw_all := lw_g (lw_at lw_m6 11 rfl) rfl
theorem q1341 : (Jvm.Cond.instanceMethod ({ cls := "BoardCrossing", name := "odds", desc := "(III)I" } : Jvm.MethodName)) ∈ lw_all := lw_g (lw_at lw_m6 13 rfl) rfl
theorem q1342 : (Jvm.Cond.selects "BoardCrossing" ({ cls := "BoardCrossing", name := "odds", desc := "(III)I" } : Jvm.MethodName) ({ cls := "BoardCrossing", name := "odds", desc := "(III)I" } : Jvm.MethodName)) ∈ lw_all := lw_g (lw_at lw_m6 14 rfl) rfl
theorem q1343 : (Jvm.Cond.code ({ cls := "BoardCrossing", name := "odds", desc := "(III)I" } : Jvm.MethodName) prog_1_method_58_code (7 : Nat) (Option.some Jvm.ClassFile.FieldType.int)) ∈ lw_all := lw_g (lw_at lw_m6 15 rfl) rfl
theorem q1344 : (Jvm.Cond.methodLink "BoardCrossing" (381 : Nat) ({ cls := "BoardCrossing", name := "landsBy", desc := "(IIII)I" } : Jvm.MethodName)) ∈ lw_all := lw_g (lw_at lw_m6 16 rfl) rfl
theorem q1345 : (Jvm.Cond.privateMethod ({ cls := "BoardCrossing", name := "landsBy", desc := "(IIII)I" } : Jvm.MethodName)) ∈ lw_tbl := lw_at lw_m6 17 rfl
theorem q1346 : (Jvm.Cond.instanceMethod ({ cls := "BoardCrossing", name := "landsBy", desc := "(IIII)I" } : Jvm.MethodName)) ∈ lw_all := lw_g (lw_at lw_m6 18 rfl) rfl
theorem q1347 : (Jvm.Cond.code ({ cls := "BoardCrossing", name := "landsBy", desc := "(IIII)I" } : Jvm.MethodName) prog_1_method_57_code (8 : Nat) (Option.some Jvm.ClassFile.FieldType.int)) ∈ lw_all := lw_g (lw_at lw_m6 19 rfl) rfl
theorem q1348 : (Jvm.Cond.methodLink "BoardCrossing" (378 : Nat) ({ cls := "BoardCrossing", name := "common", desc := "(II)I" } : Jvm.MethodName)) ∈ lw_all := lw_g (lw_at lw_m6 20 rfl) rfl
theorem q1349 : (Jvm.Cond.static ({ cls := "BoardCrossing", name := "common", desc := "(II)I" } : Jvm.MethodName)) ∈ lw_all := lw_g (lw_at lw_m6 21 rfl) rfl
theorem q1350 : (Jvm.Cond.code ({ cls := "BoardCrossing", name := "common", desc := "(II)I" } : Jvm.MethodName) prog_1_method_56_code (2 : Nat) (Option.some Jvm.ClassFile.FieldType.int)) ∈ lw_all := lw_g (lw_at lw_m6 22 rfl) rfl
theorem q1352 : (Jvm.Cond.instanceMethod ({ cls := "BoardCrossing", name := "ove\x72", desc := "()I" } : Jvm.MethodName)) ∈ lw_all := lw_g (lw_at lw_m6 24 rfl) rfl
theorem q1353 : (Jvm.Cond.selects "BoardCrossing" ({ cls := "BoardCrossing", name := "ove\x72", desc := "()I" } : Jvm.MethodName) ({ cls := "BoardCrossing", name := "ove\x72", desc := "()I" } : Jvm.MethodName)) ∈ lw_all := lw_g (lw_at lw_m6 25 rfl) rfl
theorem q1354 : (Jvm.Cond.code ({ cls := "BoardCrossing", name := "ove\x72", desc := "()I" } : Jvm.MethodName) prog_1_method_59_code (1 : Nat) (Option.some Jvm.ClassFile.FieldType.int)) ∈ lw_all := lw_g (lw_at lw_m6 26 rfl) rfl
theorem q1356 : (Jvm.Cond.instanceMethod ({ cls := "BoardCrossing", name := "left", desc := "()I" } : Jvm.MethodName)) ∈ lw_all := lw_g (lw_at lw_m6 28 rfl) rfl
theorem q1357 : (Jvm.Cond.selects "BoardCrossing" ({ cls := "BoardCrossing", name := "left", desc := "()I" } : Jvm.MethodName) ({ cls := "BoardCrossing", name := "left", desc := "()I" } : Jvm.MethodName)) ∈ lw_all := lw_g (lw_at lw_m6 29 rfl) rfl
theorem q1358 : (Jvm.Cond.code ({ cls := "BoardCrossing", name := "left", desc := "()I" } : Jvm.MethodName) prog_1_method_60_code (1 : Nat) (Option.some Jvm.ClassFile.FieldType.int)) ∈ lw_all := lw_g (lw_at lw_m6 30 rfl) rfl
theorem q1359 : (Jvm.Cond.methodLink "BoardCrossing" (385 : Nat) ({ cls := "BoardCrossing", name := "ove\x72", desc := "()I" } : Jvm.MethodName)) ∈ lw_all := lw_g (lw_at lw_m6 31 rfl) rfl
theorem q1361 : (Jvm.Cond.instanceMethod ({ cls := "BoardCrossing", name := "pulled", desc := "()I" } : Jvm.MethodName)) ∈ lw_all := lw_g (lw_at lw_m6 33 rfl) rfl
theorem q1362 : (Jvm.Cond.selects "BoardCrossing" ({ cls := "BoardCrossing", name := "pulled", desc := "()I" } : Jvm.MethodName) ({ cls := "BoardCrossing", name := "pulled", desc := "()I" } : Jvm.MethodName)) ∈ lw_all := lw_g (lw_at lw_m6 34 rfl) rfl
theorem q1363 : (Jvm.Cond.code ({ cls := "BoardCrossing", name := "pulled", desc := "()I" } : Jvm.MethodName) prog_1_method_61_code (3 : Nat) (Option.some Jvm.ClassFile.FieldType.int)) ∈ lw_all := lw_g (lw_at lw_m6 35 rfl) rfl
theorem q1365 : (Jvm.Cond.instanceMethod ({ cls := "BoardCrossing", name := "hottest", desc := "()I" } : Jvm.MethodName)) ∈ lw_all := lw_g (lw_at lw_m6 37 rfl) rfl
theorem q1366 : (Jvm.Cond.selects "BoardCrossing" ({ cls := "BoardCrossing", name := "hottest", desc := "()I" } : Jvm.MethodName) ({ cls := "BoardCrossing", name := "hottest", desc := "()I" } : Jvm.MethodName)) ∈ lw_all := lw_g (lw_at lw_m6 38 rfl) rfl
theorem q1367 : (Jvm.Cond.code ({ cls := "BoardCrossing", name := "hottest", desc := "()I" } : Jvm.MethodName) prog_1_method_63_code (3 : Nat) (Option.some Jvm.ClassFile.FieldType.int)) ∈ lw_all := lw_g (lw_at lw_m6 39 rfl) rfl
theorem q1368 : (Jvm.Cond.methodLink "BoardCrossing" (388 : Nat) ({ cls := "BoardCrossing", name := "bearsYet", desc := "(I)I" } : Jvm.MethodName)) ∈ lw_all := lw_g (lw_at lw_m6 40 rfl) rfl
theorem q1369 : (Jvm.Cond.privateMethod ({ cls := "BoardCrossing", name := "bearsYet", desc := "(I)I" } : Jvm.MethodName)) ∈ lw_tbl := lw_at lw_m6 41 rfl
theorem q1370 : (Jvm.Cond.instanceMethod ({ cls := "BoardCrossing", name := "bearsYet", desc := "(I)I" } : Jvm.MethodName)) ∈ lw_all := lw_g (lw_at lw_m6 42 rfl) rfl
theorem q1371 : (Jvm.Cond.code ({ cls := "BoardCrossing", name := "bearsYet", desc := "(I)I" } : Jvm.MethodName) prog_1_method_62_code (2 : Nat) (Option.some Jvm.ClassFile.FieldType.int)) ∈ lw_all := lw_g (lw_at lw_m6 43 rfl) rfl
theorem q1373 : (Jvm.Cond.instanceMethod ({ cls := "BoardCrossing", name := "law", desc := "(I)I" } : Jvm.MethodName)) ∈ lw_all := lw_g (lw_at lw_m6 45 rfl) rfl
theorem q1374 : (Jvm.Cond.selects "BoardCrossing" ({ cls := "BoardCrossing", name := "law", desc := "(I)I" } : Jvm.MethodName) ({ cls := "BoardCrossing", name := "law", desc := "(I)I" } : Jvm.MethodName)) ∈ lw_all := lw_g (lw_at lw_m6 46 rfl) rfl
theorem q1375 : (Jvm.Cond.code ({ cls := "BoardCrossing", name := "law", desc := "(I)I" } : Jvm.MethodName) prog_1_method_64_code (4 : Nat) (Option.some Jvm.ClassFile.FieldType.int)) ∈ lw_all := lw_g (lw_at lw_m6 47 rfl) rfl
theorem q1377 : (Jvm.Cond.instanceMethod ({ cls := "BoardCrossing", name := "passed", desc := "(IIZ)I" } : Jvm.MethodName)) ∈ lw_all := lw_g (lw_at lw_m6 49 rfl) rfl
theorem q1378 : (Jvm.Cond.selects "BoardCrossing" ({ cls := "BoardCrossing", name := "passed", desc := "(IIZ)I" } : Jvm.MethodName) ({ cls := "BoardCrossing", name := "passed", desc := "(IIZ)I" } : Jvm.MethodName)) ∈ lw_all := lw_g (lw_at lw_m6 50 rfl) rfl
theorem q1379 : (Jvm.Cond.code ({ cls := "BoardCrossing", name := "passed", desc := "(IIZ)I" } : Jvm.MethodName) prog_1_method_66_code (4 : Nat) (Option.some Jvm.ClassFile.FieldType.int)) ∈ lw_all := lw_g (lw_at lw_m6 51 rfl) rfl
theorem q1380 : (Jvm.Cond.methodLink "BoardCrossing" (399 : Nat) ({ cls := "BoardCrossing", name := "see", desc := "(IIZZ)I" } : Jvm.MethodName)) ∈ lw_all := lw_g (lw_at lw_m6 52 rfl) rfl
theorem q1381 : (Jvm.Cond.privateMethod ({ cls := "BoardCrossing", name := "see", desc := "(IIZZ)I" } : Jvm.MethodName)) ∈ lw_tbl := lw_at lw_m6 53 rfl
theorem q1382 : (Jvm.Cond.instanceMethod ({ cls := "BoardCrossing", name := "see", desc := "(IIZZ)I" } : Jvm.MethodName)) ∈ lw_all := lw_g (lw_at lw_m6 54 rfl) rfl
theorem q1383 : (Jvm.Cond.code ({ cls := "BoardCrossing", name := "see", desc := "(IIZZ)I" } : Jvm.MethodName) prog_1_method_65_code (5 : Nat) (Option.some Jvm.ClassFile.FieldType.int)) ∈ lw_all := lw_g (lw_at lw_m6 55 rfl) rfl
theorem q1384 : (Jvm.Cond.classLink "BoardCrossing" (391 : Nat) "BoardCrossing$Sight") ∈ lw_all := lw_g (lw_at lw_m6 56 rfl) rfl
theorem q1386 : (Jvm.Cond.methodLink "BoardCrossing" (396 : Nat) ({ cls := "BoardCrossing$Sight", name := "<init>", desc := "(IIZZI)V" } : Jvm.MethodName)) ∈ lw_all := lw_g (lw_at lw_m6 58 rfl) rfl
theorem q1391 : (Jvm.Cond.fieldLinkNest "BoardCrossing" (427 : Nat) "BoardCrossing$Sight" "stroke" "I" "BoardCrossing") ∈ lw_tbl := lw_at lw_m6 63 rfl
theorem q1393 : (Jvm.Cond.fieldLinkNest "BoardCrossing" (429 : Nat) "BoardCrossing$Sight" "much" "I" "BoardCrossing") ∈ lw_tbl := lw_at lw_m6 65 rfl
theorem q1396 : (Jvm.Cond.fieldLinkNest "BoardCrossing" (423 : Nat) "BoardCrossing$Sight" "isHeat" "Z" "BoardCrossing") ∈ lw_tbl := lw_at lw_m6 68 rfl
theorem q1398 : (Jvm.Cond.fieldLinkNest "BoardCrossing" (432 : Nat) "BoardCrossing$Sight" "is" "Z" "BoardCrossing") ∈ lw_tbl := lw_at lw_m6 70 rfl
theorem q1400 : (Jvm.Cond.fieldLinkNest "BoardCrossing" (403 : Nat) "BoardCrossing$Sight" "untold" "I" "BoardCrossing") ∈ lw_tbl := lw_at lw_m6 72 rfl
theorem q1415 : (Jvm.Cond.instanceMethod ({ cls := "BoardCrossing", name := "felt", desc := "(IIZ)I" } : Jvm.MethodName)) ∈ lw_all := lw_g (lw_at lw_m6 87 rfl) rfl
theorem q1416 : (Jvm.Cond.selects "BoardCrossing" ({ cls := "BoardCrossing", name := "felt", desc := "(IIZ)I" } : Jvm.MethodName) ({ cls := "BoardCrossing", name := "felt", desc := "(IIZ)I" } : Jvm.MethodName)) ∈ lw_all := lw_g (lw_at lw_m6 88 rfl) rfl
theorem q1417 : (Jvm.Cond.code ({ cls := "BoardCrossing", name := "felt", desc := "(IIZ)I" } : Jvm.MethodName) prog_1_method_67_code (4 : Nat) (Option.some Jvm.ClassFile.FieldType.int)) ∈ lw_all := lw_g (lw_at lw_m6 89 rfl) rfl
theorem q1419 : (Jvm.Cond.instanceMethod ({ cls := "BoardCrossing", name := "untell", desc := "(I)Z" } : Jvm.MethodName)) ∈ lw_all := lw_g (lw_at lw_m6 91 rfl) rfl
theorem q1420 : (Jvm.Cond.selects "BoardCrossing" ({ cls := "BoardCrossing", name := "untell", desc := "(I)Z" } : Jvm.MethodName) ({ cls := "BoardCrossing", name := "untell", desc := "(I)Z" } : Jvm.MethodName)) ∈ lw_all := lw_g (lw_at lw_m6 92 rfl) rfl
theorem q1421 : (Jvm.Cond.code ({ cls := "BoardCrossing", name := "untell", desc := "(I)Z" } : Jvm.MethodName) prog_1_method_68_code (2 : Nat) (Option.some Jvm.ClassFile.FieldType.boolean)) ∈ lw_all := lw_g (lw_at lw_m6 93 rfl) rfl
theorem q1423 : (Jvm.Cond.instanceMethod ({ cls := "BoardCrossing", name := "late\x72", desc := "(I)I" } : Jvm.MethodName)) ∈ lw_all := lw_g (lw_at lw_m6 95 rfl) rfl
theorem q1424 : (Jvm.Cond.selects "BoardCrossing" ({ cls := "BoardCrossing", name := "late\x72", desc := "(I)I" } : Jvm.MethodName) ({ cls := "BoardCrossing", name := "late\x72", desc := "(I)I" } : Jvm.MethodName)) ∈ lw_all := lw_g (lw_at lw_m6 96 rfl) rfl
theorem q1425 : (Jvm.Cond.code ({ cls := "BoardCrossing", name := "late\x72", desc := "(I)I" } : Jvm.MethodName) prog_1_method_69_code (2 : Nat) (Option.some Jvm.ClassFile.FieldType.int)) ∈ lw_all := lw_g (lw_at lw_m6 97 rfl) rfl
theorem q1426 : (Jvm.Cond.constant "BoardCrossing" (406 : Nat) (100000 : Int32)) ∈ lw_all := lw_g (lw_at lw_m6 98 rfl) rfl
theorem q1428 : (Jvm.Cond.instanceMethod ({ cls := "BoardCrossing", name := "fits", desc := "(I)I" } : Jvm.MethodName)) ∈ lw_all := lw_g (lw_at lw_m6 100 rfl) rfl
theorem q1429 : (Jvm.Cond.selects "BoardCrossing" ({ cls := "BoardCrossing", name := "fits", desc := "(I)I" } : Jvm.MethodName) ({ cls := "BoardCrossing", name := "fits", desc := "(I)I" } : Jvm.MethodName)) ∈ lw_all := lw_g (lw_at lw_m6 101 rfl) rfl
theorem q1430 : (Jvm.Cond.code ({ cls := "BoardCrossing", name := "fits", desc := "(I)I" } : Jvm.MethodName) prog_1_method_72_code (2 : Nat) (Option.some Jvm.ClassFile.FieldType.int)) ∈ lw_all := lw_g (lw_at lw_m6 102 rfl) rfl
theorem q1431 : (Jvm.Cond.methodLink "BoardCrossing" (441 : Nat) ({ cls := "BoardCrossing", name := "layFits", desc := "(I)V" } : Jvm.MethodName)) ∈ lw_all := lw_g (lw_at lw_m6 103 rfl) rfl
theorem q1432 : (Jvm.Cond.privateMethod ({ cls := "BoardCrossing", name := "layFits", desc := "(I)V" } : Jvm.MethodName)) ∈ lw_tbl := lw_at lw_m6 104 rfl
theorem q1433 : (Jvm.Cond.instanceMethod ({ cls := "BoardCrossing", name := "layFits", desc := "(I)V" } : Jvm.MethodName)) ∈ lw_all := lw_g (lw_at lw_m6 105 rfl) rfl
theorem q1434 : (Jvm.Cond.code ({ cls := "BoardCrossing", name := "layFits", desc := "(I)V" } : Jvm.MethodName) prog_1_method_71_code (6 : Nat) (Option.none : Option Jvm.ClassFile.FieldType)) ∈ lw_all := lw_g (lw_at lw_m6 106 rfl) rfl
theorem q1435 : (Jvm.Cond.methodLink "BoardCrossing" (438 : Nat) ({ cls := "BoardCrossing", name := "doesFit", desc := "(II)Z" } : Jvm.MethodName)) ∈ lw_all := lw_g (lw_at lw_m6 107 rfl) rfl
theorem q1436 : (Jvm.Cond.privateMethod ({ cls := "BoardCrossing", name := "doesFit", desc := "(II)Z" } : Jvm.MethodName)) ∈ lw_tbl := lw_at lw_m6 108 rfl
theorem q1437 : (Jvm.Cond.instanceMethod ({ cls := "BoardCrossing", name := "doesFit", desc := "(II)Z" } : Jvm.MethodName)) ∈ lw_all := lw_g (lw_at lw_m6 109 rfl) rfl
theorem q1438 : (Jvm.Cond.code ({ cls := "BoardCrossing", name := "doesFit", desc := "(II)Z" } : Jvm.MethodName) prog_1_method_70_code (6 : Nat) (Option.some Jvm.ClassFile.FieldType.boolean)) ∈ lw_all := lw_g (lw_at lw_m6 110 rfl) rfl
theorem q1439 : (Jvm.Cond.methodLink "BoardCrossing" (407 : Nat) ({ cls := "java/util/ArrayList", name := "iterato\x72", desc := "()Ljava/util/Iterator;" } : Jvm.MethodName)) ∈ lw_all := lw_g (lw_at lw_m6 111 rfl) rfl
theorem q1440 : (Jvm.Cond.interfaceEntry "BoardCrossing" (411 : Nat)) ∈ lw_tbl := lw_at lw_m6 112 rfl
theorem q1441 : (Jvm.Cond.methodLink "BoardCrossing" (411 : Nat) ({ cls := "java/util/Iterato\x72", name := "hasNext", desc := "()Z" } : Jvm.MethodName)) ∈ lw_all := lw_g (lw_at lw_m6 113 rfl) rfl
theorem q1442 : (Jvm.Cond.interfaceEntry "BoardCrossing" (416 : Nat)) ∈ lw_tbl := lw_at lw_m6 114 rfl
theorem q1443 : (Jvm.Cond.methodLink "BoardCrossing" (416 : Nat) ({ cls := "java/util/Iterato\x72", name := "next", desc := "()Ljava/lang/Object;" } : Jvm.MethodName)) ∈ lw_all := lw_g (lw_at lw_m6 115 rfl) rfl
theorem q1444 : (Jvm.Cond.methodLink "BoardCrossing" (420 : Nat) ({ cls := "BoardCrossing$Sight", name := "counts", desc := "(I)Z" } : Jvm.MethodName)) ∈ lw_all := lw_g (lw_at lw_m6 116 rfl) rfl
theorem q1449 : (Jvm.Cond.instanceMethod ({ cls := "BoardCrossing", name := "sure", desc := "(II)I" } : Jvm.MethodName)) ∈ lw_all := lw_g (lw_at lw_m6 121 rfl) rfl
theorem q1450 : (Jvm.Cond.selects "BoardCrossing" ({ cls := "BoardCrossing", name := "sure", desc := "(II)I" } : Jvm.MethodName) ({ cls := "BoardCrossing", name := "sure", desc := "(II)I" } : Jvm.MethodName)) ∈ lw_all := lw_g (lw_at lw_m6 122 rfl) rfl
theorem q1451 : (Jvm.Cond.code ({ cls := "BoardCrossing", name := "sure", desc := "(II)I" } : Jvm.MethodName) prog_1_method_73_code (4 : Nat) (Option.some Jvm.ClassFile.FieldType.int)) ∈ lw_all := lw_g (lw_at lw_m6 123 rfl) rfl
theorem q1453 : (Jvm.Cond.instanceMethod ({ cls := "BoardCrossing", name := "ask", desc := "(II)I" } : Jvm.MethodName)) ∈ lw_all := lw_g (lw_at lw_m6 125 rfl) rfl
theorem q1454 : (Jvm.Cond.selects "BoardCrossing" ({ cls := "BoardCrossing", name := "ask", desc := "(II)I" } : Jvm.MethodName) ({ cls := "BoardCrossing", name := "ask", desc := "(II)I" } : Jvm.MethodName)) ∈ lw_all := lw_g (lw_at lw_m6 126 rfl) rfl
theorem q1455 : (Jvm.Cond.code ({ cls := "BoardCrossing", name := "ask", desc := "(II)I" } : Jvm.MethodName) prog_1_method_75_code (5 : Nat) (Option.some Jvm.ClassFile.FieldType.int)) ∈ lw_all := lw_g (lw_at lw_m6 127 rfl) rfl
theorem q1456 : (Jvm.Cond.methodLink "BoardCrossing" (444 : Nat) ({ cls := "BoardCrossing", name := "mostOf", desc := "(I)I" } : Jvm.MethodName)) ∈ lw_all := lw_g (lw_at lw_m6 128 rfl) rfl
theorem q1457 : (Jvm.Cond.privateMethod ({ cls := "BoardCrossing", name := "mostOf", desc := "(I)I" } : Jvm.MethodName)) ∈ lw_tbl := lw_at lw_m6 129 rfl
theorem q1458 : (Jvm.Cond.instanceMethod ({ cls := "BoardCrossing", name := "mostOf", desc := "(I)I" } : Jvm.MethodName)) ∈ lw_all := lw_g (lw_at lw_m6 130 rfl) rfl
theorem q1459 : (Jvm.Cond.code ({ cls := "BoardCrossing", name := "mostOf", desc := "(I)I" } : Jvm.MethodName) prog_1_method_74_code (2 : Nat) (Option.some Jvm.ClassFile.FieldType.int)) ∈ lw_all := lw_g (lw_at lw_m6 131 rfl) rfl
theorem q1461 : (Jvm.Cond.instanceMethod ({ cls := "BoardCrossing", name := "image", desc := "(I)I" } : Jvm.MethodName)) ∈ lw_all := lw_g (lw_at lw_m6 133 rfl) rfl
theorem q1462 : (Jvm.Cond.selects "BoardCrossing" ({ cls := "BoardCrossing", name := "image", desc := "(I)I" } : Jvm.MethodName) ({ cls := "BoardCrossing", name := "image", desc := "(I)I" } : Jvm.MethodName)) ∈ lw_all := lw_g (lw_at lw_m6 134 rfl) rfl
theorem q1463 : (Jvm.Cond.code ({ cls := "BoardCrossing", name := "image", desc := "(I)I" } : Jvm.MethodName) prog_1_method_76_code (2 : Nat) (Option.some Jvm.ClassFile.FieldType.int)) ∈ lw_all := lw_g (lw_at lw_m6 135 rfl) rfl
theorem q1465 : (Jvm.Cond.instanceMethod ({ cls := "BoardCrossing", name := "back", desc := "(I)I" } : Jvm.MethodName)) ∈ lw_all := lw_g (lw_at lw_m6 137 rfl) rfl
theorem q1466 : (Jvm.Cond.selects "BoardCrossing" ({ cls := "BoardCrossing", name := "back", desc := "(I)I" } : Jvm.MethodName) ({ cls := "BoardCrossing", name := "back", desc := "(I)I" } : Jvm.MethodName)) ∈ lw_all := lw_g (lw_at lw_m6 138 rfl) rfl
theorem q1467 : (Jvm.Cond.code ({ cls := "BoardCrossing", name := "back", desc := "(I)I" } : Jvm.MethodName) prog_1_method_77_code (2 : Nat) (Option.some Jvm.ClassFile.FieldType.int)) ∈ lw_all := lw_g (lw_at lw_m6 139 rfl) rfl
theorem q1469 : (Jvm.Cond.instanceMethod ({ cls := "BoardCrossing", name := "about", desc := "(I)I" } : Jvm.MethodName)) ∈ lw_all := lw_g (lw_at lw_m6 141 rfl) rfl
theorem q1470 : (Jvm.Cond.selects "BoardCrossing" ({ cls := "BoardCrossing", name := "about", desc := "(I)I" } : Jvm.MethodName) ({ cls := "BoardCrossing", name := "about", desc := "(I)I" } : Jvm.MethodName)) ∈ lw_all := lw_g (lw_at lw_m6 142 rfl) rfl
theorem q1471 : (Jvm.Cond.code ({ cls := "BoardCrossing", name := "about", desc := "(I)I" } : Jvm.MethodName) prog_1_method_78_code (2 : Nat) (Option.some Jvm.ClassFile.FieldType.int)) ∈ lw_all := lw_g (lw_at lw_m6 143 rfl) rfl
theorem q2241 : (Jvm.Cond.castable "BoardCrossing" "java/lang/Object") ∈ lw_tbl := lw_at lw_m9 193 rfl
theorem in_X0 : ∀ w ∈ wsX00, w ∈ lw_all := lw_in wsX00 [514, 516, 518, 520, 522, 524, 526, 528, 530, 532, 534, 536, 538, 540, 542, 544, 546, 548, 550, 552, 554, 556, 558, 560, 562, 564, 566, 568, 570] (by decide +kernel) (by decide +kernel)
