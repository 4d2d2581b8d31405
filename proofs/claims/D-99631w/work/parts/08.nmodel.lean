/-! BoardCrossingModel -/
set_option maxRecDepth 100000
def RX8 : String := "BoardCrossingModel"
def TX8 : u_T := fun k => match k with
  | 0 => ("BoardCrossingModel", "tape", "[I", true)
  | 1 => ("BoardCrossingModel", "taped", "I", false)
  | 2 => ("BoardCrossingModel", "fault", "I", false)
  | 3 => ("BoardCrossingModel", "faultPlace", "I", false)
  | 4 => ("BoardCrossingModel", "at", "I", false)
  | 5 => ("BoardCrossingModel", "size", "I", false)
  | 6 => ("BoardCrossingModel", "sort", "I", false)
  | 7 => ("BoardCrossingModel", "place", "I", false)
  | 8 => ("BoardCrossingModel", "numbe\x72", "I", false)
  | 9 => ("BoardCrossingModel", "word", "J", false)
  | 10 => ("BoardCrossingModel", "nName", "[J", true)
  | 11 => ("BoardCrossingModel", "nStep", "[I", true)
  | 12 => ("BoardCrossingModel", "nArg", "[I", true)
  | 13 => ("BoardCrossingModel", "step", "[I", true)
  | 14 => ("BoardCrossingModel", "arg", "[I", true)
  | 15 => ("BoardCrossingModel", "open", "[I", true)
  | 16 => ("BoardCrossingModel", "values", "[I", true)
  | 17 => ("BoardCrossingModel", "nMany", "I", false)
  | 18 => ("BoardCrossingModel", "steps", "I", false)
  | 19 => ("BoardCrossingModel", "opens", "I", false)
  | 20 => ("BoardCrossingModel", "nUnits", "I", false)
  | 21 => ("BoardCrossingModel", "units", "I", false)
  | 22 => ("BoardCrossingModel", "ownUnits", "I", false)
  | 23 => ("BoardCrossingModel", "deep", "I", false)
  | 24 => ("BoardCrossingModel", "nHasForm", "Z", false)
  | 25 => ("BoardCrossingModel", "asks", "[I", true)
  | 26 => ("BoardCrossingModel", "nCurrent", "[I", true)
  | 27 => ("BoardCrossingModel", "nIron", "[I", true)
  | 28 => ("BoardCrossingModel", "nBoardWide", "[I", true)
  | 29 => ("BoardCrossingModel", "nBoardAt", "[I", true)
  | 30 => ("BoardCrossingModel", "nBears", "[I", true)
  | 31 => ("BoardCrossingModel", "nLoadWide", "[I", true)
  | 32 => ("BoardCrossingModel", "current", "[I", true)
  | 33 => ("BoardCrossingModel", "iron", "[I", true)
  | 34 => ("BoardCrossingModel", "boardWide", "[I", true)
  | 35 => ("BoardCrossingModel", "boardAt", "[I", true)
  | 36 => ("BoardCrossingModel", "bears", "[I", true)
  | 37 => ("BoardCrossingModel", "loadWide", "[I", true)
  | 38 => ("BoardCrossingModel", "nColumns", "I", false)
  | 39 => ("BoardCrossingModel", "nRows", "I", false)
  | 40 => ("BoardCrossingModel", "nCurrents", "I", false)
  | 41 => ("BoardCrossingModel", "nIrons", "I", false)
  | 42 => ("BoardCrossingModel", "nBoards", "I", false)
  | 43 => ("BoardCrossingModel", "nLoads", "I", false)
  | 44 => ("BoardCrossingModel", "nFlood", "I", false)
  | 45 => ("BoardCrossingModel", "nDraw", "I", false)
  | 46 => ("BoardCrossingModel", "columns", "I", false)
  | 47 => ("BoardCrossingModel", "rows", "I", false)
  | 48 => ("BoardCrossingModel", "boards", "I", false)
  | 49 => ("BoardCrossingModel", "loads", "I", false)
  | 50 => ("BoardCrossingModel", "flood", "I", false)
  | 51 => ("BoardCrossingModel", "nHasLine", "Z", false)
  | 52 => ("BoardCrossingModel", "nHasFlood", "Z", false)
  | 53 => ("BoardCrossingModel", "nHasDraw", "Z", false)
  | 54 => ("BoardCrossingModel", "now", "[I", true)
  | 55 => ("BoardCrossingModel", "ai\x72", "[I", true)
  | 56 => ("BoardCrossingModel", "were", "[I", true)
  | 57 => ("BoardCrossingModel", "acts", "I", false)
  | 58 => ("BoardCrossingModel", "undone", "I", false)
  | 59 => ("BoardCrossingModel", "steers", "[I", true)
  | 60 => ("BoardCrossingModel", "lies", "[I", true)
  | 61 => ("BoardCrossingModel", "lain", "I", false)
  | 62 => ("BoardCrossingModel", "trip", "[I", true)
  | 63 => ("BoardCrossingModel", "before", "[I", true)
  | 64 => ("BoardCrossingModel", "wides", "[I", true)
  | 65 => ("BoardCrossingModel", "can", "[Z", true)
  | 66 => ("BoardCrossingModel", "then", "[Z", true)
  | 67 => ("BoardCrossingModel", "lands", "[I", true)
  | 68 => ("BoardCrossingModel", "moo\x72", "[I", true)
  | 69 => ("BoardCrossingModel", "sightSort", "[I", true)
  | 70 => ("BoardCrossingModel", "sightStrokes", "[I", true)
  | 71 => ("BoardCrossingModel", "sightOf", "[I", true)
  | 72 => ("BoardCrossingModel", "sightTold", "[I", true)
  | 73 => ("BoardCrossingModel", "sightUntold", "[I", true)
  | 74 => ("BoardCrossingModel", "sightIs", "[Z", true)
  | 75 => ("BoardCrossingModel", "sights", "I", false)
  | 76 => ("BoardCrossingModel", "time", "I", false)
  | 77 => ("BoardCrossingModel", "wasColumn", "[I", true)
  | 78 => ("BoardCrossingModel", "wasHeat", "[I", true)
  | 79 => ("BoardCrossingModel", "tally", "[I", true)
  | 80 => ("BoardCrossingModel", "hasBox", "[Z", true)
  | _ => ("BoardCrossingModel", "boxes", "[I", true)
def tyX8 : Nat → FieldType := fun k => match k with
  | 0 => .array .int
  | 1 => .int
  | 2 => .int
  | 3 => .int
  | 4 => .int
  | 5 => .int
  | 6 => .int
  | 7 => .int
  | 8 => .int
  | 9 => .long
  | 10 => .array .long
  | 11 => .array .int
  | 12 => .array .int
  | 13 => .array .int
  | 14 => .array .int
  | 15 => .array .int
  | 16 => .array .int
  | 17 => .int
  | 18 => .int
  | 19 => .int
  | 20 => .int
  | 21 => .int
  | 22 => .int
  | 23 => .int
  | 24 => .boolean
  | 25 => .array .int
  | 26 => .array .int
  | 27 => .array .int
  | 28 => .array .int
  | 29 => .array .int
  | 30 => .array .int
  | 31 => .array .int
  | 32 => .array .int
  | 33 => .array .int
  | 34 => .array .int
  | 35 => .array .int
  | 36 => .array .int
  | 37 => .array .int
  | 38 => .int
  | 39 => .int
  | 40 => .int
  | 41 => .int
  | 42 => .int
  | 43 => .int
  | 44 => .int
  | 45 => .int
  | 46 => .int
  | 47 => .int
  | 48 => .int
  | 49 => .int
  | 50 => .int
  | 51 => .boolean
  | 52 => .boolean
  | 53 => .boolean
  | 54 => .array .int
  | 55 => .array .int
  | 56 => .array .int
  | 57 => .int
  | 58 => .int
  | 59 => .array .int
  | 60 => .array .int
  | 61 => .int
  | 62 => .array .int
  | 63 => .array .int
  | 64 => .array .int
  | 65 => .array .boolean
  | 66 => .array .boolean
  | 67 => .array .int
  | 68 => .array .int
  | 69 => .array .int
  | 70 => .array .int
  | 71 => .array .int
  | 72 => .array .int
  | 73 => .array .int
  | 74 => .array .boolean
  | 75 => .int
  | 76 => .int
  | 77 => .array .int
  | 78 => .array .int
  | 79 => .array .int
  | 80 => .array .boolean
  | _ => .array .int
abbrev wsX80 : List Cond := u_ws RX8 TX8 82
set_option maxRecDepth 100000 in
theorem nmX8 : ∀ a, a < 82 → ∀ b, b < 82 → a ≠ b → (TX8 a).2.1 ≠ (TX8 b).2.1 := by decide +kernel
set_option maxRecDepth 100000 in
theorem tyX8_ok : ∀ k, k < 82 → parseFieldDescriptor (TX8 k).2.2.1 = some (tyX8 k) := by decide +kernel
abbrev cX8_init : ByteArray := prog_20_method_1_code
def yX8_init : MethodName := ⟨RX8, "<init>", "()V"⟩
def dkwX8_init_15 : List UInt8 := [16, 18, 188, 10, 181, 0, 145, 42, 6, 188, 4, 181, 0, 148, 42, 16, 84, 188, 10, 181, 0, 151, 177]
abbrev dktX8_init_15 : List UInt8 := dkwX8_init_15 ++ []
def dkwX8_init_14 : List UInt8 := [16, 30, 188, 4, 181, 0, 136, 42, 16, 6, 188, 10, 181, 0, 139, 42, 16, 6, 188, 10, 181, 0, 142, 42]
abbrev dktX8_init_14 : List UInt8 := dkwX8_init_14 ++ dktX8_init_15
def dkwX8_init_13 : List UInt8 := [16, 30, 188, 10, 181, 0, 127, 42, 16, 30, 188, 10, 181, 0, 130, 42, 16, 30, 188, 10, 181, 0, 133, 42]
abbrev dktX8_init_13 : List UInt8 := dkwX8_init_13 ++ dktX8_init_14
def dkwX8_init_12 : List UInt8 := [7, 188, 10, 181, 0, 118, 42, 16, 30, 188, 10, 181, 0, 121, 42, 16, 30, 188, 10, 181, 0, 124, 42]
abbrev dktX8_init_12 : List UInt8 := dkwX8_init_12 ++ dktX8_init_13
def dkwX8_init_11 : List UInt8 := [42, 16, 64, 188, 4, 181, 0, 108, 42, 16, 64, 188, 4, 181, 0, 112, 42, 7, 188, 10, 181, 0, 115, 42]
abbrev dktX8_init_11 : List UInt8 := dkwX8_init_11 ++ dktX8_init_12
def dkwX8_init_10 : List UInt8 := [42, 16, 7, 188, 10, 181, 0, 99, 42, 16, 8, 188, 10, 181, 0, 102, 42, 16, 8, 188, 10, 181, 0, 105]
abbrev dktX8_init_10 : List UInt8 := dkwX8_init_10 ++ dktX8_init_11
def dkwX8_init_9 : List UInt8 := [17, 4, 96, 188, 10, 181, 0, 90, 42, 16, 6, 188, 10, 181, 0, 93, 42, 16, 7, 188, 10, 181, 0, 96]
abbrev dktX8_init_9 : List UInt8 := dkwX8_init_9 ++ dktX8_init_10
def dkwX8_init_8 : List UInt8 := [42, 16, 6, 181, 0, 81, 42, 16, 28, 188, 10, 181, 0, 84, 42, 16, 28, 188, 10, 181, 0, 87, 42]
abbrev dktX8_init_8 : List UInt8 := dkwX8_init_8 ++ dktX8_init_9
def dkwX8_init_7 : List UInt8 := [181, 0, 69, 42, 7, 188, 10, 181, 0, 72, 42, 16, 7, 188, 10, 181, 0, 75, 42, 16, 8, 181, 0, 78]
abbrev dktX8_init_7 : List UInt8 := dkwX8_init_7 ++ dktX8_init_8
def dkwX8_init_6 : List UInt8 := [181, 0, 60, 42, 16, 56, 188, 10, 181, 0, 63, 42, 7, 188, 10, 181, 0, 66, 42, 7, 188, 10]
abbrev dktX8_init_6 : List UInt8 := dkwX8_init_6 ++ dktX8_init_7
def dkwX8_init_5 : List UInt8 := [181, 0, 51, 42, 7, 188, 10, 181, 0, 54, 42, 16, 7, 188, 10, 181, 0, 57, 42, 16, 56, 188, 10]
abbrev dktX8_init_5 : List UInt8 := dkwX8_init_5 ++ dktX8_init_6
def dkwX8_init_4 : List UInt8 := [181, 0, 42, 42, 16, 56, 188, 10, 181, 0, 45, 42, 7, 188, 10, 181, 0, 48, 42, 7, 188, 10]
abbrev dktX8_init_4 : List UInt8 := dkwX8_init_4 ++ dktX8_init_5
def dkwX8_init_3 : List UInt8 := [181, 0, 33, 42, 16, 64, 188, 10, 181, 0, 36, 42, 16, 6, 188, 10, 181, 0, 39, 42, 16, 56, 188, 10]
abbrev dktX8_init_3 : List UInt8 := dkwX8_init_3 ++ dktX8_init_4
def dkwX8_init_2 : List UInt8 := [17, 1, 64, 188, 10, 181, 0, 27, 42, 17, 1, 64, 188, 10, 181, 0, 30, 42, 17, 0, 160, 188, 10]
abbrev dktX8_init_2 : List UInt8 := dkwX8_init_2 ++ dktX8_init_3
def dkwX8_init_1 : List UInt8 := [181, 0, 17, 42, 17, 1, 64, 188, 10, 181, 0, 21, 42, 17, 1, 64, 188, 10, 181, 0, 24, 42]
abbrev dktX8_init_1 : List UInt8 := dkwX8_init_1 ++ dktX8_init_2
def dkwX8_init_0 : List UInt8 := [42, 183, 0, 1, 42, 17, 6, 64, 188, 10, 181, 0, 7, 42, 2, 181, 0, 13, 42, 16, 11, 188, 11]
abbrev dktX8_init_0 : List UInt8 := dkwX8_init_0 ++ dktX8_init_1
theorem dksX8_init_0 : cX8_init.data.toList.drop 0 = dktX8_init_0 := by decide +kernel
theorem dksX8_init_1 : cX8_init.data.toList.drop 23 = dktX8_init_1 := dk_seg dksX8_init_0 23 rfl rfl
theorem dksX8_init_2 : cX8_init.data.toList.drop 45 = dktX8_init_2 := dk_seg dksX8_init_1 22 rfl rfl
theorem dksX8_init_3 : cX8_init.data.toList.drop 68 = dktX8_init_3 := dk_seg dksX8_init_2 23 rfl rfl
theorem dksX8_init_4 : cX8_init.data.toList.drop 92 = dktX8_init_4 := dk_seg dksX8_init_3 24 rfl rfl
theorem dksX8_init_5 : cX8_init.data.toList.drop 114 = dktX8_init_5 := dk_seg dksX8_init_4 22 rfl rfl
theorem dksX8_init_6 : cX8_init.data.toList.drop 137 = dktX8_init_6 := dk_seg dksX8_init_5 23 rfl rfl
theorem dksX8_init_7 : cX8_init.data.toList.drop 159 = dktX8_init_7 := dk_seg dksX8_init_6 22 rfl rfl
theorem dksX8_init_8 : cX8_init.data.toList.drop 183 = dktX8_init_8 := dk_seg dksX8_init_7 24 rfl rfl
theorem dksX8_init_9 : cX8_init.data.toList.drop 206 = dktX8_init_9 := dk_seg dksX8_init_8 23 rfl rfl
theorem dksX8_init_10 : cX8_init.data.toList.drop 230 = dktX8_init_10 := dk_seg dksX8_init_9 24 rfl rfl
theorem dksX8_init_11 : cX8_init.data.toList.drop 254 = dktX8_init_11 := dk_seg dksX8_init_10 24 rfl rfl
theorem dksX8_init_12 : cX8_init.data.toList.drop 278 = dktX8_init_12 := dk_seg dksX8_init_11 24 rfl rfl
theorem dksX8_init_13 : cX8_init.data.toList.drop 301 = dktX8_init_13 := dk_seg dksX8_init_12 23 rfl rfl
theorem dksX8_init_14 : cX8_init.data.toList.drop 325 = dktX8_init_14 := dk_seg dksX8_init_13 24 rfl rfl
theorem dksX8_init_15 : cX8_init.data.toList.drop 349 = dktX8_init_15 := dk_seg dksX8_init_14 24 rfl rfl
theorem dX8_init_0 : decode cX8_init 0 = .ok (.aload_n 0, 1) := dk_42 (dk_at dksX8_init_0 0 rfl rfl)
theorem dX8_init_1 : decode cX8_init 1 = .ok (.invokespecial 1, 3) := dk_183 0 1 (dk_at dksX8_init_0 1 rfl rfl)
theorem dX8_init_4 : decode cX8_init 4 = .ok (.aload_n 0, 1) := dk_42 (dk_at dksX8_init_0 4 rfl rfl)
theorem dX8_init_5 : decode cX8_init 5 = .ok (.sipush 1600, 3) := dk_17 6 64 (dk_at dksX8_init_0 5 rfl rfl)
theorem dX8_init_8 : decode cX8_init 8 = .ok (.newarray .int, 2) := dk_188_10 (dk_at dksX8_init_0 8 rfl rfl)
theorem dX8_init_10 : decode cX8_init 10 = .ok (.putfield 7, 3) := dk_181 0 7 (dk_at dksX8_init_0 10 rfl rfl)
theorem dX8_init_13 : decode cX8_init 13 = .ok (.aload_n 0, 1) := dk_42 (dk_at dksX8_init_0 13 rfl rfl)
theorem dX8_init_14 : decode cX8_init 14 = .ok (.iconst (-1), 1) := dk_2 (dk_at dksX8_init_0 14 rfl rfl)
theorem dX8_init_15 : decode cX8_init 15 = .ok (.putfield 13, 3) := dk_181 0 13 (dk_at dksX8_init_0 15 rfl rfl)
theorem dX8_init_18 : decode cX8_init 18 = .ok (.aload_n 0, 1) := dk_42 (dk_at dksX8_init_0 18 rfl rfl)
theorem dX8_init_19 : decode cX8_init 19 = .ok (.bipush 11, 2) := dk_16 11 (dk_at dksX8_init_0 19 rfl rfl)
theorem dX8_init_21 : decode cX8_init 21 = .ok (.newarray .long, 2) := dk_188_11 (dk_at dksX8_init_0 21 rfl rfl)
theorem dX8_init_23 : decode cX8_init 23 = .ok (.putfield 17, 3) := dk_181 0 17 (dk_at dksX8_init_1 0 rfl rfl)
theorem dX8_init_26 : decode cX8_init 26 = .ok (.aload_n 0, 1) := dk_42 (dk_at dksX8_init_1 3 rfl rfl)
theorem dX8_init_27 : decode cX8_init 27 = .ok (.sipush 320, 3) := dk_17 1 64 (dk_at dksX8_init_1 4 rfl rfl)
theorem dX8_init_30 : decode cX8_init 30 = .ok (.newarray .int, 2) := dk_188_10 (dk_at dksX8_init_1 7 rfl rfl)
theorem dX8_init_32 : decode cX8_init 32 = .ok (.putfield 21, 3) := dk_181 0 21 (dk_at dksX8_init_1 9 rfl rfl)
theorem dX8_init_35 : decode cX8_init 35 = .ok (.aload_n 0, 1) := dk_42 (dk_at dksX8_init_1 12 rfl rfl)
theorem dX8_init_36 : decode cX8_init 36 = .ok (.sipush 320, 3) := dk_17 1 64 (dk_at dksX8_init_1 13 rfl rfl)
theorem dX8_init_39 : decode cX8_init 39 = .ok (.newarray .int, 2) := dk_188_10 (dk_at dksX8_init_1 16 rfl rfl)
theorem dX8_init_41 : decode cX8_init 41 = .ok (.putfield 24, 3) := dk_181 0 24 (dk_at dksX8_init_1 18 rfl rfl)
theorem dX8_init_44 : decode cX8_init 44 = .ok (.aload_n 0, 1) := dk_42 (dk_at dksX8_init_1 21 rfl rfl)
theorem dX8_init_45 : decode cX8_init 45 = .ok (.sipush 320, 3) := dk_17 1 64 (dk_at dksX8_init_2 0 rfl rfl)
theorem dX8_init_48 : decode cX8_init 48 = .ok (.newarray .int, 2) := dk_188_10 (dk_at dksX8_init_2 3 rfl rfl)
theorem dX8_init_50 : decode cX8_init 50 = .ok (.putfield 27, 3) := dk_181 0 27 (dk_at dksX8_init_2 5 rfl rfl)
theorem dX8_init_53 : decode cX8_init 53 = .ok (.aload_n 0, 1) := dk_42 (dk_at dksX8_init_2 8 rfl rfl)
theorem dX8_init_54 : decode cX8_init 54 = .ok (.sipush 320, 3) := dk_17 1 64 (dk_at dksX8_init_2 9 rfl rfl)
theorem dX8_init_57 : decode cX8_init 57 = .ok (.newarray .int, 2) := dk_188_10 (dk_at dksX8_init_2 12 rfl rfl)
theorem dX8_init_59 : decode cX8_init 59 = .ok (.putfield 30, 3) := dk_181 0 30 (dk_at dksX8_init_2 14 rfl rfl)
theorem dX8_init_62 : decode cX8_init 62 = .ok (.aload_n 0, 1) := dk_42 (dk_at dksX8_init_2 17 rfl rfl)
theorem dX8_init_63 : decode cX8_init 63 = .ok (.sipush 160, 3) := dk_17 0 160 (dk_at dksX8_init_2 18 rfl rfl)
theorem dX8_init_66 : decode cX8_init 66 = .ok (.newarray .int, 2) := dk_188_10 (dk_at dksX8_init_2 21 rfl rfl)
theorem dX8_init_68 : decode cX8_init 68 = .ok (.putfield 33, 3) := dk_181 0 33 (dk_at dksX8_init_3 0 rfl rfl)
theorem dX8_init_71 : decode cX8_init 71 = .ok (.aload_n 0, 1) := dk_42 (dk_at dksX8_init_3 3 rfl rfl)
theorem dX8_init_72 : decode cX8_init 72 = .ok (.bipush 64, 2) := dk_16 64 (dk_at dksX8_init_3 4 rfl rfl)
theorem dX8_init_74 : decode cX8_init 74 = .ok (.newarray .int, 2) := dk_188_10 (dk_at dksX8_init_3 6 rfl rfl)
theorem dX8_init_76 : decode cX8_init 76 = .ok (.putfield 36, 3) := dk_181 0 36 (dk_at dksX8_init_3 8 rfl rfl)
theorem dX8_init_79 : decode cX8_init 79 = .ok (.aload_n 0, 1) := dk_42 (dk_at dksX8_init_3 11 rfl rfl)
theorem dX8_init_80 : decode cX8_init 80 = .ok (.bipush 6, 2) := dk_16 6 (dk_at dksX8_init_3 12 rfl rfl)
theorem dX8_init_82 : decode cX8_init 82 = .ok (.newarray .int, 2) := dk_188_10 (dk_at dksX8_init_3 14 rfl rfl)
theorem dX8_init_84 : decode cX8_init 84 = .ok (.putfield 39, 3) := dk_181 0 39 (dk_at dksX8_init_3 16 rfl rfl)
theorem dX8_init_87 : decode cX8_init 87 = .ok (.aload_n 0, 1) := dk_42 (dk_at dksX8_init_3 19 rfl rfl)
theorem dX8_init_88 : decode cX8_init 88 = .ok (.bipush 56, 2) := dk_16 56 (dk_at dksX8_init_3 20 rfl rfl)
theorem dX8_init_90 : decode cX8_init 90 = .ok (.newarray .int, 2) := dk_188_10 (dk_at dksX8_init_3 22 rfl rfl)
theorem dX8_init_92 : decode cX8_init 92 = .ok (.putfield 42, 3) := dk_181 0 42 (dk_at dksX8_init_4 0 rfl rfl)
theorem dX8_init_95 : decode cX8_init 95 = .ok (.aload_n 0, 1) := dk_42 (dk_at dksX8_init_4 3 rfl rfl)
theorem dX8_init_96 : decode cX8_init 96 = .ok (.bipush 56, 2) := dk_16 56 (dk_at dksX8_init_4 4 rfl rfl)
theorem dX8_init_98 : decode cX8_init 98 = .ok (.newarray .int, 2) := dk_188_10 (dk_at dksX8_init_4 6 rfl rfl)
theorem dX8_init_100 : decode cX8_init 100 = .ok (.putfield 45, 3) := dk_181 0 45 (dk_at dksX8_init_4 8 rfl rfl)
theorem dX8_init_103 : decode cX8_init 103 = .ok (.aload_n 0, 1) := dk_42 (dk_at dksX8_init_4 11 rfl rfl)
theorem dX8_init_104 : decode cX8_init 104 = .ok (.iconst 4, 1) := dk_7 (dk_at dksX8_init_4 12 rfl rfl)
theorem dX8_init_105 : decode cX8_init 105 = .ok (.newarray .int, 2) := dk_188_10 (dk_at dksX8_init_4 13 rfl rfl)
theorem dX8_init_107 : decode cX8_init 107 = .ok (.putfield 48, 3) := dk_181 0 48 (dk_at dksX8_init_4 15 rfl rfl)
theorem dX8_init_110 : decode cX8_init 110 = .ok (.aload_n 0, 1) := dk_42 (dk_at dksX8_init_4 18 rfl rfl)
theorem dX8_init_111 : decode cX8_init 111 = .ok (.iconst 4, 1) := dk_7 (dk_at dksX8_init_4 19 rfl rfl)
theorem dX8_init_112 : decode cX8_init 112 = .ok (.newarray .int, 2) := dk_188_10 (dk_at dksX8_init_4 20 rfl rfl)
theorem dX8_init_114 : decode cX8_init 114 = .ok (.putfield 51, 3) := dk_181 0 51 (dk_at dksX8_init_5 0 rfl rfl)
theorem dX8_init_117 : decode cX8_init 117 = .ok (.aload_n 0, 1) := dk_42 (dk_at dksX8_init_5 3 rfl rfl)
theorem dX8_init_118 : decode cX8_init 118 = .ok (.iconst 4, 1) := dk_7 (dk_at dksX8_init_5 4 rfl rfl)
theorem dX8_init_119 : decode cX8_init 119 = .ok (.newarray .int, 2) := dk_188_10 (dk_at dksX8_init_5 5 rfl rfl)
theorem dX8_init_121 : decode cX8_init 121 = .ok (.putfield 54, 3) := dk_181 0 54 (dk_at dksX8_init_5 7 rfl rfl)
theorem dX8_init_124 : decode cX8_init 124 = .ok (.aload_n 0, 1) := dk_42 (dk_at dksX8_init_5 10 rfl rfl)
theorem dX8_init_125 : decode cX8_init 125 = .ok (.bipush 7, 2) := dk_16 7 (dk_at dksX8_init_5 11 rfl rfl)
theorem dX8_init_127 : decode cX8_init 127 = .ok (.newarray .int, 2) := dk_188_10 (dk_at dksX8_init_5 13 rfl rfl)
theorem dX8_init_129 : decode cX8_init 129 = .ok (.putfield 57, 3) := dk_181 0 57 (dk_at dksX8_init_5 15 rfl rfl)
theorem dX8_init_132 : decode cX8_init 132 = .ok (.aload_n 0, 1) := dk_42 (dk_at dksX8_init_5 18 rfl rfl)
theorem dX8_init_133 : decode cX8_init 133 = .ok (.bipush 56, 2) := dk_16 56 (dk_at dksX8_init_5 19 rfl rfl)
theorem dX8_init_135 : decode cX8_init 135 = .ok (.newarray .int, 2) := dk_188_10 (dk_at dksX8_init_5 21 rfl rfl)
theorem dX8_init_137 : decode cX8_init 137 = .ok (.putfield 60, 3) := dk_181 0 60 (dk_at dksX8_init_6 0 rfl rfl)
theorem dX8_init_140 : decode cX8_init 140 = .ok (.aload_n 0, 1) := dk_42 (dk_at dksX8_init_6 3 rfl rfl)
theorem dX8_init_141 : decode cX8_init 141 = .ok (.bipush 56, 2) := dk_16 56 (dk_at dksX8_init_6 4 rfl rfl)
theorem dX8_init_143 : decode cX8_init 143 = .ok (.newarray .int, 2) := dk_188_10 (dk_at dksX8_init_6 6 rfl rfl)
theorem dX8_init_145 : decode cX8_init 145 = .ok (.putfield 63, 3) := dk_181 0 63 (dk_at dksX8_init_6 8 rfl rfl)
theorem dX8_init_148 : decode cX8_init 148 = .ok (.aload_n 0, 1) := dk_42 (dk_at dksX8_init_6 11 rfl rfl)
theorem dX8_init_149 : decode cX8_init 149 = .ok (.iconst 4, 1) := dk_7 (dk_at dksX8_init_6 12 rfl rfl)
theorem dX8_init_150 : decode cX8_init 150 = .ok (.newarray .int, 2) := dk_188_10 (dk_at dksX8_init_6 13 rfl rfl)
theorem dX8_init_152 : decode cX8_init 152 = .ok (.putfield 66, 3) := dk_181 0 66 (dk_at dksX8_init_6 15 rfl rfl)
theorem dX8_init_155 : decode cX8_init 155 = .ok (.aload_n 0, 1) := dk_42 (dk_at dksX8_init_6 18 rfl rfl)
theorem dX8_init_156 : decode cX8_init 156 = .ok (.iconst 4, 1) := dk_7 (dk_at dksX8_init_6 19 rfl rfl)
theorem dX8_init_157 : decode cX8_init 157 = .ok (.newarray .int, 2) := dk_188_10 (dk_at dksX8_init_6 20 rfl rfl)
theorem dX8_init_159 : decode cX8_init 159 = .ok (.putfield 69, 3) := dk_181 0 69 (dk_at dksX8_init_7 0 rfl rfl)
theorem dX8_init_162 : decode cX8_init 162 = .ok (.aload_n 0, 1) := dk_42 (dk_at dksX8_init_7 3 rfl rfl)
theorem dX8_init_163 : decode cX8_init 163 = .ok (.iconst 4, 1) := dk_7 (dk_at dksX8_init_7 4 rfl rfl)
theorem dX8_init_164 : decode cX8_init 164 = .ok (.newarray .int, 2) := dk_188_10 (dk_at dksX8_init_7 5 rfl rfl)
theorem dX8_init_166 : decode cX8_init 166 = .ok (.putfield 72, 3) := dk_181 0 72 (dk_at dksX8_init_7 7 rfl rfl)
theorem dX8_init_169 : decode cX8_init 169 = .ok (.aload_n 0, 1) := dk_42 (dk_at dksX8_init_7 10 rfl rfl)
theorem dX8_init_170 : decode cX8_init 170 = .ok (.bipush 7, 2) := dk_16 7 (dk_at dksX8_init_7 11 rfl rfl)
theorem dX8_init_172 : decode cX8_init 172 = .ok (.newarray .int, 2) := dk_188_10 (dk_at dksX8_init_7 13 rfl rfl)
theorem dX8_init_174 : decode cX8_init 174 = .ok (.putfield 75, 3) := dk_181 0 75 (dk_at dksX8_init_7 15 rfl rfl)
theorem dX8_init_177 : decode cX8_init 177 = .ok (.aload_n 0, 1) := dk_42 (dk_at dksX8_init_7 18 rfl rfl)
theorem dX8_init_178 : decode cX8_init 178 = .ok (.bipush 8, 2) := dk_16 8 (dk_at dksX8_init_7 19 rfl rfl)
theorem dX8_init_180 : decode cX8_init 180 = .ok (.putfield 78, 3) := dk_181 0 78 (dk_at dksX8_init_7 21 rfl rfl)
theorem dX8_init_183 : decode cX8_init 183 = .ok (.aload_n 0, 1) := dk_42 (dk_at dksX8_init_8 0 rfl rfl)
theorem dX8_init_184 : decode cX8_init 184 = .ok (.bipush 6, 2) := dk_16 6 (dk_at dksX8_init_8 1 rfl rfl)
theorem dX8_init_186 : decode cX8_init 186 = .ok (.putfield 81, 3) := dk_181 0 81 (dk_at dksX8_init_8 3 rfl rfl)
theorem dX8_init_189 : decode cX8_init 189 = .ok (.aload_n 0, 1) := dk_42 (dk_at dksX8_init_8 6 rfl rfl)
theorem dX8_init_190 : decode cX8_init 190 = .ok (.bipush 28, 2) := dk_16 28 (dk_at dksX8_init_8 7 rfl rfl)
theorem dX8_init_192 : decode cX8_init 192 = .ok (.newarray .int, 2) := dk_188_10 (dk_at dksX8_init_8 9 rfl rfl)
theorem dX8_init_194 : decode cX8_init 194 = .ok (.putfield 84, 3) := dk_181 0 84 (dk_at dksX8_init_8 11 rfl rfl)
theorem dX8_init_197 : decode cX8_init 197 = .ok (.aload_n 0, 1) := dk_42 (dk_at dksX8_init_8 14 rfl rfl)
theorem dX8_init_198 : decode cX8_init 198 = .ok (.bipush 28, 2) := dk_16 28 (dk_at dksX8_init_8 15 rfl rfl)
theorem dX8_init_200 : decode cX8_init 200 = .ok (.newarray .int, 2) := dk_188_10 (dk_at dksX8_init_8 17 rfl rfl)
theorem dX8_init_202 : decode cX8_init 202 = .ok (.putfield 87, 3) := dk_181 0 87 (dk_at dksX8_init_8 19 rfl rfl)
theorem dX8_init_205 : decode cX8_init 205 = .ok (.aload_n 0, 1) := dk_42 (dk_at dksX8_init_8 22 rfl rfl)
theorem dX8_init_206 : decode cX8_init 206 = .ok (.sipush 1120, 3) := dk_17 4 96 (dk_at dksX8_init_9 0 rfl rfl)
theorem dX8_init_209 : decode cX8_init 209 = .ok (.newarray .int, 2) := dk_188_10 (dk_at dksX8_init_9 3 rfl rfl)
theorem dX8_init_211 : decode cX8_init 211 = .ok (.putfield 90, 3) := dk_181 0 90 (dk_at dksX8_init_9 5 rfl rfl)
theorem dX8_init_214 : decode cX8_init 214 = .ok (.aload_n 0, 1) := dk_42 (dk_at dksX8_init_9 8 rfl rfl)
theorem dX8_init_215 : decode cX8_init 215 = .ok (.bipush 6, 2) := dk_16 6 (dk_at dksX8_init_9 9 rfl rfl)
theorem dX8_init_217 : decode cX8_init 217 = .ok (.newarray .int, 2) := dk_188_10 (dk_at dksX8_init_9 11 rfl rfl)
theorem dX8_init_219 : decode cX8_init 219 = .ok (.putfield 93, 3) := dk_181 0 93 (dk_at dksX8_init_9 13 rfl rfl)
theorem dX8_init_222 : decode cX8_init 222 = .ok (.aload_n 0, 1) := dk_42 (dk_at dksX8_init_9 16 rfl rfl)
theorem dX8_init_223 : decode cX8_init 223 = .ok (.bipush 7, 2) := dk_16 7 (dk_at dksX8_init_9 17 rfl rfl)
theorem dX8_init_225 : decode cX8_init 225 = .ok (.newarray .int, 2) := dk_188_10 (dk_at dksX8_init_9 19 rfl rfl)
theorem dX8_init_227 : decode cX8_init 227 = .ok (.putfield 96, 3) := dk_181 0 96 (dk_at dksX8_init_9 21 rfl rfl)
theorem dX8_init_230 : decode cX8_init 230 = .ok (.aload_n 0, 1) := dk_42 (dk_at dksX8_init_10 0 rfl rfl)
theorem dX8_init_231 : decode cX8_init 231 = .ok (.bipush 7, 2) := dk_16 7 (dk_at dksX8_init_10 1 rfl rfl)
theorem dX8_init_233 : decode cX8_init 233 = .ok (.newarray .int, 2) := dk_188_10 (dk_at dksX8_init_10 3 rfl rfl)
theorem dX8_init_235 : decode cX8_init 235 = .ok (.putfield 99, 3) := dk_181 0 99 (dk_at dksX8_init_10 5 rfl rfl)
theorem dX8_init_238 : decode cX8_init 238 = .ok (.aload_n 0, 1) := dk_42 (dk_at dksX8_init_10 8 rfl rfl)
theorem dX8_init_239 : decode cX8_init 239 = .ok (.bipush 8, 2) := dk_16 8 (dk_at dksX8_init_10 9 rfl rfl)
theorem dX8_init_241 : decode cX8_init 241 = .ok (.newarray .int, 2) := dk_188_10 (dk_at dksX8_init_10 11 rfl rfl)
theorem dX8_init_243 : decode cX8_init 243 = .ok (.putfield 102, 3) := dk_181 0 102 (dk_at dksX8_init_10 13 rfl rfl)
theorem dX8_init_246 : decode cX8_init 246 = .ok (.aload_n 0, 1) := dk_42 (dk_at dksX8_init_10 16 rfl rfl)
theorem dX8_init_247 : decode cX8_init 247 = .ok (.bipush 8, 2) := dk_16 8 (dk_at dksX8_init_10 17 rfl rfl)
theorem dX8_init_249 : decode cX8_init 249 = .ok (.newarray .int, 2) := dk_188_10 (dk_at dksX8_init_10 19 rfl rfl)
theorem dX8_init_251 : decode cX8_init 251 = .ok (.putfield 105, 3) := dk_181 0 105 (dk_at dksX8_init_10 21 rfl rfl)
theorem dX8_init_254 : decode cX8_init 254 = .ok (.aload_n 0, 1) := dk_42 (dk_at dksX8_init_11 0 rfl rfl)
theorem dX8_init_255 : decode cX8_init 255 = .ok (.bipush 64, 2) := dk_16 64 (dk_at dksX8_init_11 1 rfl rfl)
theorem dX8_init_257 : decode cX8_init 257 = .ok (.newarray .boolean, 2) := dk_188_4 (dk_at dksX8_init_11 3 rfl rfl)
theorem dX8_init_259 : decode cX8_init 259 = .ok (.putfield 108, 3) := dk_181 0 108 (dk_at dksX8_init_11 5 rfl rfl)
theorem dX8_init_262 : decode cX8_init 262 = .ok (.aload_n 0, 1) := dk_42 (dk_at dksX8_init_11 8 rfl rfl)
theorem dX8_init_263 : decode cX8_init 263 = .ok (.bipush 64, 2) := dk_16 64 (dk_at dksX8_init_11 9 rfl rfl)
theorem dX8_init_265 : decode cX8_init 265 = .ok (.newarray .boolean, 2) := dk_188_4 (dk_at dksX8_init_11 11 rfl rfl)
theorem dX8_init_267 : decode cX8_init 267 = .ok (.putfield 112, 3) := dk_181 0 112 (dk_at dksX8_init_11 13 rfl rfl)
theorem dX8_init_270 : decode cX8_init 270 = .ok (.aload_n 0, 1) := dk_42 (dk_at dksX8_init_11 16 rfl rfl)
theorem dX8_init_271 : decode cX8_init 271 = .ok (.iconst 4, 1) := dk_7 (dk_at dksX8_init_11 17 rfl rfl)
theorem dX8_init_272 : decode cX8_init 272 = .ok (.newarray .int, 2) := dk_188_10 (dk_at dksX8_init_11 18 rfl rfl)
theorem dX8_init_274 : decode cX8_init 274 = .ok (.putfield 115, 3) := dk_181 0 115 (dk_at dksX8_init_11 20 rfl rfl)
theorem dX8_init_277 : decode cX8_init 277 = .ok (.aload_n 0, 1) := dk_42 (dk_at dksX8_init_11 23 rfl rfl)
theorem dX8_init_278 : decode cX8_init 278 = .ok (.iconst 4, 1) := dk_7 (dk_at dksX8_init_12 0 rfl rfl)
theorem dX8_init_279 : decode cX8_init 279 = .ok (.newarray .int, 2) := dk_188_10 (dk_at dksX8_init_12 1 rfl rfl)
theorem dX8_init_281 : decode cX8_init 281 = .ok (.putfield 118, 3) := dk_181 0 118 (dk_at dksX8_init_12 3 rfl rfl)
theorem dX8_init_284 : decode cX8_init 284 = .ok (.aload_n 0, 1) := dk_42 (dk_at dksX8_init_12 6 rfl rfl)
theorem dX8_init_285 : decode cX8_init 285 = .ok (.bipush 30, 2) := dk_16 30 (dk_at dksX8_init_12 7 rfl rfl)
theorem dX8_init_287 : decode cX8_init 287 = .ok (.newarray .int, 2) := dk_188_10 (dk_at dksX8_init_12 9 rfl rfl)
theorem dX8_init_289 : decode cX8_init 289 = .ok (.putfield 121, 3) := dk_181 0 121 (dk_at dksX8_init_12 11 rfl rfl)
theorem dX8_init_292 : decode cX8_init 292 = .ok (.aload_n 0, 1) := dk_42 (dk_at dksX8_init_12 14 rfl rfl)
theorem dX8_init_293 : decode cX8_init 293 = .ok (.bipush 30, 2) := dk_16 30 (dk_at dksX8_init_12 15 rfl rfl)
theorem dX8_init_295 : decode cX8_init 295 = .ok (.newarray .int, 2) := dk_188_10 (dk_at dksX8_init_12 17 rfl rfl)
theorem dX8_init_297 : decode cX8_init 297 = .ok (.putfield 124, 3) := dk_181 0 124 (dk_at dksX8_init_12 19 rfl rfl)
theorem dX8_init_300 : decode cX8_init 300 = .ok (.aload_n 0, 1) := dk_42 (dk_at dksX8_init_12 22 rfl rfl)
theorem dX8_init_301 : decode cX8_init 301 = .ok (.bipush 30, 2) := dk_16 30 (dk_at dksX8_init_13 0 rfl rfl)
theorem dX8_init_303 : decode cX8_init 303 = .ok (.newarray .int, 2) := dk_188_10 (dk_at dksX8_init_13 2 rfl rfl)
theorem dX8_init_305 : decode cX8_init 305 = .ok (.putfield 127, 3) := dk_181 0 127 (dk_at dksX8_init_13 4 rfl rfl)
theorem dX8_init_308 : decode cX8_init 308 = .ok (.aload_n 0, 1) := dk_42 (dk_at dksX8_init_13 7 rfl rfl)
theorem dX8_init_309 : decode cX8_init 309 = .ok (.bipush 30, 2) := dk_16 30 (dk_at dksX8_init_13 8 rfl rfl)
theorem dX8_init_311 : decode cX8_init 311 = .ok (.newarray .int, 2) := dk_188_10 (dk_at dksX8_init_13 10 rfl rfl)
theorem dX8_init_313 : decode cX8_init 313 = .ok (.putfield 130, 3) := dk_181 0 130 (dk_at dksX8_init_13 12 rfl rfl)
theorem dX8_init_316 : decode cX8_init 316 = .ok (.aload_n 0, 1) := dk_42 (dk_at dksX8_init_13 15 rfl rfl)
theorem dX8_init_317 : decode cX8_init 317 = .ok (.bipush 30, 2) := dk_16 30 (dk_at dksX8_init_13 16 rfl rfl)
theorem dX8_init_319 : decode cX8_init 319 = .ok (.newarray .int, 2) := dk_188_10 (dk_at dksX8_init_13 18 rfl rfl)
theorem dX8_init_321 : decode cX8_init 321 = .ok (.putfield 133, 3) := dk_181 0 133 (dk_at dksX8_init_13 20 rfl rfl)
theorem dX8_init_324 : decode cX8_init 324 = .ok (.aload_n 0, 1) := dk_42 (dk_at dksX8_init_13 23 rfl rfl)
theorem dX8_init_325 : decode cX8_init 325 = .ok (.bipush 30, 2) := dk_16 30 (dk_at dksX8_init_14 0 rfl rfl)
theorem dX8_init_327 : decode cX8_init 327 = .ok (.newarray .boolean, 2) := dk_188_4 (dk_at dksX8_init_14 2 rfl rfl)
theorem dX8_init_329 : decode cX8_init 329 = .ok (.putfield 136, 3) := dk_181 0 136 (dk_at dksX8_init_14 4 rfl rfl)
theorem dX8_init_332 : decode cX8_init 332 = .ok (.aload_n 0, 1) := dk_42 (dk_at dksX8_init_14 7 rfl rfl)
theorem dX8_init_333 : decode cX8_init 333 = .ok (.bipush 6, 2) := dk_16 6 (dk_at dksX8_init_14 8 rfl rfl)
theorem dX8_init_335 : decode cX8_init 335 = .ok (.newarray .int, 2) := dk_188_10 (dk_at dksX8_init_14 10 rfl rfl)
theorem dX8_init_337 : decode cX8_init 337 = .ok (.putfield 139, 3) := dk_181 0 139 (dk_at dksX8_init_14 12 rfl rfl)
theorem dX8_init_340 : decode cX8_init 340 = .ok (.aload_n 0, 1) := dk_42 (dk_at dksX8_init_14 15 rfl rfl)
theorem dX8_init_341 : decode cX8_init 341 = .ok (.bipush 6, 2) := dk_16 6 (dk_at dksX8_init_14 16 rfl rfl)
theorem dX8_init_343 : decode cX8_init 343 = .ok (.newarray .int, 2) := dk_188_10 (dk_at dksX8_init_14 18 rfl rfl)
theorem dX8_init_345 : decode cX8_init 345 = .ok (.putfield 142, 3) := dk_181 0 142 (dk_at dksX8_init_14 20 rfl rfl)
theorem dX8_init_348 : decode cX8_init 348 = .ok (.aload_n 0, 1) := dk_42 (dk_at dksX8_init_14 23 rfl rfl)
theorem dX8_init_349 : decode cX8_init 349 = .ok (.bipush 18, 2) := dk_16 18 (dk_at dksX8_init_15 0 rfl rfl)
theorem dX8_init_351 : decode cX8_init 351 = .ok (.newarray .int, 2) := dk_188_10 (dk_at dksX8_init_15 2 rfl rfl)
theorem dX8_init_353 : decode cX8_init 353 = .ok (.putfield 145, 3) := dk_181 0 145 (dk_at dksX8_init_15 4 rfl rfl)
theorem dX8_init_356 : decode cX8_init 356 = .ok (.aload_n 0, 1) := dk_42 (dk_at dksX8_init_15 7 rfl rfl)
theorem dX8_init_357 : decode cX8_init 357 = .ok (.iconst 3, 1) := dk_6 (dk_at dksX8_init_15 8 rfl rfl)
theorem dX8_init_358 : decode cX8_init 358 = .ok (.newarray .boolean, 2) := dk_188_4 (dk_at dksX8_init_15 9 rfl rfl)
theorem dX8_init_360 : decode cX8_init 360 = .ok (.putfield 148, 3) := dk_181 0 148 (dk_at dksX8_init_15 11 rfl rfl)
theorem dX8_init_363 : decode cX8_init 363 = .ok (.aload_n 0, 1) := dk_42 (dk_at dksX8_init_15 14 rfl rfl)
theorem dX8_init_364 : decode cX8_init 364 = .ok (.bipush 84, 2) := dk_16 84 (dk_at dksX8_init_15 15 rfl rfl)
theorem dX8_init_366 : decode cX8_init 366 = .ok (.newarray .int, 2) := dk_188_10 (dk_at dksX8_init_15 17 rfl rfl)
theorem dX8_init_368 : decode cX8_init 368 = .ok (.putfield 151, 3) := dk_181 0 151 (dk_at dksX8_init_15 19 rfl rfl)
theorem dX8_init_371 : decode cX8_init 371 = .ok (.return_, 1) := dk_177 (dk_at dksX8_init_15 22 rfl rfl)
abbrev cX8_feed : ByteArray := prog_20_method_2_code
def yX8_feed : MethodName := ⟨RX8, "feed", "(IIIII)I"⟩
def dkwX8_feed_2 : List UInt8 := [172]
abbrev dktX8_feed_2 : List UInt8 := dkwX8_feed_2 ++ []
def dkwX8_feed_1 : List UInt8 := [182, 0, 157, 42, 29, 182, 0, 157, 42, 21, 4, 182, 0, 157, 42, 21, 5, 182, 0, 157, 42, 180, 0, 154]
abbrev dktX8_feed_1 : List UInt8 := dkwX8_feed_1 ++ dktX8_feed_2
def dkwX8_feed_0 : List UInt8 := [42, 180, 0, 154, 16, 20, 96, 17, 6, 64, 164, 0, 5, 2, 172, 42, 27, 182, 0, 157, 42, 28]
abbrev dktX8_feed_0 : List UInt8 := dkwX8_feed_0 ++ dktX8_feed_1
theorem dksX8_feed_0 : cX8_feed.data.toList.drop 0 = dktX8_feed_0 := by decide +kernel
theorem dksX8_feed_1 : cX8_feed.data.toList.drop 22 = dktX8_feed_1 := dk_seg dksX8_feed_0 22 rfl rfl
theorem dksX8_feed_2 : cX8_feed.data.toList.drop 46 = dktX8_feed_2 := dk_seg dksX8_feed_1 24 rfl rfl
theorem dX8_feed_0 : decode cX8_feed 0 = .ok (.aload_n 0, 1) := dk_42 (dk_at dksX8_feed_0 0 rfl rfl)
theorem dX8_feed_1 : decode cX8_feed 1 = .ok (.getfield 154, 3) := dk_180 0 154 (dk_at dksX8_feed_0 1 rfl rfl)
theorem dX8_feed_4 : decode cX8_feed 4 = .ok (.bipush 20, 2) := dk_16 20 (dk_at dksX8_feed_0 4 rfl rfl)
theorem dX8_feed_6 : decode cX8_feed 6 = .ok (.iadd, 1) := dk_96 (dk_at dksX8_feed_0 6 rfl rfl)
theorem dX8_feed_7 : decode cX8_feed 7 = .ok (.sipush 1600, 3) := dk_17 6 64 (dk_at dksX8_feed_0 7 rfl rfl)
theorem dX8_feed_10 : decode cX8_feed 10 = .ok (.if_icmp .le 5, 3) := dk_164 0 5 (dk_at dksX8_feed_0 10 rfl rfl)
theorem dX8_feed_13 : decode cX8_feed 13 = .ok (.iconst (-1), 1) := dk_2 (dk_at dksX8_feed_0 13 rfl rfl)
theorem dX8_feed_14 : decode cX8_feed 14 = .ok (.ireturn, 1) := dk_172 (dk_at dksX8_feed_0 14 rfl rfl)
theorem dX8_feed_15 : decode cX8_feed 15 = .ok (.aload_n 0, 1) := dk_42 (dk_at dksX8_feed_0 15 rfl rfl)
theorem dX8_feed_16 : decode cX8_feed 16 = .ok (.iload_n 1, 1) := dk_27 (dk_at dksX8_feed_0 16 rfl rfl)
theorem dX8_feed_17 : decode cX8_feed 17 = .ok (.invokevirtual 157, 3) := dk_182 0 157 (dk_at dksX8_feed_0 17 rfl rfl)
theorem dX8_feed_20 : decode cX8_feed 20 = .ok (.aload_n 0, 1) := dk_42 (dk_at dksX8_feed_0 20 rfl rfl)
theorem dX8_feed_21 : decode cX8_feed 21 = .ok (.iload_n 2, 1) := dk_28 (dk_at dksX8_feed_0 21 rfl rfl)
theorem dX8_feed_22 : decode cX8_feed 22 = .ok (.invokevirtual 157, 3) := dk_182 0 157 (dk_at dksX8_feed_1 0 rfl rfl)
theorem dX8_feed_25 : decode cX8_feed 25 = .ok (.aload_n 0, 1) := dk_42 (dk_at dksX8_feed_1 3 rfl rfl)
theorem dX8_feed_26 : decode cX8_feed 26 = .ok (.iload_n 3, 1) := dk_29 (dk_at dksX8_feed_1 4 rfl rfl)
theorem dX8_feed_27 : decode cX8_feed 27 = .ok (.invokevirtual 157, 3) := dk_182 0 157 (dk_at dksX8_feed_1 5 rfl rfl)
theorem dX8_feed_30 : decode cX8_feed 30 = .ok (.aload_n 0, 1) := dk_42 (dk_at dksX8_feed_1 8 rfl rfl)
theorem dX8_feed_31 : decode cX8_feed 31 = .ok (.iload 4, 2) := dk_21 4 (dk_at dksX8_feed_1 9 rfl rfl)
theorem dX8_feed_33 : decode cX8_feed 33 = .ok (.invokevirtual 157, 3) := dk_182 0 157 (dk_at dksX8_feed_1 11 rfl rfl)
theorem dX8_feed_36 : decode cX8_feed 36 = .ok (.aload_n 0, 1) := dk_42 (dk_at dksX8_feed_1 14 rfl rfl)
theorem dX8_feed_37 : decode cX8_feed 37 = .ok (.iload 5, 2) := dk_21 5 (dk_at dksX8_feed_1 15 rfl rfl)
theorem dX8_feed_39 : decode cX8_feed 39 = .ok (.invokevirtual 157, 3) := dk_182 0 157 (dk_at dksX8_feed_1 17 rfl rfl)
theorem dX8_feed_42 : decode cX8_feed 42 = .ok (.aload_n 0, 1) := dk_42 (dk_at dksX8_feed_1 20 rfl rfl)
theorem dX8_feed_43 : decode cX8_feed 43 = .ok (.getfield 154, 3) := dk_180 0 154 (dk_at dksX8_feed_1 21 rfl rfl)
theorem dX8_feed_46 : decode cX8_feed 46 = .ok (.ireturn, 1) := dk_172 (dk_at dksX8_feed_2 0 rfl rfl)
abbrev cX8_four : ByteArray := prog_20_method_3_code
def yX8_four : MethodName := ⟨RX8, "fou\x72", "(I)V"⟩
def dkwX8_four_1 : List UInt8 := [89, 180, 0, 154, 4, 96, 181, 0, 154, 132, 2, 248, 167, 255, 223, 177]
abbrev dktX8_four_1 : List UInt8 := dkwX8_four_1 ++ []
def dkwX8_four_0 : List UInt8 := [16, 24, 61, 28, 155, 0, 35, 42, 180, 0, 7, 42, 180, 0, 154, 27, 28, 122, 17, 0, 255, 126, 79, 42]
abbrev dktX8_four_0 : List UInt8 := dkwX8_four_0 ++ dktX8_four_1
theorem dksX8_four_0 : cX8_four.data.toList.drop 0 = dktX8_four_0 := by decide +kernel
theorem dksX8_four_1 : cX8_four.data.toList.drop 24 = dktX8_four_1 := dk_seg dksX8_four_0 24 rfl rfl
theorem dX8_four_0 : decode cX8_four 0 = .ok (.bipush 24, 2) := dk_16 24 (dk_at dksX8_four_0 0 rfl rfl)
theorem dX8_four_2 : decode cX8_four 2 = .ok (.istore_n 2, 1) := dk_61 (dk_at dksX8_four_0 2 rfl rfl)
theorem dX8_four_3 : decode cX8_four 3 = .ok (.iload_n 2, 1) := dk_28 (dk_at dksX8_four_0 3 rfl rfl)
theorem dX8_four_4 : decode cX8_four 4 = .ok (.ifCond .lt 35, 3) := dk_155 0 35 (dk_at dksX8_four_0 4 rfl rfl)
theorem dX8_four_7 : decode cX8_four 7 = .ok (.aload_n 0, 1) := dk_42 (dk_at dksX8_four_0 7 rfl rfl)
theorem dX8_four_8 : decode cX8_four 8 = .ok (.getfield 7, 3) := dk_180 0 7 (dk_at dksX8_four_0 8 rfl rfl)
theorem dX8_four_11 : decode cX8_four 11 = .ok (.aload_n 0, 1) := dk_42 (dk_at dksX8_four_0 11 rfl rfl)
theorem dX8_four_12 : decode cX8_four 12 = .ok (.getfield 154, 3) := dk_180 0 154 (dk_at dksX8_four_0 12 rfl rfl)
theorem dX8_four_15 : decode cX8_four 15 = .ok (.iload_n 1, 1) := dk_27 (dk_at dksX8_four_0 15 rfl rfl)
theorem dX8_four_16 : decode cX8_four 16 = .ok (.iload_n 2, 1) := dk_28 (dk_at dksX8_four_0 16 rfl rfl)
theorem dX8_four_17 : decode cX8_four 17 = .ok (.ishr, 1) := dk_122 (dk_at dksX8_four_0 17 rfl rfl)
theorem dX8_four_18 : decode cX8_four 18 = .ok (.sipush 255, 3) := dk_17 0 255 (dk_at dksX8_four_0 18 rfl rfl)
theorem dX8_four_21 : decode cX8_four 21 = .ok (.iand, 1) := dk_126 (dk_at dksX8_four_0 21 rfl rfl)
theorem dX8_four_22 : decode cX8_four 22 = .ok (.iastore, 1) := dk_79 (dk_at dksX8_four_0 22 rfl rfl)
theorem dX8_four_23 : decode cX8_four 23 = .ok (.aload_n 0, 1) := dk_42 (dk_at dksX8_four_0 23 rfl rfl)
theorem dX8_four_24 : decode cX8_four 24 = .ok (.dup, 1) := dk_89 (dk_at dksX8_four_1 0 rfl rfl)
theorem dX8_four_25 : decode cX8_four 25 = .ok (.getfield 154, 3) := dk_180 0 154 (dk_at dksX8_four_1 1 rfl rfl)
theorem dX8_four_28 : decode cX8_four 28 = .ok (.iconst 1, 1) := dk_4 (dk_at dksX8_four_1 4 rfl rfl)
theorem dX8_four_29 : decode cX8_four 29 = .ok (.iadd, 1) := dk_96 (dk_at dksX8_four_1 5 rfl rfl)
theorem dX8_four_30 : decode cX8_four 30 = .ok (.putfield 154, 3) := dk_181 0 154 (dk_at dksX8_four_1 6 rfl rfl)
theorem dX8_four_33 : decode cX8_four 33 = .ok (.iinc 2 (-8), 3) := dk_132 2 248 (dk_at dksX8_four_1 9 rfl rfl)
theorem dX8_four_36 : decode cX8_four 36 = .ok (.goto (-33), 3) := dk_167 255 223 (dk_at dksX8_four_1 12 rfl rfl)
theorem dX8_four_39 : decode cX8_four 39 = .ok (.return_, 1) := dk_177 (dk_at dksX8_four_1 15 rfl rfl)
abbrev cX8_end : ByteArray := prog_20_method_4_code
def yX8_end : MethodName := ⟨RX8, "end", "(I)I"⟩
def dkwX8_end_0 : List UInt8 := [27, 155, 0, 11, 27, 42, 180, 0, 154, 164, 0, 5, 2, 172, 42, 27, 181, 0, 154, 27, 172]
abbrev dktX8_end_0 : List UInt8 := dkwX8_end_0 ++ []
theorem dksX8_end_0 : cX8_end.data.toList.drop 0 = dktX8_end_0 := by decide +kernel
theorem dX8_end_0 : decode cX8_end 0 = .ok (.iload_n 1, 1) := dk_27 (dk_at dksX8_end_0 0 rfl rfl)
theorem dX8_end_1 : decode cX8_end 1 = .ok (.ifCond .lt 11, 3) := dk_155 0 11 (dk_at dksX8_end_0 1 rfl rfl)
theorem dX8_end_4 : decode cX8_end 4 = .ok (.iload_n 1, 1) := dk_27 (dk_at dksX8_end_0 4 rfl rfl)
theorem dX8_end_5 : decode cX8_end 5 = .ok (.aload_n 0, 1) := dk_42 (dk_at dksX8_end_0 5 rfl rfl)
theorem dX8_end_6 : decode cX8_end 6 = .ok (.getfield 154, 3) := dk_180 0 154 (dk_at dksX8_end_0 6 rfl rfl)
theorem dX8_end_9 : decode cX8_end 9 = .ok (.if_icmp .le 5, 3) := dk_164 0 5 (dk_at dksX8_end_0 9 rfl rfl)
theorem dX8_end_12 : decode cX8_end 12 = .ok (.iconst (-1), 1) := dk_2 (dk_at dksX8_end_0 12 rfl rfl)
theorem dX8_end_13 : decode cX8_end 13 = .ok (.ireturn, 1) := dk_172 (dk_at dksX8_end_0 13 rfl rfl)
theorem dX8_end_14 : decode cX8_end 14 = .ok (.aload_n 0, 1) := dk_42 (dk_at dksX8_end_0 14 rfl rfl)
theorem dX8_end_15 : decode cX8_end 15 = .ok (.iload_n 1, 1) := dk_27 (dk_at dksX8_end_0 15 rfl rfl)
theorem dX8_end_16 : decode cX8_end 16 = .ok (.putfield 154, 3) := dk_181 0 154 (dk_at dksX8_end_0 16 rfl rfl)
theorem dX8_end_19 : decode cX8_end 19 = .ok (.iload_n 1, 1) := dk_27 (dk_at dksX8_end_0 19 rfl rfl)
theorem dX8_end_20 : decode cX8_end 20 = .ok (.ireturn, 1) := dk_172 (dk_at dksX8_end_0 20 rfl rfl)
abbrev cX8_river : ByteArray := prog_20_method_45_code
def yX8_river : MethodName := ⟨RX8, "rive\x72", "()I"⟩
def dkwX8_river_15 : List UInt8 := [132, 1, 1, 167, 255, 241, 42, 180, 1, 149, 172]
abbrev dktX8_river_15 : List UInt8 := dkwX8_river_15 ++ []
def dkwX8_river_14 : List UInt8 := [181, 1, 164, 42, 3, 181, 1, 167, 3, 60, 27, 6, 162, 0, 16, 42, 180, 0, 148, 27, 3, 84]
abbrev dktX8_river_14 : List UInt8 := dkwX8_river_14 ++ dktX8_river_15
def dkwX8_river_13 : List UInt8 := [180, 0, 84, 16, 27, 42, 180, 1, 140, 79, 42, 3, 181, 1, 158, 42, 3, 181, 1, 161, 42, 3]
abbrev dktX8_river_13 : List UInt8 := dkwX8_river_13 ++ dktX8_river_14
def dkwX8_river_12 : List UInt8 := [180, 0, 57, 27, 46, 79, 42, 180, 0, 84, 16, 20, 27, 96, 2, 79, 132, 1, 1, 167, 255, 223, 42]
abbrev dktX8_river_12 : List UInt8 := dkwX8_river_12 ++ dktX8_river_13
def dkwX8_river_11 : List UInt8 := [132, 1, 1, 167, 255, 197, 3, 60, 27, 42, 180, 1, 65, 162, 0, 31, 42, 180, 0, 75, 27, 42]
abbrev dktX8_river_11 : List UInt8 := dkwX8_river_11 ++ dktX8_river_12
def dkwX8_river_10 : List UInt8 := [180, 0, 72, 27, 42, 180, 0, 54, 27, 46, 79, 42, 180, 0, 84, 27, 42, 180, 0, 69, 27, 46, 79]
abbrev dktX8_river_10 : List UInt8 := dkwX8_river_10 ++ dktX8_river_11
def dkwX8_river_9 : List UInt8 := [180, 0, 66, 27, 42, 180, 0, 48, 27, 46, 79, 42, 180, 0, 69, 27, 42, 180, 0, 51, 27, 46, 79, 42]
abbrev dktX8_river_9 : List UInt8 := dkwX8_river_9 ++ dktX8_river_10
def dkwX8_river_8 : List UInt8 := [42, 180, 0, 84, 27, 3, 79, 132, 1, 1, 167, 255, 240, 3, 60, 27, 42, 180, 1, 149, 162, 0, 57, 42]
abbrev dktX8_river_8 : List UInt8 := dkwX8_river_8 ++ dktX8_river_9
def dkwX8_river_7 : List UInt8 := [46, 156, 0, 7, 3, 167, 0, 4, 4, 79, 132, 1, 1, 167, 255, 202, 3, 60, 27, 16, 28, 162, 0, 16]
abbrev dktX8_river_7 : List UInt8 := dkwX8_river_7 ++ dktX8_river_8
def dkwX8_river_6 : List UInt8 := [156, 0, 7, 3, 167, 0, 9, 42, 180, 0, 42, 27, 46, 79, 42, 180, 0, 63, 27, 42, 180, 0, 45, 27]
abbrev dktX8_river_6 : List UInt8 := dkwX8_river_6 ++ dktX8_river_7
def dkwX8_river_5 : List UInt8 := [167, 255, 221, 3, 60, 27, 16, 56, 162, 0, 54, 42, 180, 0, 60, 27, 42, 180, 0, 42, 27, 46]
abbrev dktX8_river_5 : List UInt8 := dkwX8_river_5 ++ dktX8_river_6
def dkwX8_river_4 : List UInt8 := [27, 42, 180, 0, 21, 27, 46, 79, 42, 180, 0, 30, 27, 42, 180, 0, 24, 27, 46, 79, 132, 1, 1]
abbrev dktX8_river_4 : List UInt8 := dkwX8_river_4 ++ dktX8_river_5
def dkwX8_river_3 : List UInt8 := [180, 1, 4, 167, 0, 4, 3, 181, 1, 71, 3, 60, 27, 42, 180, 1, 71, 162, 0, 33, 42, 180, 0, 27]
abbrev dktX8_river_3 : List UInt8 := dkwX8_river_3 ++ dktX8_river_4
def dkwX8_river_2 : List UInt8 := [180, 1, 134, 181, 1, 152, 42, 42, 180, 1, 20, 181, 1, 155, 42, 42, 180, 1, 42, 153, 0, 10, 42]
abbrev dktX8_river_2 : List UInt8 := dkwX8_river_2 ++ dktX8_river_3
def dkwX8_river_1 : List UInt8 := [180, 1, 88, 181, 0, 81, 42, 42, 180, 1, 101, 181, 1, 149, 42, 42, 180, 1, 107, 181, 1, 65, 42, 42]
abbrev dktX8_river_1 : List UInt8 := dkwX8_river_1 ++ dktX8_river_2
def dkwX8_river_0 : List UInt8 := [42, 182, 1, 146, 42, 180, 0, 194, 158, 0, 5, 2, 172, 42, 42, 180, 1, 81, 181, 0, 78, 42, 42]
abbrev dktX8_river_0 : List UInt8 := dkwX8_river_0 ++ dktX8_river_1
theorem dksX8_river_0 : cX8_river.data.toList.drop 0 = dktX8_river_0 := by decide +kernel
theorem dksX8_river_1 : cX8_river.data.toList.drop 23 = dktX8_river_1 := dk_seg dksX8_river_0 23 rfl rfl
theorem dksX8_river_2 : cX8_river.data.toList.drop 47 = dktX8_river_2 := dk_seg dksX8_river_1 24 rfl rfl
theorem dksX8_river_3 : cX8_river.data.toList.drop 70 = dktX8_river_3 := dk_seg dksX8_river_2 23 rfl rfl
theorem dksX8_river_4 : cX8_river.data.toList.drop 94 = dktX8_river_4 := dk_seg dksX8_river_3 24 rfl rfl
theorem dksX8_river_5 : cX8_river.data.toList.drop 117 = dktX8_river_5 := dk_seg dksX8_river_4 23 rfl rfl
theorem dksX8_river_6 : cX8_river.data.toList.drop 139 = dktX8_river_6 := dk_seg dksX8_river_5 22 rfl rfl
theorem dksX8_river_7 : cX8_river.data.toList.drop 163 = dktX8_river_7 := dk_seg dksX8_river_6 24 rfl rfl
theorem dksX8_river_8 : cX8_river.data.toList.drop 187 = dktX8_river_8 := dk_seg dksX8_river_7 24 rfl rfl
theorem dksX8_river_9 : cX8_river.data.toList.drop 211 = dktX8_river_9 := dk_seg dksX8_river_8 24 rfl rfl
theorem dksX8_river_10 : cX8_river.data.toList.drop 235 = dktX8_river_10 := dk_seg dksX8_river_9 24 rfl rfl
theorem dksX8_river_11 : cX8_river.data.toList.drop 258 = dktX8_river_11 := dk_seg dksX8_river_10 23 rfl rfl
theorem dksX8_river_12 : cX8_river.data.toList.drop 280 = dktX8_river_12 := dk_seg dksX8_river_11 22 rfl rfl
theorem dksX8_river_13 : cX8_river.data.toList.drop 303 = dktX8_river_13 := dk_seg dksX8_river_12 23 rfl rfl
theorem dksX8_river_14 : cX8_river.data.toList.drop 325 = dktX8_river_14 := dk_seg dksX8_river_13 22 rfl rfl
theorem dksX8_river_15 : cX8_river.data.toList.drop 347 = dktX8_river_15 := dk_seg dksX8_river_14 22 rfl rfl
theorem dX8_river_0 : decode cX8_river 0 = .ok (.aload_n 0, 1) := dk_42 (dk_at dksX8_river_0 0 rfl rfl)
theorem dX8_river_1 : decode cX8_river 1 = .ok (.invokevirtual 402, 3) := dk_182 1 146 (dk_at dksX8_river_0 1 rfl rfl)
theorem dX8_river_4 : decode cX8_river 4 = .ok (.aload_n 0, 1) := dk_42 (dk_at dksX8_river_0 4 rfl rfl)
theorem dX8_river_5 : decode cX8_river 5 = .ok (.getfield 194, 3) := dk_180 0 194 (dk_at dksX8_river_0 5 rfl rfl)
theorem dX8_river_8 : decode cX8_river 8 = .ok (.ifCond .le 5, 3) := dk_158 0 5 (dk_at dksX8_river_0 8 rfl rfl)
theorem dX8_river_11 : decode cX8_river 11 = .ok (.iconst (-1), 1) := dk_2 (dk_at dksX8_river_0 11 rfl rfl)
theorem dX8_river_12 : decode cX8_river 12 = .ok (.ireturn, 1) := dk_172 (dk_at dksX8_river_0 12 rfl rfl)
theorem dX8_river_13 : decode cX8_river 13 = .ok (.aload_n 0, 1) := dk_42 (dk_at dksX8_river_0 13 rfl rfl)
theorem dX8_river_14 : decode cX8_river 14 = .ok (.aload_n 0, 1) := dk_42 (dk_at dksX8_river_0 14 rfl rfl)
theorem dX8_river_15 : decode cX8_river 15 = .ok (.getfield 337, 3) := dk_180 1 81 (dk_at dksX8_river_0 15 rfl rfl)
theorem dX8_river_18 : decode cX8_river 18 = .ok (.putfield 78, 3) := dk_181 0 78 (dk_at dksX8_river_0 18 rfl rfl)
theorem dX8_river_21 : decode cX8_river 21 = .ok (.aload_n 0, 1) := dk_42 (dk_at dksX8_river_0 21 rfl rfl)
theorem dX8_river_22 : decode cX8_river 22 = .ok (.aload_n 0, 1) := dk_42 (dk_at dksX8_river_0 22 rfl rfl)
theorem dX8_river_23 : decode cX8_river 23 = .ok (.getfield 344, 3) := dk_180 1 88 (dk_at dksX8_river_1 0 rfl rfl)
theorem dX8_river_26 : decode cX8_river 26 = .ok (.putfield 81, 3) := dk_181 0 81 (dk_at dksX8_river_1 3 rfl rfl)
theorem dX8_river_29 : decode cX8_river 29 = .ok (.aload_n 0, 1) := dk_42 (dk_at dksX8_river_1 6 rfl rfl)
theorem dX8_river_30 : decode cX8_river 30 = .ok (.aload_n 0, 1) := dk_42 (dk_at dksX8_river_1 7 rfl rfl)
theorem dX8_river_31 : decode cX8_river 31 = .ok (.getfield 357, 3) := dk_180 1 101 (dk_at dksX8_river_1 8 rfl rfl)
theorem dX8_river_34 : decode cX8_river 34 = .ok (.putfield 405, 3) := dk_181 1 149 (dk_at dksX8_river_1 11 rfl rfl)
theorem dX8_river_37 : decode cX8_river 37 = .ok (.aload_n 0, 1) := dk_42 (dk_at dksX8_river_1 14 rfl rfl)
theorem dX8_river_38 : decode cX8_river 38 = .ok (.aload_n 0, 1) := dk_42 (dk_at dksX8_river_1 15 rfl rfl)
theorem dX8_river_39 : decode cX8_river 39 = .ok (.getfield 363, 3) := dk_180 1 107 (dk_at dksX8_river_1 16 rfl rfl)
theorem dX8_river_42 : decode cX8_river 42 = .ok (.putfield 321, 3) := dk_181 1 65 (dk_at dksX8_river_1 19 rfl rfl)
theorem dX8_river_45 : decode cX8_river 45 = .ok (.aload_n 0, 1) := dk_42 (dk_at dksX8_river_1 22 rfl rfl)
theorem dX8_river_46 : decode cX8_river 46 = .ok (.aload_n 0, 1) := dk_42 (dk_at dksX8_river_1 23 rfl rfl)
theorem dX8_river_47 : decode cX8_river 47 = .ok (.getfield 390, 3) := dk_180 1 134 (dk_at dksX8_river_2 0 rfl rfl)
theorem dX8_river_50 : decode cX8_river 50 = .ok (.putfield 408, 3) := dk_181 1 152 (dk_at dksX8_river_2 3 rfl rfl)
theorem dX8_river_53 : decode cX8_river 53 = .ok (.aload_n 0, 1) := dk_42 (dk_at dksX8_river_2 6 rfl rfl)
theorem dX8_river_54 : decode cX8_river 54 = .ok (.aload_n 0, 1) := dk_42 (dk_at dksX8_river_2 7 rfl rfl)
theorem dX8_river_55 : decode cX8_river 55 = .ok (.getfield 276, 3) := dk_180 1 20 (dk_at dksX8_river_2 8 rfl rfl)
theorem dX8_river_58 : decode cX8_river 58 = .ok (.putfield 411, 3) := dk_181 1 155 (dk_at dksX8_river_2 11 rfl rfl)
theorem dX8_river_61 : decode cX8_river 61 = .ok (.aload_n 0, 1) := dk_42 (dk_at dksX8_river_2 14 rfl rfl)
theorem dX8_river_62 : decode cX8_river 62 = .ok (.aload_n 0, 1) := dk_42 (dk_at dksX8_river_2 15 rfl rfl)
theorem dX8_river_63 : decode cX8_river 63 = .ok (.getfield 298, 3) := dk_180 1 42 (dk_at dksX8_river_2 16 rfl rfl)
theorem dX8_river_66 : decode cX8_river 66 = .ok (.ifCond .eq 10, 3) := dk_153 0 10 (dk_at dksX8_river_2 19 rfl rfl)
theorem dX8_river_69 : decode cX8_river 69 = .ok (.aload_n 0, 1) := dk_42 (dk_at dksX8_river_2 22 rfl rfl)
theorem dX8_river_70 : decode cX8_river 70 = .ok (.getfield 260, 3) := dk_180 1 4 (dk_at dksX8_river_3 0 rfl rfl)
theorem dX8_river_73 : decode cX8_river 73 = .ok (.goto 4, 3) := dk_167 0 4 (dk_at dksX8_river_3 3 rfl rfl)
theorem dX8_river_76 : decode cX8_river 76 = .ok (.iconst 0, 1) := dk_3 (dk_at dksX8_river_3 6 rfl rfl)
theorem dX8_river_77 : decode cX8_river 77 = .ok (.putfield 327, 3) := dk_181 1 71 (dk_at dksX8_river_3 7 rfl rfl)
theorem dX8_river_80 : decode cX8_river 80 = .ok (.iconst 0, 1) := dk_3 (dk_at dksX8_river_3 10 rfl rfl)
theorem dX8_river_81 : decode cX8_river 81 = .ok (.istore_n 1, 1) := dk_60 (dk_at dksX8_river_3 11 rfl rfl)
theorem dX8_river_82 : decode cX8_river 82 = .ok (.iload_n 1, 1) := dk_27 (dk_at dksX8_river_3 12 rfl rfl)
theorem dX8_river_83 : decode cX8_river 83 = .ok (.aload_n 0, 1) := dk_42 (dk_at dksX8_river_3 13 rfl rfl)
theorem dX8_river_84 : decode cX8_river 84 = .ok (.getfield 327, 3) := dk_180 1 71 (dk_at dksX8_river_3 14 rfl rfl)
theorem dX8_river_87 : decode cX8_river 87 = .ok (.if_icmp .ge 33, 3) := dk_162 0 33 (dk_at dksX8_river_3 17 rfl rfl)
theorem dX8_river_90 : decode cX8_river 90 = .ok (.aload_n 0, 1) := dk_42 (dk_at dksX8_river_3 20 rfl rfl)
theorem dX8_river_91 : decode cX8_river 91 = .ok (.getfield 27, 3) := dk_180 0 27 (dk_at dksX8_river_3 21 rfl rfl)
theorem dX8_river_94 : decode cX8_river 94 = .ok (.iload_n 1, 1) := dk_27 (dk_at dksX8_river_4 0 rfl rfl)
theorem dX8_river_95 : decode cX8_river 95 = .ok (.aload_n 0, 1) := dk_42 (dk_at dksX8_river_4 1 rfl rfl)
theorem dX8_river_96 : decode cX8_river 96 = .ok (.getfield 21, 3) := dk_180 0 21 (dk_at dksX8_river_4 2 rfl rfl)
theorem dX8_river_99 : decode cX8_river 99 = .ok (.iload_n 1, 1) := dk_27 (dk_at dksX8_river_4 5 rfl rfl)
theorem dX8_river_100 : decode cX8_river 100 = .ok (.iaload, 1) := dk_46 (dk_at dksX8_river_4 6 rfl rfl)
theorem dX8_river_101 : decode cX8_river 101 = .ok (.iastore, 1) := dk_79 (dk_at dksX8_river_4 7 rfl rfl)
theorem dX8_river_102 : decode cX8_river 102 = .ok (.aload_n 0, 1) := dk_42 (dk_at dksX8_river_4 8 rfl rfl)
theorem dX8_river_103 : decode cX8_river 103 = .ok (.getfield 30, 3) := dk_180 0 30 (dk_at dksX8_river_4 9 rfl rfl)
theorem dX8_river_106 : decode cX8_river 106 = .ok (.iload_n 1, 1) := dk_27 (dk_at dksX8_river_4 12 rfl rfl)
theorem dX8_river_107 : decode cX8_river 107 = .ok (.aload_n 0, 1) := dk_42 (dk_at dksX8_river_4 13 rfl rfl)
theorem dX8_river_108 : decode cX8_river 108 = .ok (.getfield 24, 3) := dk_180 0 24 (dk_at dksX8_river_4 14 rfl rfl)
theorem dX8_river_111 : decode cX8_river 111 = .ok (.iload_n 1, 1) := dk_27 (dk_at dksX8_river_4 17 rfl rfl)
theorem dX8_river_112 : decode cX8_river 112 = .ok (.iaload, 1) := dk_46 (dk_at dksX8_river_4 18 rfl rfl)
theorem dX8_river_113 : decode cX8_river 113 = .ok (.iastore, 1) := dk_79 (dk_at dksX8_river_4 19 rfl rfl)
theorem dX8_river_114 : decode cX8_river 114 = .ok (.iinc 1 1, 3) := dk_132 1 1 (dk_at dksX8_river_4 20 rfl rfl)
theorem dX8_river_117 : decode cX8_river 117 = .ok (.goto (-35), 3) := dk_167 255 221 (dk_at dksX8_river_5 0 rfl rfl)
theorem dX8_river_120 : decode cX8_river 120 = .ok (.iconst 0, 1) := dk_3 (dk_at dksX8_river_5 3 rfl rfl)
theorem dX8_river_121 : decode cX8_river 121 = .ok (.istore_n 1, 1) := dk_60 (dk_at dksX8_river_5 4 rfl rfl)
theorem dX8_river_122 : decode cX8_river 122 = .ok (.iload_n 1, 1) := dk_27 (dk_at dksX8_river_5 5 rfl rfl)
theorem dX8_river_123 : decode cX8_river 123 = .ok (.bipush 56, 2) := dk_16 56 (dk_at dksX8_river_5 6 rfl rfl)
theorem dX8_river_125 : decode cX8_river 125 = .ok (.if_icmp .ge 54, 3) := dk_162 0 54 (dk_at dksX8_river_5 8 rfl rfl)
theorem dX8_river_128 : decode cX8_river 128 = .ok (.aload_n 0, 1) := dk_42 (dk_at dksX8_river_5 11 rfl rfl)
theorem dX8_river_129 : decode cX8_river 129 = .ok (.getfield 60, 3) := dk_180 0 60 (dk_at dksX8_river_5 12 rfl rfl)
theorem dX8_river_132 : decode cX8_river 132 = .ok (.iload_n 1, 1) := dk_27 (dk_at dksX8_river_5 15 rfl rfl)
theorem dX8_river_133 : decode cX8_river 133 = .ok (.aload_n 0, 1) := dk_42 (dk_at dksX8_river_5 16 rfl rfl)
theorem dX8_river_134 : decode cX8_river 134 = .ok (.getfield 42, 3) := dk_180 0 42 (dk_at dksX8_river_5 17 rfl rfl)
theorem dX8_river_137 : decode cX8_river 137 = .ok (.iload_n 1, 1) := dk_27 (dk_at dksX8_river_5 20 rfl rfl)
theorem dX8_river_138 : decode cX8_river 138 = .ok (.iaload, 1) := dk_46 (dk_at dksX8_river_5 21 rfl rfl)
theorem dX8_river_139 : decode cX8_river 139 = .ok (.ifCond .ge 7, 3) := dk_156 0 7 (dk_at dksX8_river_6 0 rfl rfl)
theorem dX8_river_142 : decode cX8_river 142 = .ok (.iconst 0, 1) := dk_3 (dk_at dksX8_river_6 3 rfl rfl)
theorem dX8_river_143 : decode cX8_river 143 = .ok (.goto 9, 3) := dk_167 0 9 (dk_at dksX8_river_6 4 rfl rfl)
theorem dX8_river_146 : decode cX8_river 146 = .ok (.aload_n 0, 1) := dk_42 (dk_at dksX8_river_6 7 rfl rfl)
theorem dX8_river_147 : decode cX8_river 147 = .ok (.getfield 42, 3) := dk_180 0 42 (dk_at dksX8_river_6 8 rfl rfl)
theorem dX8_river_150 : decode cX8_river 150 = .ok (.iload_n 1, 1) := dk_27 (dk_at dksX8_river_6 11 rfl rfl)
theorem dX8_river_151 : decode cX8_river 151 = .ok (.iaload, 1) := dk_46 (dk_at dksX8_river_6 12 rfl rfl)
theorem dX8_river_152 : decode cX8_river 152 = .ok (.iastore, 1) := dk_79 (dk_at dksX8_river_6 13 rfl rfl)
theorem dX8_river_153 : decode cX8_river 153 = .ok (.aload_n 0, 1) := dk_42 (dk_at dksX8_river_6 14 rfl rfl)
theorem dX8_river_154 : decode cX8_river 154 = .ok (.getfield 63, 3) := dk_180 0 63 (dk_at dksX8_river_6 15 rfl rfl)
theorem dX8_river_157 : decode cX8_river 157 = .ok (.iload_n 1, 1) := dk_27 (dk_at dksX8_river_6 18 rfl rfl)
theorem dX8_river_158 : decode cX8_river 158 = .ok (.aload_n 0, 1) := dk_42 (dk_at dksX8_river_6 19 rfl rfl)
theorem dX8_river_159 : decode cX8_river 159 = .ok (.getfield 45, 3) := dk_180 0 45 (dk_at dksX8_river_6 20 rfl rfl)
theorem dX8_river_162 : decode cX8_river 162 = .ok (.iload_n 1, 1) := dk_27 (dk_at dksX8_river_6 23 rfl rfl)
theorem dX8_river_163 : decode cX8_river 163 = .ok (.iaload, 1) := dk_46 (dk_at dksX8_river_7 0 rfl rfl)
theorem dX8_river_164 : decode cX8_river 164 = .ok (.ifCond .ge 7, 3) := dk_156 0 7 (dk_at dksX8_river_7 1 rfl rfl)
theorem dX8_river_167 : decode cX8_river 167 = .ok (.iconst 0, 1) := dk_3 (dk_at dksX8_river_7 4 rfl rfl)
theorem dX8_river_168 : decode cX8_river 168 = .ok (.goto 4, 3) := dk_167 0 4 (dk_at dksX8_river_7 5 rfl rfl)
theorem dX8_river_171 : decode cX8_river 171 = .ok (.iconst 1, 1) := dk_4 (dk_at dksX8_river_7 8 rfl rfl)
theorem dX8_river_172 : decode cX8_river 172 = .ok (.iastore, 1) := dk_79 (dk_at dksX8_river_7 9 rfl rfl)
theorem dX8_river_173 : decode cX8_river 173 = .ok (.iinc 1 1, 3) := dk_132 1 1 (dk_at dksX8_river_7 10 rfl rfl)
theorem dX8_river_176 : decode cX8_river 176 = .ok (.goto (-54), 3) := dk_167 255 202 (dk_at dksX8_river_7 13 rfl rfl)
theorem dX8_river_179 : decode cX8_river 179 = .ok (.iconst 0, 1) := dk_3 (dk_at dksX8_river_7 16 rfl rfl)
theorem dX8_river_180 : decode cX8_river 180 = .ok (.istore_n 1, 1) := dk_60 (dk_at dksX8_river_7 17 rfl rfl)
theorem dX8_river_181 : decode cX8_river 181 = .ok (.iload_n 1, 1) := dk_27 (dk_at dksX8_river_7 18 rfl rfl)
theorem dX8_river_182 : decode cX8_river 182 = .ok (.bipush 28, 2) := dk_16 28 (dk_at dksX8_river_7 19 rfl rfl)
theorem dX8_river_184 : decode cX8_river 184 = .ok (.if_icmp .ge 16, 3) := dk_162 0 16 (dk_at dksX8_river_7 21 rfl rfl)
theorem dX8_river_187 : decode cX8_river 187 = .ok (.aload_n 0, 1) := dk_42 (dk_at dksX8_river_8 0 rfl rfl)
theorem dX8_river_188 : decode cX8_river 188 = .ok (.getfield 84, 3) := dk_180 0 84 (dk_at dksX8_river_8 1 rfl rfl)
theorem dX8_river_191 : decode cX8_river 191 = .ok (.iload_n 1, 1) := dk_27 (dk_at dksX8_river_8 4 rfl rfl)
theorem dX8_river_192 : decode cX8_river 192 = .ok (.iconst 0, 1) := dk_3 (dk_at dksX8_river_8 5 rfl rfl)
theorem dX8_river_193 : decode cX8_river 193 = .ok (.iastore, 1) := dk_79 (dk_at dksX8_river_8 6 rfl rfl)
theorem dX8_river_194 : decode cX8_river 194 = .ok (.iinc 1 1, 3) := dk_132 1 1 (dk_at dksX8_river_8 7 rfl rfl)
theorem dX8_river_197 : decode cX8_river 197 = .ok (.goto (-16), 3) := dk_167 255 240 (dk_at dksX8_river_8 10 rfl rfl)
theorem dX8_river_200 : decode cX8_river 200 = .ok (.iconst 0, 1) := dk_3 (dk_at dksX8_river_8 13 rfl rfl)
theorem dX8_river_201 : decode cX8_river 201 = .ok (.istore_n 1, 1) := dk_60 (dk_at dksX8_river_8 14 rfl rfl)
theorem dX8_river_202 : decode cX8_river 202 = .ok (.iload_n 1, 1) := dk_27 (dk_at dksX8_river_8 15 rfl rfl)
theorem dX8_river_203 : decode cX8_river 203 = .ok (.aload_n 0, 1) := dk_42 (dk_at dksX8_river_8 16 rfl rfl)
theorem dX8_river_204 : decode cX8_river 204 = .ok (.getfield 405, 3) := dk_180 1 149 (dk_at dksX8_river_8 17 rfl rfl)
theorem dX8_river_207 : decode cX8_river 207 = .ok (.if_icmp .ge 57, 3) := dk_162 0 57 (dk_at dksX8_river_8 20 rfl rfl)
theorem dX8_river_210 : decode cX8_river 210 = .ok (.aload_n 0, 1) := dk_42 (dk_at dksX8_river_8 23 rfl rfl)
theorem dX8_river_211 : decode cX8_river 211 = .ok (.getfield 66, 3) := dk_180 0 66 (dk_at dksX8_river_9 0 rfl rfl)
theorem dX8_river_214 : decode cX8_river 214 = .ok (.iload_n 1, 1) := dk_27 (dk_at dksX8_river_9 3 rfl rfl)
theorem dX8_river_215 : decode cX8_river 215 = .ok (.aload_n 0, 1) := dk_42 (dk_at dksX8_river_9 4 rfl rfl)
theorem dX8_river_216 : decode cX8_river 216 = .ok (.getfield 48, 3) := dk_180 0 48 (dk_at dksX8_river_9 5 rfl rfl)
theorem dX8_river_219 : decode cX8_river 219 = .ok (.iload_n 1, 1) := dk_27 (dk_at dksX8_river_9 8 rfl rfl)
theorem dX8_river_220 : decode cX8_river 220 = .ok (.iaload, 1) := dk_46 (dk_at dksX8_river_9 9 rfl rfl)
theorem dX8_river_221 : decode cX8_river 221 = .ok (.iastore, 1) := dk_79 (dk_at dksX8_river_9 10 rfl rfl)
theorem dX8_river_222 : decode cX8_river 222 = .ok (.aload_n 0, 1) := dk_42 (dk_at dksX8_river_9 11 rfl rfl)
theorem dX8_river_223 : decode cX8_river 223 = .ok (.getfield 69, 3) := dk_180 0 69 (dk_at dksX8_river_9 12 rfl rfl)
theorem dX8_river_226 : decode cX8_river 226 = .ok (.iload_n 1, 1) := dk_27 (dk_at dksX8_river_9 15 rfl rfl)
theorem dX8_river_227 : decode cX8_river 227 = .ok (.aload_n 0, 1) := dk_42 (dk_at dksX8_river_9 16 rfl rfl)
theorem dX8_river_228 : decode cX8_river 228 = .ok (.getfield 51, 3) := dk_180 0 51 (dk_at dksX8_river_9 17 rfl rfl)
theorem dX8_river_231 : decode cX8_river 231 = .ok (.iload_n 1, 1) := dk_27 (dk_at dksX8_river_9 20 rfl rfl)
theorem dX8_river_232 : decode cX8_river 232 = .ok (.iaload, 1) := dk_46 (dk_at dksX8_river_9 21 rfl rfl)
theorem dX8_river_233 : decode cX8_river 233 = .ok (.iastore, 1) := dk_79 (dk_at dksX8_river_9 22 rfl rfl)
theorem dX8_river_234 : decode cX8_river 234 = .ok (.aload_n 0, 1) := dk_42 (dk_at dksX8_river_9 23 rfl rfl)
theorem dX8_river_235 : decode cX8_river 235 = .ok (.getfield 72, 3) := dk_180 0 72 (dk_at dksX8_river_10 0 rfl rfl)
theorem dX8_river_238 : decode cX8_river 238 = .ok (.iload_n 1, 1) := dk_27 (dk_at dksX8_river_10 3 rfl rfl)
theorem dX8_river_239 : decode cX8_river 239 = .ok (.aload_n 0, 1) := dk_42 (dk_at dksX8_river_10 4 rfl rfl)
theorem dX8_river_240 : decode cX8_river 240 = .ok (.getfield 54, 3) := dk_180 0 54 (dk_at dksX8_river_10 5 rfl rfl)
theorem dX8_river_243 : decode cX8_river 243 = .ok (.iload_n 1, 1) := dk_27 (dk_at dksX8_river_10 8 rfl rfl)
theorem dX8_river_244 : decode cX8_river 244 = .ok (.iaload, 1) := dk_46 (dk_at dksX8_river_10 9 rfl rfl)
theorem dX8_river_245 : decode cX8_river 245 = .ok (.iastore, 1) := dk_79 (dk_at dksX8_river_10 10 rfl rfl)
theorem dX8_river_246 : decode cX8_river 246 = .ok (.aload_n 0, 1) := dk_42 (dk_at dksX8_river_10 11 rfl rfl)
theorem dX8_river_247 : decode cX8_river 247 = .ok (.getfield 84, 3) := dk_180 0 84 (dk_at dksX8_river_10 12 rfl rfl)
theorem dX8_river_250 : decode cX8_river 250 = .ok (.iload_n 1, 1) := dk_27 (dk_at dksX8_river_10 15 rfl rfl)
theorem dX8_river_251 : decode cX8_river 251 = .ok (.aload_n 0, 1) := dk_42 (dk_at dksX8_river_10 16 rfl rfl)
theorem dX8_river_252 : decode cX8_river 252 = .ok (.getfield 69, 3) := dk_180 0 69 (dk_at dksX8_river_10 17 rfl rfl)
theorem dX8_river_255 : decode cX8_river 255 = .ok (.iload_n 1, 1) := dk_27 (dk_at dksX8_river_10 20 rfl rfl)
theorem dX8_river_256 : decode cX8_river 256 = .ok (.iaload, 1) := dk_46 (dk_at dksX8_river_10 21 rfl rfl)
theorem dX8_river_257 : decode cX8_river 257 = .ok (.iastore, 1) := dk_79 (dk_at dksX8_river_10 22 rfl rfl)
theorem dX8_river_258 : decode cX8_river 258 = .ok (.iinc 1 1, 3) := dk_132 1 1 (dk_at dksX8_river_11 0 rfl rfl)
theorem dX8_river_261 : decode cX8_river 261 = .ok (.goto (-59), 3) := dk_167 255 197 (dk_at dksX8_river_11 3 rfl rfl)
theorem dX8_river_264 : decode cX8_river 264 = .ok (.iconst 0, 1) := dk_3 (dk_at dksX8_river_11 6 rfl rfl)
theorem dX8_river_265 : decode cX8_river 265 = .ok (.istore_n 1, 1) := dk_60 (dk_at dksX8_river_11 7 rfl rfl)
theorem dX8_river_266 : decode cX8_river 266 = .ok (.iload_n 1, 1) := dk_27 (dk_at dksX8_river_11 8 rfl rfl)
theorem dX8_river_267 : decode cX8_river 267 = .ok (.aload_n 0, 1) := dk_42 (dk_at dksX8_river_11 9 rfl rfl)
theorem dX8_river_268 : decode cX8_river 268 = .ok (.getfield 321, 3) := dk_180 1 65 (dk_at dksX8_river_11 10 rfl rfl)
theorem dX8_river_271 : decode cX8_river 271 = .ok (.if_icmp .ge 31, 3) := dk_162 0 31 (dk_at dksX8_river_11 13 rfl rfl)
theorem dX8_river_274 : decode cX8_river 274 = .ok (.aload_n 0, 1) := dk_42 (dk_at dksX8_river_11 16 rfl rfl)
theorem dX8_river_275 : decode cX8_river 275 = .ok (.getfield 75, 3) := dk_180 0 75 (dk_at dksX8_river_11 17 rfl rfl)
theorem dX8_river_278 : decode cX8_river 278 = .ok (.iload_n 1, 1) := dk_27 (dk_at dksX8_river_11 20 rfl rfl)
theorem dX8_river_279 : decode cX8_river 279 = .ok (.aload_n 0, 1) := dk_42 (dk_at dksX8_river_11 21 rfl rfl)
theorem dX8_river_280 : decode cX8_river 280 = .ok (.getfield 57, 3) := dk_180 0 57 (dk_at dksX8_river_12 0 rfl rfl)
theorem dX8_river_283 : decode cX8_river 283 = .ok (.iload_n 1, 1) := dk_27 (dk_at dksX8_river_12 3 rfl rfl)
theorem dX8_river_284 : decode cX8_river 284 = .ok (.iaload, 1) := dk_46 (dk_at dksX8_river_12 4 rfl rfl)
theorem dX8_river_285 : decode cX8_river 285 = .ok (.iastore, 1) := dk_79 (dk_at dksX8_river_12 5 rfl rfl)
theorem dX8_river_286 : decode cX8_river 286 = .ok (.aload_n 0, 1) := dk_42 (dk_at dksX8_river_12 6 rfl rfl)
theorem dX8_river_287 : decode cX8_river 287 = .ok (.getfield 84, 3) := dk_180 0 84 (dk_at dksX8_river_12 7 rfl rfl)
theorem dX8_river_290 : decode cX8_river 290 = .ok (.bipush 20, 2) := dk_16 20 (dk_at dksX8_river_12 10 rfl rfl)
theorem dX8_river_292 : decode cX8_river 292 = .ok (.iload_n 1, 1) := dk_27 (dk_at dksX8_river_12 12 rfl rfl)
theorem dX8_river_293 : decode cX8_river 293 = .ok (.iadd, 1) := dk_96 (dk_at dksX8_river_12 13 rfl rfl)
theorem dX8_river_294 : decode cX8_river 294 = .ok (.iconst (-1), 1) := dk_2 (dk_at dksX8_river_12 14 rfl rfl)
theorem dX8_river_295 : decode cX8_river 295 = .ok (.iastore, 1) := dk_79 (dk_at dksX8_river_12 15 rfl rfl)
theorem dX8_river_296 : decode cX8_river 296 = .ok (.iinc 1 1, 3) := dk_132 1 1 (dk_at dksX8_river_12 16 rfl rfl)
theorem dX8_river_299 : decode cX8_river 299 = .ok (.goto (-33), 3) := dk_167 255 223 (dk_at dksX8_river_12 19 rfl rfl)
theorem dX8_river_302 : decode cX8_river 302 = .ok (.aload_n 0, 1) := dk_42 (dk_at dksX8_river_12 22 rfl rfl)
theorem dX8_river_303 : decode cX8_river 303 = .ok (.getfield 84, 3) := dk_180 0 84 (dk_at dksX8_river_13 0 rfl rfl)
theorem dX8_river_306 : decode cX8_river 306 = .ok (.bipush 27, 2) := dk_16 27 (dk_at dksX8_river_13 3 rfl rfl)
theorem dX8_river_308 : decode cX8_river 308 = .ok (.aload_n 0, 1) := dk_42 (dk_at dksX8_river_13 5 rfl rfl)
theorem dX8_river_309 : decode cX8_river 309 = .ok (.getfield 396, 3) := dk_180 1 140 (dk_at dksX8_river_13 6 rfl rfl)
theorem dX8_river_312 : decode cX8_river 312 = .ok (.iastore, 1) := dk_79 (dk_at dksX8_river_13 9 rfl rfl)
theorem dX8_river_313 : decode cX8_river 313 = .ok (.aload_n 0, 1) := dk_42 (dk_at dksX8_river_13 10 rfl rfl)
theorem dX8_river_314 : decode cX8_river 314 = .ok (.iconst 0, 1) := dk_3 (dk_at dksX8_river_13 11 rfl rfl)
theorem dX8_river_315 : decode cX8_river 315 = .ok (.putfield 414, 3) := dk_181 1 158 (dk_at dksX8_river_13 12 rfl rfl)
theorem dX8_river_318 : decode cX8_river 318 = .ok (.aload_n 0, 1) := dk_42 (dk_at dksX8_river_13 15 rfl rfl)
theorem dX8_river_319 : decode cX8_river 319 = .ok (.iconst 0, 1) := dk_3 (dk_at dksX8_river_13 16 rfl rfl)
theorem dX8_river_320 : decode cX8_river 320 = .ok (.putfield 417, 3) := dk_181 1 161 (dk_at dksX8_river_13 17 rfl rfl)
theorem dX8_river_323 : decode cX8_river 323 = .ok (.aload_n 0, 1) := dk_42 (dk_at dksX8_river_13 20 rfl rfl)
theorem dX8_river_324 : decode cX8_river 324 = .ok (.iconst 0, 1) := dk_3 (dk_at dksX8_river_13 21 rfl rfl)
theorem dX8_river_325 : decode cX8_river 325 = .ok (.putfield 420, 3) := dk_181 1 164 (dk_at dksX8_river_14 0 rfl rfl)
theorem dX8_river_328 : decode cX8_river 328 = .ok (.aload_n 0, 1) := dk_42 (dk_at dksX8_river_14 3 rfl rfl)
theorem dX8_river_329 : decode cX8_river 329 = .ok (.iconst 0, 1) := dk_3 (dk_at dksX8_river_14 4 rfl rfl)
theorem dX8_river_330 : decode cX8_river 330 = .ok (.putfield 423, 3) := dk_181 1 167 (dk_at dksX8_river_14 5 rfl rfl)
theorem dX8_river_333 : decode cX8_river 333 = .ok (.iconst 0, 1) := dk_3 (dk_at dksX8_river_14 8 rfl rfl)
theorem dX8_river_334 : decode cX8_river 334 = .ok (.istore_n 1, 1) := dk_60 (dk_at dksX8_river_14 9 rfl rfl)
theorem dX8_river_335 : decode cX8_river 335 = .ok (.iload_n 1, 1) := dk_27 (dk_at dksX8_river_14 10 rfl rfl)
theorem dX8_river_336 : decode cX8_river 336 = .ok (.iconst 3, 1) := dk_6 (dk_at dksX8_river_14 11 rfl rfl)
theorem dX8_river_337 : decode cX8_river 337 = .ok (.if_icmp .ge 16, 3) := dk_162 0 16 (dk_at dksX8_river_14 12 rfl rfl)
theorem dX8_river_340 : decode cX8_river 340 = .ok (.aload_n 0, 1) := dk_42 (dk_at dksX8_river_14 15 rfl rfl)
theorem dX8_river_341 : decode cX8_river 341 = .ok (.getfield 148, 3) := dk_180 0 148 (dk_at dksX8_river_14 16 rfl rfl)
theorem dX8_river_344 : decode cX8_river 344 = .ok (.iload_n 1, 1) := dk_27 (dk_at dksX8_river_14 19 rfl rfl)
theorem dX8_river_345 : decode cX8_river 345 = .ok (.iconst 0, 1) := dk_3 (dk_at dksX8_river_14 20 rfl rfl)
theorem dX8_river_346 : decode cX8_river 346 = .ok (.bastore, 1) := dk_84 (dk_at dksX8_river_14 21 rfl rfl)
theorem dX8_river_347 : decode cX8_river 347 = .ok (.iinc 1 1, 3) := dk_132 1 1 (dk_at dksX8_river_15 0 rfl rfl)
theorem dX8_river_350 : decode cX8_river 350 = .ok (.goto (-15), 3) := dk_167 255 241 (dk_at dksX8_river_15 3 rfl rfl)
theorem dX8_river_353 : decode cX8_river 353 = .ok (.aload_n 0, 1) := dk_42 (dk_at dksX8_river_15 6 rfl rfl)
theorem dX8_river_354 : decode cX8_river 354 = .ok (.getfield 405, 3) := dk_180 1 149 (dk_at dksX8_river_15 7 rfl rfl)
theorem dX8_river_357 : decode cX8_river 357 = .ok (.ireturn, 1) := dk_172 (dk_at dksX8_river_15 10 rfl rfl)
abbrev cX8_readAll : ByteArray := prog_20_method_44_code
def yX8_readAll : MethodName := ⟨RX8, "readAll", "()V"⟩
def dkwX8_readAll_6 : List UInt8 := [42, 182, 1, 143, 167, 255, 238, 177]
abbrev dktX8_readAll_6 : List UInt8 := dkwX8_readAll_6 ++ []
def dkwX8_readAll_5 : List UInt8 := [132, 1, 1, 167, 255, 233, 42, 182, 0, 246, 42, 180, 0, 194, 154, 0, 17, 42, 180, 0, 181, 153, 0, 10]
abbrev dktX8_readAll_5 : List UInt8 := dkwX8_readAll_5 ++ dktX8_readAll_6
def dkwX8_readAll_4 : List UInt8 := [3, 60, 27, 16, 56, 162, 0, 23, 42, 180, 0, 42, 27, 2, 79, 42, 180, 0, 45, 27, 2, 79]
abbrev dktX8_readAll_4 : List UInt8 := dkwX8_readAll_4 ++ dktX8_readAll_5
def dkwX8_readAll_3 : List UInt8 := [3, 181, 1, 110, 42, 3, 181, 1, 131, 42, 3, 181, 1, 137, 42, 3, 181, 1, 42, 42, 3, 181, 1, 20]
abbrev dktX8_readAll_3 : List UInt8 := dkwX8_readAll_3 ++ dktX8_readAll_4
def dkwX8_readAll_2 : List UInt8 := [181, 1, 98, 42, 3, 181, 1, 101, 42, 3, 181, 1, 107, 42, 3, 181, 1, 134, 42, 3, 181, 1, 140, 42]
abbrev dktX8_readAll_2 : List UInt8 := dkwX8_readAll_2 ++ dktX8_readAll_3
def dkwX8_readAll_1 : List UInt8 := [2, 181, 0, 13, 42, 16, 8, 181, 1, 81, 42, 16, 6, 181, 1, 88, 42, 3, 181, 1, 95, 42, 3]
abbrev dktX8_readAll_1 : List UInt8 := dkwX8_readAll_1 ++ dktX8_readAll_2
def dkwX8_readAll_0 : List UInt8 := [42, 42, 180, 0, 154, 181, 0, 164, 42, 3, 181, 0, 154, 42, 3, 181, 0, 161, 42, 3, 181, 0, 194, 42]
abbrev dktX8_readAll_0 : List UInt8 := dkwX8_readAll_0 ++ dktX8_readAll_1
theorem dksX8_readAll_0 : cX8_readAll.data.toList.drop 0 = dktX8_readAll_0 := by decide +kernel
theorem dksX8_readAll_1 : cX8_readAll.data.toList.drop 24 = dktX8_readAll_1 := dk_seg dksX8_readAll_0 24 rfl rfl
theorem dksX8_readAll_2 : cX8_readAll.data.toList.drop 47 = dktX8_readAll_2 := dk_seg dksX8_readAll_1 23 rfl rfl
theorem dksX8_readAll_3 : cX8_readAll.data.toList.drop 71 = dktX8_readAll_3 := dk_seg dksX8_readAll_2 24 rfl rfl
theorem dksX8_readAll_4 : cX8_readAll.data.toList.drop 95 = dktX8_readAll_4 := dk_seg dksX8_readAll_3 24 rfl rfl
theorem dksX8_readAll_5 : cX8_readAll.data.toList.drop 117 = dktX8_readAll_5 := dk_seg dksX8_readAll_4 22 rfl rfl
theorem dksX8_readAll_6 : cX8_readAll.data.toList.drop 141 = dktX8_readAll_6 := dk_seg dksX8_readAll_5 24 rfl rfl
theorem dX8_readAll_0 : decode cX8_readAll 0 = .ok (.aload_n 0, 1) := dk_42 (dk_at dksX8_readAll_0 0 rfl rfl)
theorem dX8_readAll_1 : decode cX8_readAll 1 = .ok (.aload_n 0, 1) := dk_42 (dk_at dksX8_readAll_0 1 rfl rfl)
theorem dX8_readAll_2 : decode cX8_readAll 2 = .ok (.getfield 154, 3) := dk_180 0 154 (dk_at dksX8_readAll_0 2 rfl rfl)
theorem dX8_readAll_5 : decode cX8_readAll 5 = .ok (.putfield 164, 3) := dk_181 0 164 (dk_at dksX8_readAll_0 5 rfl rfl)
theorem dX8_readAll_8 : decode cX8_readAll 8 = .ok (.aload_n 0, 1) := dk_42 (dk_at dksX8_readAll_0 8 rfl rfl)
theorem dX8_readAll_9 : decode cX8_readAll 9 = .ok (.iconst 0, 1) := dk_3 (dk_at dksX8_readAll_0 9 rfl rfl)
theorem dX8_readAll_10 : decode cX8_readAll 10 = .ok (.putfield 154, 3) := dk_181 0 154 (dk_at dksX8_readAll_0 10 rfl rfl)
theorem dX8_readAll_13 : decode cX8_readAll 13 = .ok (.aload_n 0, 1) := dk_42 (dk_at dksX8_readAll_0 13 rfl rfl)
theorem dX8_readAll_14 : decode cX8_readAll 14 = .ok (.iconst 0, 1) := dk_3 (dk_at dksX8_readAll_0 14 rfl rfl)
theorem dX8_readAll_15 : decode cX8_readAll 15 = .ok (.putfield 161, 3) := dk_181 0 161 (dk_at dksX8_readAll_0 15 rfl rfl)
theorem dX8_readAll_18 : decode cX8_readAll 18 = .ok (.aload_n 0, 1) := dk_42 (dk_at dksX8_readAll_0 18 rfl rfl)
theorem dX8_readAll_19 : decode cX8_readAll 19 = .ok (.iconst 0, 1) := dk_3 (dk_at dksX8_readAll_0 19 rfl rfl)
theorem dX8_readAll_20 : decode cX8_readAll 20 = .ok (.putfield 194, 3) := dk_181 0 194 (dk_at dksX8_readAll_0 20 rfl rfl)
theorem dX8_readAll_23 : decode cX8_readAll 23 = .ok (.aload_n 0, 1) := dk_42 (dk_at dksX8_readAll_0 23 rfl rfl)
theorem dX8_readAll_24 : decode cX8_readAll 24 = .ok (.iconst (-1), 1) := dk_2 (dk_at dksX8_readAll_1 0 rfl rfl)
theorem dX8_readAll_25 : decode cX8_readAll 25 = .ok (.putfield 13, 3) := dk_181 0 13 (dk_at dksX8_readAll_1 1 rfl rfl)
theorem dX8_readAll_28 : decode cX8_readAll 28 = .ok (.aload_n 0, 1) := dk_42 (dk_at dksX8_readAll_1 4 rfl rfl)
theorem dX8_readAll_29 : decode cX8_readAll 29 = .ok (.bipush 8, 2) := dk_16 8 (dk_at dksX8_readAll_1 5 rfl rfl)
theorem dX8_readAll_31 : decode cX8_readAll 31 = .ok (.putfield 337, 3) := dk_181 1 81 (dk_at dksX8_readAll_1 7 rfl rfl)
theorem dX8_readAll_34 : decode cX8_readAll 34 = .ok (.aload_n 0, 1) := dk_42 (dk_at dksX8_readAll_1 10 rfl rfl)
theorem dX8_readAll_35 : decode cX8_readAll 35 = .ok (.bipush 6, 2) := dk_16 6 (dk_at dksX8_readAll_1 11 rfl rfl)
theorem dX8_readAll_37 : decode cX8_readAll 37 = .ok (.putfield 344, 3) := dk_181 1 88 (dk_at dksX8_readAll_1 13 rfl rfl)
theorem dX8_readAll_40 : decode cX8_readAll 40 = .ok (.aload_n 0, 1) := dk_42 (dk_at dksX8_readAll_1 16 rfl rfl)
theorem dX8_readAll_41 : decode cX8_readAll 41 = .ok (.iconst 0, 1) := dk_3 (dk_at dksX8_readAll_1 17 rfl rfl)
theorem dX8_readAll_42 : decode cX8_readAll 42 = .ok (.putfield 351, 3) := dk_181 1 95 (dk_at dksX8_readAll_1 18 rfl rfl)
theorem dX8_readAll_45 : decode cX8_readAll 45 = .ok (.aload_n 0, 1) := dk_42 (dk_at dksX8_readAll_1 21 rfl rfl)
theorem dX8_readAll_46 : decode cX8_readAll 46 = .ok (.iconst 0, 1) := dk_3 (dk_at dksX8_readAll_1 22 rfl rfl)
theorem dX8_readAll_47 : decode cX8_readAll 47 = .ok (.putfield 354, 3) := dk_181 1 98 (dk_at dksX8_readAll_2 0 rfl rfl)
theorem dX8_readAll_50 : decode cX8_readAll 50 = .ok (.aload_n 0, 1) := dk_42 (dk_at dksX8_readAll_2 3 rfl rfl)
theorem dX8_readAll_51 : decode cX8_readAll 51 = .ok (.iconst 0, 1) := dk_3 (dk_at dksX8_readAll_2 4 rfl rfl)
theorem dX8_readAll_52 : decode cX8_readAll 52 = .ok (.putfield 357, 3) := dk_181 1 101 (dk_at dksX8_readAll_2 5 rfl rfl)
theorem dX8_readAll_55 : decode cX8_readAll 55 = .ok (.aload_n 0, 1) := dk_42 (dk_at dksX8_readAll_2 8 rfl rfl)
theorem dX8_readAll_56 : decode cX8_readAll 56 = .ok (.iconst 0, 1) := dk_3 (dk_at dksX8_readAll_2 9 rfl rfl)
theorem dX8_readAll_57 : decode cX8_readAll 57 = .ok (.putfield 363, 3) := dk_181 1 107 (dk_at dksX8_readAll_2 10 rfl rfl)
theorem dX8_readAll_60 : decode cX8_readAll 60 = .ok (.aload_n 0, 1) := dk_42 (dk_at dksX8_readAll_2 13 rfl rfl)
theorem dX8_readAll_61 : decode cX8_readAll 61 = .ok (.iconst 0, 1) := dk_3 (dk_at dksX8_readAll_2 14 rfl rfl)
theorem dX8_readAll_62 : decode cX8_readAll 62 = .ok (.putfield 390, 3) := dk_181 1 134 (dk_at dksX8_readAll_2 15 rfl rfl)
theorem dX8_readAll_65 : decode cX8_readAll 65 = .ok (.aload_n 0, 1) := dk_42 (dk_at dksX8_readAll_2 18 rfl rfl)
theorem dX8_readAll_66 : decode cX8_readAll 66 = .ok (.iconst 0, 1) := dk_3 (dk_at dksX8_readAll_2 19 rfl rfl)
theorem dX8_readAll_67 : decode cX8_readAll 67 = .ok (.putfield 396, 3) := dk_181 1 140 (dk_at dksX8_readAll_2 20 rfl rfl)
theorem dX8_readAll_70 : decode cX8_readAll 70 = .ok (.aload_n 0, 1) := dk_42 (dk_at dksX8_readAll_2 23 rfl rfl)
theorem dX8_readAll_71 : decode cX8_readAll 71 = .ok (.iconst 0, 1) := dk_3 (dk_at dksX8_readAll_3 0 rfl rfl)
theorem dX8_readAll_72 : decode cX8_readAll 72 = .ok (.putfield 366, 3) := dk_181 1 110 (dk_at dksX8_readAll_3 1 rfl rfl)
theorem dX8_readAll_75 : decode cX8_readAll 75 = .ok (.aload_n 0, 1) := dk_42 (dk_at dksX8_readAll_3 4 rfl rfl)
theorem dX8_readAll_76 : decode cX8_readAll 76 = .ok (.iconst 0, 1) := dk_3 (dk_at dksX8_readAll_3 5 rfl rfl)
theorem dX8_readAll_77 : decode cX8_readAll 77 = .ok (.putfield 387, 3) := dk_181 1 131 (dk_at dksX8_readAll_3 6 rfl rfl)
theorem dX8_readAll_80 : decode cX8_readAll 80 = .ok (.aload_n 0, 1) := dk_42 (dk_at dksX8_readAll_3 9 rfl rfl)
theorem dX8_readAll_81 : decode cX8_readAll 81 = .ok (.iconst 0, 1) := dk_3 (dk_at dksX8_readAll_3 10 rfl rfl)
theorem dX8_readAll_82 : decode cX8_readAll 82 = .ok (.putfield 393, 3) := dk_181 1 137 (dk_at dksX8_readAll_3 11 rfl rfl)
theorem dX8_readAll_85 : decode cX8_readAll 85 = .ok (.aload_n 0, 1) := dk_42 (dk_at dksX8_readAll_3 14 rfl rfl)
theorem dX8_readAll_86 : decode cX8_readAll 86 = .ok (.iconst 0, 1) := dk_3 (dk_at dksX8_readAll_3 15 rfl rfl)
theorem dX8_readAll_87 : decode cX8_readAll 87 = .ok (.putfield 298, 3) := dk_181 1 42 (dk_at dksX8_readAll_3 16 rfl rfl)
theorem dX8_readAll_90 : decode cX8_readAll 90 = .ok (.aload_n 0, 1) := dk_42 (dk_at dksX8_readAll_3 19 rfl rfl)
theorem dX8_readAll_91 : decode cX8_readAll 91 = .ok (.iconst 0, 1) := dk_3 (dk_at dksX8_readAll_3 20 rfl rfl)
theorem dX8_readAll_92 : decode cX8_readAll 92 = .ok (.putfield 276, 3) := dk_181 1 20 (dk_at dksX8_readAll_3 21 rfl rfl)
theorem dX8_readAll_95 : decode cX8_readAll 95 = .ok (.iconst 0, 1) := dk_3 (dk_at dksX8_readAll_4 0 rfl rfl)
theorem dX8_readAll_96 : decode cX8_readAll 96 = .ok (.istore_n 1, 1) := dk_60 (dk_at dksX8_readAll_4 1 rfl rfl)
theorem dX8_readAll_97 : decode cX8_readAll 97 = .ok (.iload_n 1, 1) := dk_27 (dk_at dksX8_readAll_4 2 rfl rfl)
theorem dX8_readAll_98 : decode cX8_readAll 98 = .ok (.bipush 56, 2) := dk_16 56 (dk_at dksX8_readAll_4 3 rfl rfl)
theorem dX8_readAll_100 : decode cX8_readAll 100 = .ok (.if_icmp .ge 23, 3) := dk_162 0 23 (dk_at dksX8_readAll_4 5 rfl rfl)
theorem dX8_readAll_103 : decode cX8_readAll 103 = .ok (.aload_n 0, 1) := dk_42 (dk_at dksX8_readAll_4 8 rfl rfl)
theorem dX8_readAll_104 : decode cX8_readAll 104 = .ok (.getfield 42, 3) := dk_180 0 42 (dk_at dksX8_readAll_4 9 rfl rfl)
theorem dX8_readAll_107 : decode cX8_readAll 107 = .ok (.iload_n 1, 1) := dk_27 (dk_at dksX8_readAll_4 12 rfl rfl)
theorem dX8_readAll_108 : decode cX8_readAll 108 = .ok (.iconst (-1), 1) := dk_2 (dk_at dksX8_readAll_4 13 rfl rfl)
theorem dX8_readAll_109 : decode cX8_readAll 109 = .ok (.iastore, 1) := dk_79 (dk_at dksX8_readAll_4 14 rfl rfl)
theorem dX8_readAll_110 : decode cX8_readAll 110 = .ok (.aload_n 0, 1) := dk_42 (dk_at dksX8_readAll_4 15 rfl rfl)
theorem dX8_readAll_111 : decode cX8_readAll 111 = .ok (.getfield 45, 3) := dk_180 0 45 (dk_at dksX8_readAll_4 16 rfl rfl)
theorem dX8_readAll_114 : decode cX8_readAll 114 = .ok (.iload_n 1, 1) := dk_27 (dk_at dksX8_readAll_4 19 rfl rfl)
theorem dX8_readAll_115 : decode cX8_readAll 115 = .ok (.iconst (-1), 1) := dk_2 (dk_at dksX8_readAll_4 20 rfl rfl)
theorem dX8_readAll_116 : decode cX8_readAll 116 = .ok (.iastore, 1) := dk_79 (dk_at dksX8_readAll_4 21 rfl rfl)
theorem dX8_readAll_117 : decode cX8_readAll 117 = .ok (.iinc 1 1, 3) := dk_132 1 1 (dk_at dksX8_readAll_5 0 rfl rfl)
theorem dX8_readAll_120 : decode cX8_readAll 120 = .ok (.goto (-23), 3) := dk_167 255 233 (dk_at dksX8_readAll_5 3 rfl rfl)
theorem dX8_readAll_123 : decode cX8_readAll 123 = .ok (.aload_n 0, 1) := dk_42 (dk_at dksX8_readAll_5 6 rfl rfl)
theorem dX8_readAll_124 : decode cX8_readAll 124 = .ok (.invokevirtual 246, 3) := dk_182 0 246 (dk_at dksX8_readAll_5 7 rfl rfl)
theorem dX8_readAll_127 : decode cX8_readAll 127 = .ok (.aload_n 0, 1) := dk_42 (dk_at dksX8_readAll_5 10 rfl rfl)
theorem dX8_readAll_128 : decode cX8_readAll 128 = .ok (.getfield 194, 3) := dk_180 0 194 (dk_at dksX8_readAll_5 11 rfl rfl)
theorem dX8_readAll_131 : decode cX8_readAll 131 = .ok (.ifCond .ne 17, 3) := dk_154 0 17 (dk_at dksX8_readAll_5 14 rfl rfl)
theorem dX8_readAll_134 : decode cX8_readAll 134 = .ok (.aload_n 0, 1) := dk_42 (dk_at dksX8_readAll_5 17 rfl rfl)
theorem dX8_readAll_135 : decode cX8_readAll 135 = .ok (.getfield 181, 3) := dk_180 0 181 (dk_at dksX8_readAll_5 18 rfl rfl)
theorem dX8_readAll_138 : decode cX8_readAll 138 = .ok (.ifCond .eq 10, 3) := dk_153 0 10 (dk_at dksX8_readAll_5 21 rfl rfl)
theorem dX8_readAll_141 : decode cX8_readAll 141 = .ok (.aload_n 0, 1) := dk_42 (dk_at dksX8_readAll_6 0 rfl rfl)
theorem dX8_readAll_142 : decode cX8_readAll 142 = .ok (.invokevirtual 399, 3) := dk_182 1 143 (dk_at dksX8_readAll_6 1 rfl rfl)
theorem dX8_readAll_145 : decode cX8_readAll 145 = .ok (.goto (-18), 3) := dk_167 255 238 (dk_at dksX8_readAll_6 4 rfl rfl)
theorem dX8_readAll_148 : decode cX8_readAll 148 = .ok (.return_, 1) := dk_177 (dk_at dksX8_readAll_6 7 rfl rfl)
abbrev cX8_token : ByteArray := prog_20_method_9_code
def yX8_token : MethodName := ⟨RX8, "token", "()V"⟩
def dkwX8_token_10 : List UInt8 := [181, 0, 181, 42, 180, 0, 181, 6, 159, 0, 13, 42, 89, 180, 0, 161, 28, 96, 181, 0, 161, 177]
abbrev dktX8_token_10 : List UInt8 := dkwX8_token_10 ++ []
def dkwX8_token_9 : List UInt8 := [5, 181, 0, 181, 167, 0, 21, 4, 61, 42, 27, 184, 0, 191, 153, 0, 7, 27, 167, 0, 4, 6]
abbrev dktX8_token_9 : List UInt8 := dkwX8_token_9 ++ dktX8_token_10
def dkwX8_token_8 : List UInt8 := [167, 255, 217, 42, 28, 7, 163, 0, 14, 42, 28, 182, 0, 167, 184, 0, 184, 153, 0, 7, 6, 167, 0, 4]
abbrev dktX8_token_8 : List UInt8 := dkwX8_token_8 ++ dktX8_token_9
def dkwX8_token_7 : List UInt8 := [16, 10, 42, 180, 0, 178, 104, 42, 28, 182, 0, 167, 96, 16, 48, 100, 181, 0, 178, 132, 2, 1]
abbrev dktX8_token_7 : List UInt8 := dkwX8_token_7 ++ dktX8_token_8
def dkwX8_token_6 : List UInt8 := [184, 0, 188, 153, 0, 73, 42, 28, 182, 0, 167, 184, 0, 188, 153, 0, 34, 28, 7, 162, 0, 23, 42]
abbrev dktX8_token_6 : List UInt8 := dkwX8_token_6 ++ dktX8_token_7
def dkwX8_token_5 : List UInt8 := [167, 255, 218, 42, 28, 16, 8, 164, 0, 7, 6, 167, 0, 4, 4, 181, 0, 181, 167, 0, 98, 27]
abbrev dktX8_token_5 : List UInt8 := dkwX8_token_5 ++ dktX8_token_6
def dkwX8_token_4 : List UInt8 := [162, 0, 21, 42, 42, 180, 0, 174, 16, 8, 121, 42, 28, 182, 0, 167, 133, 129, 181, 0, 174, 132, 2, 1]
abbrev dktX8_token_4 : List UInt8 := dkwX8_token_4 ++ dktX8_token_5
def dkwX8_token_3 : List UInt8 := [167, 0, 164, 27, 184, 0, 184, 153, 0, 62, 42, 28, 182, 0, 167, 184, 0, 184, 153, 0, 33, 28, 16, 8]
abbrev dktX8_token_3 : List UInt8 := dkwX8_token_3 ++ dktX8_token_4
def dkwX8_token_2 : List UInt8 := [60, 3, 61, 42, 9, 181, 0, 174, 42, 3, 181, 0, 178, 27, 156, 0, 11, 42, 3, 181, 0, 181]
abbrev dktX8_token_2 : List UInt8 := dkwX8_token_2 ++ dktX8_token_3
def dkwX8_token_1 : List UInt8 := [180, 0, 161, 4, 96, 181, 0, 161, 167, 255, 226, 42, 42, 180, 0, 161, 181, 0, 171, 42, 3, 182, 0, 167]
abbrev dktX8_token_1 : List UInt8 := dkwX8_token_1 ++ dktX8_token_2
def dkwX8_token_0 : List UInt8 := [42, 3, 182, 0, 167, 16, 32, 159, 0, 13, 42, 3, 182, 0, 167, 16, 10, 160, 0, 16, 42, 89]
abbrev dktX8_token_0 : List UInt8 := dkwX8_token_0 ++ dktX8_token_1
theorem dksX8_token_0 : cX8_token.data.toList.drop 0 = dktX8_token_0 := by decide +kernel
theorem dksX8_token_1 : cX8_token.data.toList.drop 22 = dktX8_token_1 := dk_seg dksX8_token_0 22 rfl rfl
theorem dksX8_token_2 : cX8_token.data.toList.drop 46 = dktX8_token_2 := dk_seg dksX8_token_1 24 rfl rfl
theorem dksX8_token_3 : cX8_token.data.toList.drop 68 = dktX8_token_3 := dk_seg dksX8_token_2 22 rfl rfl
theorem dksX8_token_4 : cX8_token.data.toList.drop 92 = dktX8_token_4 := dk_seg dksX8_token_3 24 rfl rfl
theorem dksX8_token_5 : cX8_token.data.toList.drop 116 = dktX8_token_5 := dk_seg dksX8_token_4 24 rfl rfl
theorem dksX8_token_6 : cX8_token.data.toList.drop 138 = dktX8_token_6 := dk_seg dksX8_token_5 22 rfl rfl
theorem dksX8_token_7 : cX8_token.data.toList.drop 161 = dktX8_token_7 := dk_seg dksX8_token_6 23 rfl rfl
theorem dksX8_token_8 : cX8_token.data.toList.drop 183 = dktX8_token_8 := dk_seg dksX8_token_7 22 rfl rfl
theorem dksX8_token_9 : cX8_token.data.toList.drop 207 = dktX8_token_9 := dk_seg dksX8_token_8 24 rfl rfl
theorem dksX8_token_10 : cX8_token.data.toList.drop 229 = dktX8_token_10 := dk_seg dksX8_token_9 22 rfl rfl
theorem dX8_token_0 : decode cX8_token 0 = .ok (.aload_n 0, 1) := dk_42 (dk_at dksX8_token_0 0 rfl rfl)
theorem dX8_token_1 : decode cX8_token 1 = .ok (.iconst 0, 1) := dk_3 (dk_at dksX8_token_0 1 rfl rfl)
theorem dX8_token_2 : decode cX8_token 2 = .ok (.invokevirtual 167, 3) := dk_182 0 167 (dk_at dksX8_token_0 2 rfl rfl)
theorem dX8_token_5 : decode cX8_token 5 = .ok (.bipush 32, 2) := dk_16 32 (dk_at dksX8_token_0 5 rfl rfl)
theorem dX8_token_7 : decode cX8_token 7 = .ok (.if_icmp .eq 13, 3) := dk_159 0 13 (dk_at dksX8_token_0 7 rfl rfl)
theorem dX8_token_10 : decode cX8_token 10 = .ok (.aload_n 0, 1) := dk_42 (dk_at dksX8_token_0 10 rfl rfl)
theorem dX8_token_11 : decode cX8_token 11 = .ok (.iconst 0, 1) := dk_3 (dk_at dksX8_token_0 11 rfl rfl)
theorem dX8_token_12 : decode cX8_token 12 = .ok (.invokevirtual 167, 3) := dk_182 0 167 (dk_at dksX8_token_0 12 rfl rfl)
theorem dX8_token_15 : decode cX8_token 15 = .ok (.bipush 10, 2) := dk_16 10 (dk_at dksX8_token_0 15 rfl rfl)
theorem dX8_token_17 : decode cX8_token 17 = .ok (.if_icmp .ne 16, 3) := dk_160 0 16 (dk_at dksX8_token_0 17 rfl rfl)
theorem dX8_token_20 : decode cX8_token 20 = .ok (.aload_n 0, 1) := dk_42 (dk_at dksX8_token_0 20 rfl rfl)
theorem dX8_token_21 : decode cX8_token 21 = .ok (.dup, 1) := dk_89 (dk_at dksX8_token_0 21 rfl rfl)
theorem dX8_token_22 : decode cX8_token 22 = .ok (.getfield 161, 3) := dk_180 0 161 (dk_at dksX8_token_1 0 rfl rfl)
theorem dX8_token_25 : decode cX8_token 25 = .ok (.iconst 1, 1) := dk_4 (dk_at dksX8_token_1 3 rfl rfl)
theorem dX8_token_26 : decode cX8_token 26 = .ok (.iadd, 1) := dk_96 (dk_at dksX8_token_1 4 rfl rfl)
theorem dX8_token_27 : decode cX8_token 27 = .ok (.putfield 161, 3) := dk_181 0 161 (dk_at dksX8_token_1 5 rfl rfl)
theorem dX8_token_30 : decode cX8_token 30 = .ok (.goto (-30), 3) := dk_167 255 226 (dk_at dksX8_token_1 8 rfl rfl)
theorem dX8_token_33 : decode cX8_token 33 = .ok (.aload_n 0, 1) := dk_42 (dk_at dksX8_token_1 11 rfl rfl)
theorem dX8_token_34 : decode cX8_token 34 = .ok (.aload_n 0, 1) := dk_42 (dk_at dksX8_token_1 12 rfl rfl)
theorem dX8_token_35 : decode cX8_token 35 = .ok (.getfield 161, 3) := dk_180 0 161 (dk_at dksX8_token_1 13 rfl rfl)
theorem dX8_token_38 : decode cX8_token 38 = .ok (.putfield 171, 3) := dk_181 0 171 (dk_at dksX8_token_1 16 rfl rfl)
theorem dX8_token_41 : decode cX8_token 41 = .ok (.aload_n 0, 1) := dk_42 (dk_at dksX8_token_1 19 rfl rfl)
theorem dX8_token_42 : decode cX8_token 42 = .ok (.iconst 0, 1) := dk_3 (dk_at dksX8_token_1 20 rfl rfl)
theorem dX8_token_43 : decode cX8_token 43 = .ok (.invokevirtual 167, 3) := dk_182 0 167 (dk_at dksX8_token_1 21 rfl rfl)
theorem dX8_token_46 : decode cX8_token 46 = .ok (.istore_n 1, 1) := dk_60 (dk_at dksX8_token_2 0 rfl rfl)
theorem dX8_token_47 : decode cX8_token 47 = .ok (.iconst 0, 1) := dk_3 (dk_at dksX8_token_2 1 rfl rfl)
theorem dX8_token_48 : decode cX8_token 48 = .ok (.istore_n 2, 1) := dk_61 (dk_at dksX8_token_2 2 rfl rfl)
theorem dX8_token_49 : decode cX8_token 49 = .ok (.aload_n 0, 1) := dk_42 (dk_at dksX8_token_2 3 rfl rfl)
theorem dX8_token_50 : decode cX8_token 50 = .ok (.lconst 0, 1) := dk_9 (dk_at dksX8_token_2 4 rfl rfl)
theorem dX8_token_51 : decode cX8_token 51 = .ok (.putfield 174, 3) := dk_181 0 174 (dk_at dksX8_token_2 5 rfl rfl)
theorem dX8_token_54 : decode cX8_token 54 = .ok (.aload_n 0, 1) := dk_42 (dk_at dksX8_token_2 8 rfl rfl)
theorem dX8_token_55 : decode cX8_token 55 = .ok (.iconst 0, 1) := dk_3 (dk_at dksX8_token_2 9 rfl rfl)
theorem dX8_token_56 : decode cX8_token 56 = .ok (.putfield 178, 3) := dk_181 0 178 (dk_at dksX8_token_2 10 rfl rfl)
theorem dX8_token_59 : decode cX8_token 59 = .ok (.iload_n 1, 1) := dk_27 (dk_at dksX8_token_2 13 rfl rfl)
theorem dX8_token_60 : decode cX8_token 60 = .ok (.ifCond .ge 11, 3) := dk_156 0 11 (dk_at dksX8_token_2 14 rfl rfl)
theorem dX8_token_63 : decode cX8_token 63 = .ok (.aload_n 0, 1) := dk_42 (dk_at dksX8_token_2 17 rfl rfl)
theorem dX8_token_64 : decode cX8_token 64 = .ok (.iconst 0, 1) := dk_3 (dk_at dksX8_token_2 18 rfl rfl)
theorem dX8_token_65 : decode cX8_token 65 = .ok (.putfield 181, 3) := dk_181 0 181 (dk_at dksX8_token_2 19 rfl rfl)
theorem dX8_token_68 : decode cX8_token 68 = .ok (.goto 164, 3) := dk_167 0 164 (dk_at dksX8_token_3 0 rfl rfl)
theorem dX8_token_71 : decode cX8_token 71 = .ok (.iload_n 1, 1) := dk_27 (dk_at dksX8_token_3 3 rfl rfl)
theorem dX8_token_72 : decode cX8_token 72 = .ok (.invokestatic 184, 3) := dk_184 0 184 (dk_at dksX8_token_3 4 rfl rfl)
theorem dX8_token_75 : decode cX8_token 75 = .ok (.ifCond .eq 62, 3) := dk_153 0 62 (dk_at dksX8_token_3 7 rfl rfl)
theorem dX8_token_78 : decode cX8_token 78 = .ok (.aload_n 0, 1) := dk_42 (dk_at dksX8_token_3 10 rfl rfl)
theorem dX8_token_79 : decode cX8_token 79 = .ok (.iload_n 2, 1) := dk_28 (dk_at dksX8_token_3 11 rfl rfl)
theorem dX8_token_80 : decode cX8_token 80 = .ok (.invokevirtual 167, 3) := dk_182 0 167 (dk_at dksX8_token_3 12 rfl rfl)
theorem dX8_token_83 : decode cX8_token 83 = .ok (.invokestatic 184, 3) := dk_184 0 184 (dk_at dksX8_token_3 15 rfl rfl)
theorem dX8_token_86 : decode cX8_token 86 = .ok (.ifCond .eq 33, 3) := dk_153 0 33 (dk_at dksX8_token_3 18 rfl rfl)
theorem dX8_token_89 : decode cX8_token 89 = .ok (.iload_n 2, 1) := dk_28 (dk_at dksX8_token_3 21 rfl rfl)
theorem dX8_token_90 : decode cX8_token 90 = .ok (.bipush 8, 2) := dk_16 8 (dk_at dksX8_token_3 22 rfl rfl)
theorem dX8_token_92 : decode cX8_token 92 = .ok (.if_icmp .ge 21, 3) := dk_162 0 21 (dk_at dksX8_token_4 0 rfl rfl)
theorem dX8_token_95 : decode cX8_token 95 = .ok (.aload_n 0, 1) := dk_42 (dk_at dksX8_token_4 3 rfl rfl)
theorem dX8_token_96 : decode cX8_token 96 = .ok (.aload_n 0, 1) := dk_42 (dk_at dksX8_token_4 4 rfl rfl)
theorem dX8_token_97 : decode cX8_token 97 = .ok (.getfield 174, 3) := dk_180 0 174 (dk_at dksX8_token_4 5 rfl rfl)
theorem dX8_token_100 : decode cX8_token 100 = .ok (.bipush 8, 2) := dk_16 8 (dk_at dksX8_token_4 8 rfl rfl)
theorem dX8_token_102 : decode cX8_token 102 = .ok (.lshl, 1) := dk_121 (dk_at dksX8_token_4 10 rfl rfl)
theorem dX8_token_103 : decode cX8_token 103 = .ok (.aload_n 0, 1) := dk_42 (dk_at dksX8_token_4 11 rfl rfl)
theorem dX8_token_104 : decode cX8_token 104 = .ok (.iload_n 2, 1) := dk_28 (dk_at dksX8_token_4 12 rfl rfl)
theorem dX8_token_105 : decode cX8_token 105 = .ok (.invokevirtual 167, 3) := dk_182 0 167 (dk_at dksX8_token_4 13 rfl rfl)
theorem dX8_token_108 : decode cX8_token 108 = .ok (.i2l, 1) := dk_133 (dk_at dksX8_token_4 16 rfl rfl)
theorem dX8_token_109 : decode cX8_token 109 = .ok (.lor, 1) := dk_129 (dk_at dksX8_token_4 17 rfl rfl)
theorem dX8_token_110 : decode cX8_token 110 = .ok (.putfield 174, 3) := dk_181 0 174 (dk_at dksX8_token_4 18 rfl rfl)
theorem dX8_token_113 : decode cX8_token 113 = .ok (.iinc 2 1, 3) := dk_132 2 1 (dk_at dksX8_token_4 21 rfl rfl)
theorem dX8_token_116 : decode cX8_token 116 = .ok (.goto (-38), 3) := dk_167 255 218 (dk_at dksX8_token_5 0 rfl rfl)
theorem dX8_token_119 : decode cX8_token 119 = .ok (.aload_n 0, 1) := dk_42 (dk_at dksX8_token_5 3 rfl rfl)
theorem dX8_token_120 : decode cX8_token 120 = .ok (.iload_n 2, 1) := dk_28 (dk_at dksX8_token_5 4 rfl rfl)
theorem dX8_token_121 : decode cX8_token 121 = .ok (.bipush 8, 2) := dk_16 8 (dk_at dksX8_token_5 5 rfl rfl)
theorem dX8_token_123 : decode cX8_token 123 = .ok (.if_icmp .le 7, 3) := dk_164 0 7 (dk_at dksX8_token_5 7 rfl rfl)
theorem dX8_token_126 : decode cX8_token 126 = .ok (.iconst 3, 1) := dk_6 (dk_at dksX8_token_5 10 rfl rfl)
theorem dX8_token_127 : decode cX8_token 127 = .ok (.goto 4, 3) := dk_167 0 4 (dk_at dksX8_token_5 11 rfl rfl)
theorem dX8_token_130 : decode cX8_token 130 = .ok (.iconst 1, 1) := dk_4 (dk_at dksX8_token_5 14 rfl rfl)
theorem dX8_token_131 : decode cX8_token 131 = .ok (.putfield 181, 3) := dk_181 0 181 (dk_at dksX8_token_5 15 rfl rfl)
theorem dX8_token_134 : decode cX8_token 134 = .ok (.goto 98, 3) := dk_167 0 98 (dk_at dksX8_token_5 18 rfl rfl)
theorem dX8_token_137 : decode cX8_token 137 = .ok (.iload_n 1, 1) := dk_27 (dk_at dksX8_token_5 21 rfl rfl)
theorem dX8_token_138 : decode cX8_token 138 = .ok (.invokestatic 188, 3) := dk_184 0 188 (dk_at dksX8_token_6 0 rfl rfl)
theorem dX8_token_141 : decode cX8_token 141 = .ok (.ifCond .eq 73, 3) := dk_153 0 73 (dk_at dksX8_token_6 3 rfl rfl)
theorem dX8_token_144 : decode cX8_token 144 = .ok (.aload_n 0, 1) := dk_42 (dk_at dksX8_token_6 6 rfl rfl)
theorem dX8_token_145 : decode cX8_token 145 = .ok (.iload_n 2, 1) := dk_28 (dk_at dksX8_token_6 7 rfl rfl)
theorem dX8_token_146 : decode cX8_token 146 = .ok (.invokevirtual 167, 3) := dk_182 0 167 (dk_at dksX8_token_6 8 rfl rfl)
theorem dX8_token_149 : decode cX8_token 149 = .ok (.invokestatic 188, 3) := dk_184 0 188 (dk_at dksX8_token_6 11 rfl rfl)
theorem dX8_token_152 : decode cX8_token 152 = .ok (.ifCond .eq 34, 3) := dk_153 0 34 (dk_at dksX8_token_6 14 rfl rfl)
theorem dX8_token_155 : decode cX8_token 155 = .ok (.iload_n 2, 1) := dk_28 (dk_at dksX8_token_6 17 rfl rfl)
theorem dX8_token_156 : decode cX8_token 156 = .ok (.iconst 4, 1) := dk_7 (dk_at dksX8_token_6 18 rfl rfl)
theorem dX8_token_157 : decode cX8_token 157 = .ok (.if_icmp .ge 23, 3) := dk_162 0 23 (dk_at dksX8_token_6 19 rfl rfl)
theorem dX8_token_160 : decode cX8_token 160 = .ok (.aload_n 0, 1) := dk_42 (dk_at dksX8_token_6 22 rfl rfl)
theorem dX8_token_161 : decode cX8_token 161 = .ok (.bipush 10, 2) := dk_16 10 (dk_at dksX8_token_7 0 rfl rfl)
theorem dX8_token_163 : decode cX8_token 163 = .ok (.aload_n 0, 1) := dk_42 (dk_at dksX8_token_7 2 rfl rfl)
theorem dX8_token_164 : decode cX8_token 164 = .ok (.getfield 178, 3) := dk_180 0 178 (dk_at dksX8_token_7 3 rfl rfl)
theorem dX8_token_167 : decode cX8_token 167 = .ok (.imul, 1) := dk_104 (dk_at dksX8_token_7 6 rfl rfl)
theorem dX8_token_168 : decode cX8_token 168 = .ok (.aload_n 0, 1) := dk_42 (dk_at dksX8_token_7 7 rfl rfl)
theorem dX8_token_169 : decode cX8_token 169 = .ok (.iload_n 2, 1) := dk_28 (dk_at dksX8_token_7 8 rfl rfl)
theorem dX8_token_170 : decode cX8_token 170 = .ok (.invokevirtual 167, 3) := dk_182 0 167 (dk_at dksX8_token_7 9 rfl rfl)
theorem dX8_token_173 : decode cX8_token 173 = .ok (.iadd, 1) := dk_96 (dk_at dksX8_token_7 12 rfl rfl)
theorem dX8_token_174 : decode cX8_token 174 = .ok (.bipush 48, 2) := dk_16 48 (dk_at dksX8_token_7 13 rfl rfl)
theorem dX8_token_176 : decode cX8_token 176 = .ok (.isub, 1) := dk_100 (dk_at dksX8_token_7 15 rfl rfl)
theorem dX8_token_177 : decode cX8_token 177 = .ok (.putfield 178, 3) := dk_181 0 178 (dk_at dksX8_token_7 16 rfl rfl)
theorem dX8_token_180 : decode cX8_token 180 = .ok (.iinc 2 1, 3) := dk_132 2 1 (dk_at dksX8_token_7 19 rfl rfl)
theorem dX8_token_183 : decode cX8_token 183 = .ok (.goto (-39), 3) := dk_167 255 217 (dk_at dksX8_token_8 0 rfl rfl)
theorem dX8_token_186 : decode cX8_token 186 = .ok (.aload_n 0, 1) := dk_42 (dk_at dksX8_token_8 3 rfl rfl)
theorem dX8_token_187 : decode cX8_token 187 = .ok (.iload_n 2, 1) := dk_28 (dk_at dksX8_token_8 4 rfl rfl)
theorem dX8_token_188 : decode cX8_token 188 = .ok (.iconst 4, 1) := dk_7 (dk_at dksX8_token_8 5 rfl rfl)
theorem dX8_token_189 : decode cX8_token 189 = .ok (.if_icmp .gt 14, 3) := dk_163 0 14 (dk_at dksX8_token_8 6 rfl rfl)
theorem dX8_token_192 : decode cX8_token 192 = .ok (.aload_n 0, 1) := dk_42 (dk_at dksX8_token_8 9 rfl rfl)
theorem dX8_token_193 : decode cX8_token 193 = .ok (.iload_n 2, 1) := dk_28 (dk_at dksX8_token_8 10 rfl rfl)
theorem dX8_token_194 : decode cX8_token 194 = .ok (.invokevirtual 167, 3) := dk_182 0 167 (dk_at dksX8_token_8 11 rfl rfl)
theorem dX8_token_197 : decode cX8_token 197 = .ok (.invokestatic 184, 3) := dk_184 0 184 (dk_at dksX8_token_8 14 rfl rfl)
theorem dX8_token_200 : decode cX8_token 200 = .ok (.ifCond .eq 7, 3) := dk_153 0 7 (dk_at dksX8_token_8 17 rfl rfl)
theorem dX8_token_203 : decode cX8_token 203 = .ok (.iconst 3, 1) := dk_6 (dk_at dksX8_token_8 20 rfl rfl)
theorem dX8_token_204 : decode cX8_token 204 = .ok (.goto 4, 3) := dk_167 0 4 (dk_at dksX8_token_8 21 rfl rfl)
theorem dX8_token_207 : decode cX8_token 207 = .ok (.iconst 2, 1) := dk_5 (dk_at dksX8_token_9 0 rfl rfl)
theorem dX8_token_208 : decode cX8_token 208 = .ok (.putfield 181, 3) := dk_181 0 181 (dk_at dksX8_token_9 1 rfl rfl)
theorem dX8_token_211 : decode cX8_token 211 = .ok (.goto 21, 3) := dk_167 0 21 (dk_at dksX8_token_9 4 rfl rfl)
theorem dX8_token_214 : decode cX8_token 214 = .ok (.iconst 1, 1) := dk_4 (dk_at dksX8_token_9 7 rfl rfl)
theorem dX8_token_215 : decode cX8_token 215 = .ok (.istore_n 2, 1) := dk_61 (dk_at dksX8_token_9 8 rfl rfl)
theorem dX8_token_216 : decode cX8_token 216 = .ok (.aload_n 0, 1) := dk_42 (dk_at dksX8_token_9 9 rfl rfl)
theorem dX8_token_217 : decode cX8_token 217 = .ok (.iload_n 1, 1) := dk_27 (dk_at dksX8_token_9 10 rfl rfl)
theorem dX8_token_218 : decode cX8_token 218 = .ok (.invokestatic 191, 3) := dk_184 0 191 (dk_at dksX8_token_9 11 rfl rfl)
theorem dX8_token_221 : decode cX8_token 221 = .ok (.ifCond .eq 7, 3) := dk_153 0 7 (dk_at dksX8_token_9 14 rfl rfl)
theorem dX8_token_224 : decode cX8_token 224 = .ok (.iload_n 1, 1) := dk_27 (dk_at dksX8_token_9 17 rfl rfl)
theorem dX8_token_225 : decode cX8_token 225 = .ok (.goto 4, 3) := dk_167 0 4 (dk_at dksX8_token_9 18 rfl rfl)
theorem dX8_token_228 : decode cX8_token 228 = .ok (.iconst 3, 1) := dk_6 (dk_at dksX8_token_9 21 rfl rfl)
theorem dX8_token_229 : decode cX8_token 229 = .ok (.putfield 181, 3) := dk_181 0 181 (dk_at dksX8_token_10 0 rfl rfl)
theorem dX8_token_232 : decode cX8_token 232 = .ok (.aload_n 0, 1) := dk_42 (dk_at dksX8_token_10 3 rfl rfl)
theorem dX8_token_233 : decode cX8_token 233 = .ok (.getfield 181, 3) := dk_180 0 181 (dk_at dksX8_token_10 4 rfl rfl)
theorem dX8_token_236 : decode cX8_token 236 = .ok (.iconst 3, 1) := dk_6 (dk_at dksX8_token_10 7 rfl rfl)
theorem dX8_token_237 : decode cX8_token 237 = .ok (.if_icmp .eq 13, 3) := dk_159 0 13 (dk_at dksX8_token_10 8 rfl rfl)
theorem dX8_token_240 : decode cX8_token 240 = .ok (.aload_n 0, 1) := dk_42 (dk_at dksX8_token_10 11 rfl rfl)
theorem dX8_token_241 : decode cX8_token 241 = .ok (.dup, 1) := dk_89 (dk_at dksX8_token_10 12 rfl rfl)
theorem dX8_token_242 : decode cX8_token 242 = .ok (.getfield 161, 3) := dk_180 0 161 (dk_at dksX8_token_10 13 rfl rfl)
theorem dX8_token_245 : decode cX8_token 245 = .ok (.iload_n 2, 1) := dk_28 (dk_at dksX8_token_10 16 rfl rfl)
theorem dX8_token_246 : decode cX8_token 246 = .ok (.iadd, 1) := dk_96 (dk_at dksX8_token_10 17 rfl rfl)
theorem dX8_token_247 : decode cX8_token 247 = .ok (.putfield 161, 3) := dk_181 0 161 (dk_at dksX8_token_10 18 rfl rfl)
theorem dX8_token_250 : decode cX8_token 250 = .ok (.return_, 1) := dk_177 (dk_at dksX8_token_10 21 rfl rfl)
abbrev cX8_here : ByteArray := prog_20_method_5_code
def yX8_here : MethodName := ⟨RX8, "here", "(I)I"⟩
def dkwX8_here_1 : List UInt8 := [167, 0, 4, 2, 172]
abbrev dktX8_here_1 : List UInt8 := dkwX8_here_1 ++ []
def dkwX8_here_0 : List UInt8 := [42, 180, 0, 161, 27, 96, 42, 180, 0, 164, 162, 0, 17, 42, 180, 0, 7, 42, 180, 0, 161, 27, 96, 46]
abbrev dktX8_here_0 : List UInt8 := dkwX8_here_0 ++ dktX8_here_1
theorem dksX8_here_0 : cX8_here.data.toList.drop 0 = dktX8_here_0 := by decide +kernel
theorem dksX8_here_1 : cX8_here.data.toList.drop 24 = dktX8_here_1 := dk_seg dksX8_here_0 24 rfl rfl
theorem dX8_here_0 : decode cX8_here 0 = .ok (.aload_n 0, 1) := dk_42 (dk_at dksX8_here_0 0 rfl rfl)
theorem dX8_here_1 : decode cX8_here 1 = .ok (.getfield 161, 3) := dk_180 0 161 (dk_at dksX8_here_0 1 rfl rfl)
theorem dX8_here_4 : decode cX8_here 4 = .ok (.iload_n 1, 1) := dk_27 (dk_at dksX8_here_0 4 rfl rfl)
theorem dX8_here_5 : decode cX8_here 5 = .ok (.iadd, 1) := dk_96 (dk_at dksX8_here_0 5 rfl rfl)
theorem dX8_here_6 : decode cX8_here 6 = .ok (.aload_n 0, 1) := dk_42 (dk_at dksX8_here_0 6 rfl rfl)
theorem dX8_here_7 : decode cX8_here 7 = .ok (.getfield 164, 3) := dk_180 0 164 (dk_at dksX8_here_0 7 rfl rfl)
theorem dX8_here_10 : decode cX8_here 10 = .ok (.if_icmp .ge 17, 3) := dk_162 0 17 (dk_at dksX8_here_0 10 rfl rfl)
theorem dX8_here_13 : decode cX8_here 13 = .ok (.aload_n 0, 1) := dk_42 (dk_at dksX8_here_0 13 rfl rfl)
theorem dX8_here_14 : decode cX8_here 14 = .ok (.getfield 7, 3) := dk_180 0 7 (dk_at dksX8_here_0 14 rfl rfl)
theorem dX8_here_17 : decode cX8_here 17 = .ok (.aload_n 0, 1) := dk_42 (dk_at dksX8_here_0 17 rfl rfl)
theorem dX8_here_18 : decode cX8_here 18 = .ok (.getfield 161, 3) := dk_180 0 161 (dk_at dksX8_here_0 18 rfl rfl)
theorem dX8_here_21 : decode cX8_here 21 = .ok (.iload_n 1, 1) := dk_27 (dk_at dksX8_here_0 21 rfl rfl)
theorem dX8_here_22 : decode cX8_here 22 = .ok (.iadd, 1) := dk_96 (dk_at dksX8_here_0 22 rfl rfl)
theorem dX8_here_23 : decode cX8_here 23 = .ok (.iaload, 1) := dk_46 (dk_at dksX8_here_0 23 rfl rfl)
theorem dX8_here_24 : decode cX8_here 24 = .ok (.goto 4, 3) := dk_167 0 4 (dk_at dksX8_here_1 0 rfl rfl)
theorem dX8_here_27 : decode cX8_here 27 = .ok (.iconst (-1), 1) := dk_2 (dk_at dksX8_here_1 3 rfl rfl)
theorem dX8_here_28 : decode cX8_here 28 = .ok (.ireturn, 1) := dk_172 (dk_at dksX8_here_1 4 rfl rfl)
abbrev cX8_isLetter : ByteArray := prog_20_method_6_code
def yX8_isLetter : MethodName := ⟨RX8, "isLette\x72", "(I)Z"⟩
def dkwX8_isLetter_0 : List UInt8 := [26, 16, 97, 161, 0, 13, 26, 16, 122, 163, 0, 7, 4, 167, 0, 4, 3, 172]
abbrev dktX8_isLetter_0 : List UInt8 := dkwX8_isLetter_0 ++ []
theorem dksX8_isLetter_0 : cX8_isLetter.data.toList.drop 0 = dktX8_isLetter_0 := by decide +kernel
theorem dX8_isLetter_0 : decode cX8_isLetter 0 = .ok (.iload_n 0, 1) := dk_26 (dk_at dksX8_isLetter_0 0 rfl rfl)
theorem dX8_isLetter_1 : decode cX8_isLetter 1 = .ok (.bipush 97, 2) := dk_16 97 (dk_at dksX8_isLetter_0 1 rfl rfl)
theorem dX8_isLetter_3 : decode cX8_isLetter 3 = .ok (.if_icmp .lt 13, 3) := dk_161 0 13 (dk_at dksX8_isLetter_0 3 rfl rfl)
theorem dX8_isLetter_6 : decode cX8_isLetter 6 = .ok (.iload_n 0, 1) := dk_26 (dk_at dksX8_isLetter_0 6 rfl rfl)
theorem dX8_isLetter_7 : decode cX8_isLetter 7 = .ok (.bipush 122, 2) := dk_16 122 (dk_at dksX8_isLetter_0 7 rfl rfl)
theorem dX8_isLetter_9 : decode cX8_isLetter 9 = .ok (.if_icmp .gt 7, 3) := dk_163 0 7 (dk_at dksX8_isLetter_0 9 rfl rfl)
theorem dX8_isLetter_12 : decode cX8_isLetter 12 = .ok (.iconst 1, 1) := dk_4 (dk_at dksX8_isLetter_0 12 rfl rfl)
theorem dX8_isLetter_13 : decode cX8_isLetter 13 = .ok (.goto 4, 3) := dk_167 0 4 (dk_at dksX8_isLetter_0 13 rfl rfl)
theorem dX8_isLetter_16 : decode cX8_isLetter 16 = .ok (.iconst 0, 1) := dk_3 (dk_at dksX8_isLetter_0 16 rfl rfl)
theorem dX8_isLetter_17 : decode cX8_isLetter 17 = .ok (.ireturn, 1) := dk_172 (dk_at dksX8_isLetter_0 17 rfl rfl)
abbrev cX8_isDigit : ByteArray := prog_20_method_7_code
def yX8_isDigit : MethodName := ⟨RX8, "isDigit", "(I)Z"⟩
def dkwX8_isDigit_0 : List UInt8 := [26, 16, 48, 161, 0, 13, 26, 16, 57, 163, 0, 7, 4, 167, 0, 4, 3, 172]
abbrev dktX8_isDigit_0 : List UInt8 := dkwX8_isDigit_0 ++ []
theorem dksX8_isDigit_0 : cX8_isDigit.data.toList.drop 0 = dktX8_isDigit_0 := by decide +kernel
theorem dX8_isDigit_0 : decode cX8_isDigit 0 = .ok (.iload_n 0, 1) := dk_26 (dk_at dksX8_isDigit_0 0 rfl rfl)
theorem dX8_isDigit_1 : decode cX8_isDigit 1 = .ok (.bipush 48, 2) := dk_16 48 (dk_at dksX8_isDigit_0 1 rfl rfl)
theorem dX8_isDigit_3 : decode cX8_isDigit 3 = .ok (.if_icmp .lt 13, 3) := dk_161 0 13 (dk_at dksX8_isDigit_0 3 rfl rfl)
theorem dX8_isDigit_6 : decode cX8_isDigit 6 = .ok (.iload_n 0, 1) := dk_26 (dk_at dksX8_isDigit_0 6 rfl rfl)
theorem dX8_isDigit_7 : decode cX8_isDigit 7 = .ok (.bipush 57, 2) := dk_16 57 (dk_at dksX8_isDigit_0 7 rfl rfl)
theorem dX8_isDigit_9 : decode cX8_isDigit 9 = .ok (.if_icmp .gt 7, 3) := dk_163 0 7 (dk_at dksX8_isDigit_0 9 rfl rfl)
theorem dX8_isDigit_12 : decode cX8_isDigit 12 = .ok (.iconst 1, 1) := dk_4 (dk_at dksX8_isDigit_0 12 rfl rfl)
theorem dX8_isDigit_13 : decode cX8_isDigit 13 = .ok (.goto 4, 3) := dk_167 0 4 (dk_at dksX8_isDigit_0 13 rfl rfl)
theorem dX8_isDigit_16 : decode cX8_isDigit 16 = .ok (.iconst 0, 1) := dk_3 (dk_at dksX8_isDigit_0 16 rfl rfl)
theorem dX8_isDigit_17 : decode cX8_isDigit 17 = .ok (.ireturn, 1) := dk_172 (dk_at dksX8_isDigit_0 17 rfl rfl)
abbrev cX8_isSign : ByteArray := prog_20_method_8_code
def yX8_isSign : MethodName := ⟨RX8, "isSign", "(I)Z"⟩
def dkwX8_isSign_2 : List UInt8 := [26, 16, 42, 159, 0, 15, 26, 16, 47, 159, 0, 9, 26, 16, 37, 160, 0, 7, 4, 167, 0, 4, 3, 172]
abbrev dktX8_isSign_2 : List UInt8 := dkwX8_isSign_2 ++ []
def dkwX8_isSign_1 : List UInt8 := [26, 16, 62, 159, 0, 39, 26, 16, 61, 159, 0, 33, 26, 16, 43, 159, 0, 27, 26, 16, 45, 159, 0, 21]
abbrev dktX8_isSign_1 : List UInt8 := dkwX8_isSign_1 ++ dktX8_isSign_2
def dkwX8_isSign_0 : List UInt8 := [26, 16, 59, 159, 0, 63, 26, 16, 40, 159, 0, 57, 26, 16, 41, 159, 0, 51, 26, 16, 60, 159, 0, 45]
abbrev dktX8_isSign_0 : List UInt8 := dkwX8_isSign_0 ++ dktX8_isSign_1
theorem dksX8_isSign_0 : cX8_isSign.data.toList.drop 0 = dktX8_isSign_0 := by decide +kernel
theorem dksX8_isSign_1 : cX8_isSign.data.toList.drop 24 = dktX8_isSign_1 := dk_seg dksX8_isSign_0 24 rfl rfl
theorem dksX8_isSign_2 : cX8_isSign.data.toList.drop 48 = dktX8_isSign_2 := dk_seg dksX8_isSign_1 24 rfl rfl
theorem dX8_isSign_0 : decode cX8_isSign 0 = .ok (.iload_n 0, 1) := dk_26 (dk_at dksX8_isSign_0 0 rfl rfl)
theorem dX8_isSign_1 : decode cX8_isSign 1 = .ok (.bipush 59, 2) := dk_16 59 (dk_at dksX8_isSign_0 1 rfl rfl)
theorem dX8_isSign_3 : decode cX8_isSign 3 = .ok (.if_icmp .eq 63, 3) := dk_159 0 63 (dk_at dksX8_isSign_0 3 rfl rfl)
theorem dX8_isSign_6 : decode cX8_isSign 6 = .ok (.iload_n 0, 1) := dk_26 (dk_at dksX8_isSign_0 6 rfl rfl)
theorem dX8_isSign_7 : decode cX8_isSign 7 = .ok (.bipush 40, 2) := dk_16 40 (dk_at dksX8_isSign_0 7 rfl rfl)
theorem dX8_isSign_9 : decode cX8_isSign 9 = .ok (.if_icmp .eq 57, 3) := dk_159 0 57 (dk_at dksX8_isSign_0 9 rfl rfl)
theorem dX8_isSign_12 : decode cX8_isSign 12 = .ok (.iload_n 0, 1) := dk_26 (dk_at dksX8_isSign_0 12 rfl rfl)
theorem dX8_isSign_13 : decode cX8_isSign 13 = .ok (.bipush 41, 2) := dk_16 41 (dk_at dksX8_isSign_0 13 rfl rfl)
theorem dX8_isSign_15 : decode cX8_isSign 15 = .ok (.if_icmp .eq 51, 3) := dk_159 0 51 (dk_at dksX8_isSign_0 15 rfl rfl)
theorem dX8_isSign_18 : decode cX8_isSign 18 = .ok (.iload_n 0, 1) := dk_26 (dk_at dksX8_isSign_0 18 rfl rfl)
theorem dX8_isSign_19 : decode cX8_isSign 19 = .ok (.bipush 60, 2) := dk_16 60 (dk_at dksX8_isSign_0 19 rfl rfl)
theorem dX8_isSign_21 : decode cX8_isSign 21 = .ok (.if_icmp .eq 45, 3) := dk_159 0 45 (dk_at dksX8_isSign_0 21 rfl rfl)
theorem dX8_isSign_24 : decode cX8_isSign 24 = .ok (.iload_n 0, 1) := dk_26 (dk_at dksX8_isSign_1 0 rfl rfl)
theorem dX8_isSign_25 : decode cX8_isSign 25 = .ok (.bipush 62, 2) := dk_16 62 (dk_at dksX8_isSign_1 1 rfl rfl)
theorem dX8_isSign_27 : decode cX8_isSign 27 = .ok (.if_icmp .eq 39, 3) := dk_159 0 39 (dk_at dksX8_isSign_1 3 rfl rfl)
theorem dX8_isSign_30 : decode cX8_isSign 30 = .ok (.iload_n 0, 1) := dk_26 (dk_at dksX8_isSign_1 6 rfl rfl)
theorem dX8_isSign_31 : decode cX8_isSign 31 = .ok (.bipush 61, 2) := dk_16 61 (dk_at dksX8_isSign_1 7 rfl rfl)
theorem dX8_isSign_33 : decode cX8_isSign 33 = .ok (.if_icmp .eq 33, 3) := dk_159 0 33 (dk_at dksX8_isSign_1 9 rfl rfl)
theorem dX8_isSign_36 : decode cX8_isSign 36 = .ok (.iload_n 0, 1) := dk_26 (dk_at dksX8_isSign_1 12 rfl rfl)
theorem dX8_isSign_37 : decode cX8_isSign 37 = .ok (.bipush 43, 2) := dk_16 43 (dk_at dksX8_isSign_1 13 rfl rfl)
theorem dX8_isSign_39 : decode cX8_isSign 39 = .ok (.if_icmp .eq 27, 3) := dk_159 0 27 (dk_at dksX8_isSign_1 15 rfl rfl)
theorem dX8_isSign_42 : decode cX8_isSign 42 = .ok (.iload_n 0, 1) := dk_26 (dk_at dksX8_isSign_1 18 rfl rfl)
theorem dX8_isSign_43 : decode cX8_isSign 43 = .ok (.bipush 45, 2) := dk_16 45 (dk_at dksX8_isSign_1 19 rfl rfl)
theorem dX8_isSign_45 : decode cX8_isSign 45 = .ok (.if_icmp .eq 21, 3) := dk_159 0 21 (dk_at dksX8_isSign_1 21 rfl rfl)
theorem dX8_isSign_48 : decode cX8_isSign 48 = .ok (.iload_n 0, 1) := dk_26 (dk_at dksX8_isSign_2 0 rfl rfl)
theorem dX8_isSign_49 : decode cX8_isSign 49 = .ok (.bipush 42, 2) := dk_16 42 (dk_at dksX8_isSign_2 1 rfl rfl)
theorem dX8_isSign_51 : decode cX8_isSign 51 = .ok (.if_icmp .eq 15, 3) := dk_159 0 15 (dk_at dksX8_isSign_2 3 rfl rfl)
theorem dX8_isSign_54 : decode cX8_isSign 54 = .ok (.iload_n 0, 1) := dk_26 (dk_at dksX8_isSign_2 6 rfl rfl)
theorem dX8_isSign_55 : decode cX8_isSign 55 = .ok (.bipush 47, 2) := dk_16 47 (dk_at dksX8_isSign_2 7 rfl rfl)
theorem dX8_isSign_57 : decode cX8_isSign 57 = .ok (.if_icmp .eq 9, 3) := dk_159 0 9 (dk_at dksX8_isSign_2 9 rfl rfl)
theorem dX8_isSign_60 : decode cX8_isSign 60 = .ok (.iload_n 0, 1) := dk_26 (dk_at dksX8_isSign_2 12 rfl rfl)
theorem dX8_isSign_61 : decode cX8_isSign 61 = .ok (.bipush 37, 2) := dk_16 37 (dk_at dksX8_isSign_2 13 rfl rfl)
theorem dX8_isSign_63 : decode cX8_isSign 63 = .ok (.if_icmp .ne 7, 3) := dk_160 0 7 (dk_at dksX8_isSign_2 15 rfl rfl)
theorem dX8_isSign_66 : decode cX8_isSign 66 = .ok (.iconst 1, 1) := dk_4 (dk_at dksX8_isSign_2 18 rfl rfl)
theorem dX8_isSign_67 : decode cX8_isSign 67 = .ok (.goto 4, 3) := dk_167 0 4 (dk_at dksX8_isSign_2 19 rfl rfl)
theorem dX8_isSign_70 : decode cX8_isSign 70 = .ok (.iconst 0, 1) := dk_3 (dk_at dksX8_isSign_2 22 rfl rfl)
theorem dX8_isSign_71 : decode cX8_isSign 71 = .ok (.ireturn, 1) := dk_172 (dk_at dksX8_isSign_2 23 rfl rfl)
abbrev cX8_readLine : ByteArray := prog_20_method_43_code
def yX8_readLine : MethodName := ⟨RX8, "readLine", "()V"⟩
def dkwX8_readLine_11 : List UInt8 := [42, 5, 182, 0, 243, 42, 180, 0, 194, 154, 0, 7, 42, 182, 0, 246, 177]
abbrev dktX8_readLine_11 : List UInt8 := dkwX8_readLine_11 ++ []
def dkwX8_readLine_10 : List UInt8 := [182, 0, 243, 42, 4, 181, 1, 110, 42, 180, 0, 194, 154, 0, 17, 42, 180, 0, 181, 16, 59, 159, 0, 8]
abbrev dktX8_readLine_10 : List UInt8 := dkwX8_readLine_10 ++ dktX8_readLine_11
def dkwX8_readLine_9 : List UInt8 := [181, 1, 137, 42, 42, 20, 0, 219, 3, 17, 3, 231, 182, 1, 84, 181, 1, 140, 167, 0, 8, 42, 5]
abbrev dktX8_readLine_9 : List UInt8 := dkwX8_readLine_9 ++ dktX8_readLine_10
def dkwX8_readLine_8 : List UInt8 := [167, 0, 48, 42, 20, 0, 219, 182, 0, 239, 153, 0, 33, 42, 180, 1, 137, 154, 0, 26, 42, 4]
abbrev dktX8_readLine_8 : List UInt8 := dkwX8_readLine_8 ++ dktX8_readLine_9
def dkwX8_readLine_7 : List UInt8 := [154, 0, 25, 42, 4, 181, 1, 131, 42, 42, 20, 0, 217, 3, 16, 100, 182, 1, 84, 181, 1, 134]
abbrev dktX8_readLine_7 : List UInt8 := dkwX8_readLine_7 ++ dktX8_readLine_8
def dkwX8_readLine_6 : List UInt8 := [154, 0, 10, 42, 182, 1, 128, 167, 0, 87, 42, 20, 0, 217, 182, 0, 239, 153, 0, 32, 42, 180, 1, 131]
abbrev dktX8_readLine_6 : List UInt8 := dkwX8_readLine_6 ++ dktX8_readLine_7
def dkwX8_readLine_5 : List UInt8 := [162, 0, 10, 42, 182, 1, 125, 167, 0, 111, 42, 20, 0, 215, 182, 0, 239, 153, 0, 17, 42, 180, 1, 42]
abbrev dktX8_readLine_5 : List UInt8 := dkwX8_readLine_5 ++ dktX8_readLine_6
def dkwX8_readLine_4 : List UInt8 := [42, 182, 1, 122, 167, 0, 137, 42, 20, 0, 213, 182, 0, 239, 153, 0, 19, 42, 180, 1, 107, 16, 7]
abbrev dktX8_readLine_4 : List UInt8 := dkwX8_readLine_4 ++ dktX8_readLine_5
def dkwX8_readLine_3 : List UInt8 := [182, 1, 119, 167, 0, 162, 42, 20, 0, 207, 182, 0, 239, 153, 0, 18, 42, 180, 1, 101, 7, 162, 0, 10]
abbrev dktX8_readLine_3 : List UInt8 := dkwX8_readLine_3 ++ dktX8_readLine_4
def dkwX8_readLine_2 : List UInt8 := [167, 0, 188, 42, 20, 0, 205, 182, 0, 239, 153, 0, 19, 42, 180, 1, 98, 16, 6, 162, 0, 10, 42]
abbrev dktX8_readLine_2 : List UInt8 := dkwX8_readLine_2 ++ dktX8_readLine_3
def dkwX8_readLine_1 : List UInt8 := [42, 20, 0, 201, 182, 0, 239, 153, 0, 19, 42, 180, 1, 95, 16, 16, 162, 0, 10, 42, 182, 1, 116]
abbrev dktX8_readLine_1 : List UInt8 := dkwX8_readLine_1 ++ dktX8_readLine_2
def dkwX8_readLine_0 : List UInt8 := [42, 20, 0, 197, 182, 0, 239, 153, 0, 17, 42, 180, 1, 110, 154, 0, 10, 42, 182, 1, 113, 167, 0, 214]
abbrev dktX8_readLine_0 : List UInt8 := dkwX8_readLine_0 ++ dktX8_readLine_1
theorem dksX8_readLine_0 : cX8_readLine.data.toList.drop 0 = dktX8_readLine_0 := by decide +kernel
theorem dksX8_readLine_1 : cX8_readLine.data.toList.drop 24 = dktX8_readLine_1 := dk_seg dksX8_readLine_0 24 rfl rfl
theorem dksX8_readLine_2 : cX8_readLine.data.toList.drop 47 = dktX8_readLine_2 := dk_seg dksX8_readLine_1 23 rfl rfl
theorem dksX8_readLine_3 : cX8_readLine.data.toList.drop 70 = dktX8_readLine_3 := dk_seg dksX8_readLine_2 23 rfl rfl
theorem dksX8_readLine_4 : cX8_readLine.data.toList.drop 94 = dktX8_readLine_4 := dk_seg dksX8_readLine_3 24 rfl rfl
theorem dksX8_readLine_5 : cX8_readLine.data.toList.drop 117 = dktX8_readLine_5 := dk_seg dksX8_readLine_4 23 rfl rfl
theorem dksX8_readLine_6 : cX8_readLine.data.toList.drop 141 = dktX8_readLine_6 := dk_seg dksX8_readLine_5 24 rfl rfl
theorem dksX8_readLine_7 : cX8_readLine.data.toList.drop 165 = dktX8_readLine_7 := dk_seg dksX8_readLine_6 24 rfl rfl
theorem dksX8_readLine_8 : cX8_readLine.data.toList.drop 187 = dktX8_readLine_8 := dk_seg dksX8_readLine_7 22 rfl rfl
theorem dksX8_readLine_9 : cX8_readLine.data.toList.drop 209 = dktX8_readLine_9 := dk_seg dksX8_readLine_8 22 rfl rfl
theorem dksX8_readLine_10 : cX8_readLine.data.toList.drop 232 = dktX8_readLine_10 := dk_seg dksX8_readLine_9 23 rfl rfl
theorem dksX8_readLine_11 : cX8_readLine.data.toList.drop 256 = dktX8_readLine_11 := dk_seg dksX8_readLine_10 24 rfl rfl
theorem dX8_readLine_0 : decode cX8_readLine 0 = .ok (.aload_n 0, 1) := dk_42 (dk_at dksX8_readLine_0 0 rfl rfl)
theorem dX8_readLine_1 : decode cX8_readLine 1 = .ok (.ldc2_w 197, 3) := dk_20 0 197 (dk_at dksX8_readLine_0 1 rfl rfl)
theorem dX8_readLine_4 : decode cX8_readLine 4 = .ok (.invokevirtual 239, 3) := dk_182 0 239 (dk_at dksX8_readLine_0 4 rfl rfl)
theorem dX8_readLine_7 : decode cX8_readLine 7 = .ok (.ifCond .eq 17, 3) := dk_153 0 17 (dk_at dksX8_readLine_0 7 rfl rfl)
theorem dX8_readLine_10 : decode cX8_readLine 10 = .ok (.aload_n 0, 1) := dk_42 (dk_at dksX8_readLine_0 10 rfl rfl)
theorem dX8_readLine_11 : decode cX8_readLine 11 = .ok (.getfield 366, 3) := dk_180 1 110 (dk_at dksX8_readLine_0 11 rfl rfl)
theorem dX8_readLine_14 : decode cX8_readLine 14 = .ok (.ifCond .ne 10, 3) := dk_154 0 10 (dk_at dksX8_readLine_0 14 rfl rfl)
theorem dX8_readLine_17 : decode cX8_readLine 17 = .ok (.aload_n 0, 1) := dk_42 (dk_at dksX8_readLine_0 17 rfl rfl)
theorem dX8_readLine_18 : decode cX8_readLine 18 = .ok (.invokevirtual 369, 3) := dk_182 1 113 (dk_at dksX8_readLine_0 18 rfl rfl)
theorem dX8_readLine_21 : decode cX8_readLine 21 = .ok (.goto 214, 3) := dk_167 0 214 (dk_at dksX8_readLine_0 21 rfl rfl)
theorem dX8_readLine_24 : decode cX8_readLine 24 = .ok (.aload_n 0, 1) := dk_42 (dk_at dksX8_readLine_1 0 rfl rfl)
theorem dX8_readLine_25 : decode cX8_readLine 25 = .ok (.ldc2_w 201, 3) := dk_20 0 201 (dk_at dksX8_readLine_1 1 rfl rfl)
theorem dX8_readLine_28 : decode cX8_readLine 28 = .ok (.invokevirtual 239, 3) := dk_182 0 239 (dk_at dksX8_readLine_1 4 rfl rfl)
theorem dX8_readLine_31 : decode cX8_readLine 31 = .ok (.ifCond .eq 19, 3) := dk_153 0 19 (dk_at dksX8_readLine_1 7 rfl rfl)
theorem dX8_readLine_34 : decode cX8_readLine 34 = .ok (.aload_n 0, 1) := dk_42 (dk_at dksX8_readLine_1 10 rfl rfl)
theorem dX8_readLine_35 : decode cX8_readLine 35 = .ok (.getfield 351, 3) := dk_180 1 95 (dk_at dksX8_readLine_1 11 rfl rfl)
theorem dX8_readLine_38 : decode cX8_readLine 38 = .ok (.bipush 16, 2) := dk_16 16 (dk_at dksX8_readLine_1 14 rfl rfl)
theorem dX8_readLine_40 : decode cX8_readLine 40 = .ok (.if_icmp .ge 10, 3) := dk_162 0 10 (dk_at dksX8_readLine_1 16 rfl rfl)
theorem dX8_readLine_43 : decode cX8_readLine 43 = .ok (.aload_n 0, 1) := dk_42 (dk_at dksX8_readLine_1 19 rfl rfl)
theorem dX8_readLine_44 : decode cX8_readLine 44 = .ok (.invokevirtual 372, 3) := dk_182 1 116 (dk_at dksX8_readLine_1 20 rfl rfl)
theorem dX8_readLine_47 : decode cX8_readLine 47 = .ok (.goto 188, 3) := dk_167 0 188 (dk_at dksX8_readLine_2 0 rfl rfl)
theorem dX8_readLine_50 : decode cX8_readLine 50 = .ok (.aload_n 0, 1) := dk_42 (dk_at dksX8_readLine_2 3 rfl rfl)
theorem dX8_readLine_51 : decode cX8_readLine 51 = .ok (.ldc2_w 205, 3) := dk_20 0 205 (dk_at dksX8_readLine_2 4 rfl rfl)
theorem dX8_readLine_54 : decode cX8_readLine 54 = .ok (.invokevirtual 239, 3) := dk_182 0 239 (dk_at dksX8_readLine_2 7 rfl rfl)
theorem dX8_readLine_57 : decode cX8_readLine 57 = .ok (.ifCond .eq 19, 3) := dk_153 0 19 (dk_at dksX8_readLine_2 10 rfl rfl)
theorem dX8_readLine_60 : decode cX8_readLine 60 = .ok (.aload_n 0, 1) := dk_42 (dk_at dksX8_readLine_2 13 rfl rfl)
theorem dX8_readLine_61 : decode cX8_readLine 61 = .ok (.getfield 354, 3) := dk_180 1 98 (dk_at dksX8_readLine_2 14 rfl rfl)
theorem dX8_readLine_64 : decode cX8_readLine 64 = .ok (.bipush 6, 2) := dk_16 6 (dk_at dksX8_readLine_2 17 rfl rfl)
theorem dX8_readLine_66 : decode cX8_readLine 66 = .ok (.if_icmp .ge 10, 3) := dk_162 0 10 (dk_at dksX8_readLine_2 19 rfl rfl)
theorem dX8_readLine_69 : decode cX8_readLine 69 = .ok (.aload_n 0, 1) := dk_42 (dk_at dksX8_readLine_2 22 rfl rfl)
theorem dX8_readLine_70 : decode cX8_readLine 70 = .ok (.invokevirtual 375, 3) := dk_182 1 119 (dk_at dksX8_readLine_3 0 rfl rfl)
theorem dX8_readLine_73 : decode cX8_readLine 73 = .ok (.goto 162, 3) := dk_167 0 162 (dk_at dksX8_readLine_3 3 rfl rfl)
theorem dX8_readLine_76 : decode cX8_readLine 76 = .ok (.aload_n 0, 1) := dk_42 (dk_at dksX8_readLine_3 6 rfl rfl)
theorem dX8_readLine_77 : decode cX8_readLine 77 = .ok (.ldc2_w 207, 3) := dk_20 0 207 (dk_at dksX8_readLine_3 7 rfl rfl)
theorem dX8_readLine_80 : decode cX8_readLine 80 = .ok (.invokevirtual 239, 3) := dk_182 0 239 (dk_at dksX8_readLine_3 10 rfl rfl)
theorem dX8_readLine_83 : decode cX8_readLine 83 = .ok (.ifCond .eq 18, 3) := dk_153 0 18 (dk_at dksX8_readLine_3 13 rfl rfl)
theorem dX8_readLine_86 : decode cX8_readLine 86 = .ok (.aload_n 0, 1) := dk_42 (dk_at dksX8_readLine_3 16 rfl rfl)
theorem dX8_readLine_87 : decode cX8_readLine 87 = .ok (.getfield 357, 3) := dk_180 1 101 (dk_at dksX8_readLine_3 17 rfl rfl)
theorem dX8_readLine_90 : decode cX8_readLine 90 = .ok (.iconst 4, 1) := dk_7 (dk_at dksX8_readLine_3 20 rfl rfl)
theorem dX8_readLine_91 : decode cX8_readLine 91 = .ok (.if_icmp .ge 10, 3) := dk_162 0 10 (dk_at dksX8_readLine_3 21 rfl rfl)
theorem dX8_readLine_94 : decode cX8_readLine 94 = .ok (.aload_n 0, 1) := dk_42 (dk_at dksX8_readLine_4 0 rfl rfl)
theorem dX8_readLine_95 : decode cX8_readLine 95 = .ok (.invokevirtual 378, 3) := dk_182 1 122 (dk_at dksX8_readLine_4 1 rfl rfl)
theorem dX8_readLine_98 : decode cX8_readLine 98 = .ok (.goto 137, 3) := dk_167 0 137 (dk_at dksX8_readLine_4 4 rfl rfl)
theorem dX8_readLine_101 : decode cX8_readLine 101 = .ok (.aload_n 0, 1) := dk_42 (dk_at dksX8_readLine_4 7 rfl rfl)
theorem dX8_readLine_102 : decode cX8_readLine 102 = .ok (.ldc2_w 213, 3) := dk_20 0 213 (dk_at dksX8_readLine_4 8 rfl rfl)
theorem dX8_readLine_105 : decode cX8_readLine 105 = .ok (.invokevirtual 239, 3) := dk_182 0 239 (dk_at dksX8_readLine_4 11 rfl rfl)
theorem dX8_readLine_108 : decode cX8_readLine 108 = .ok (.ifCond .eq 19, 3) := dk_153 0 19 (dk_at dksX8_readLine_4 14 rfl rfl)
theorem dX8_readLine_111 : decode cX8_readLine 111 = .ok (.aload_n 0, 1) := dk_42 (dk_at dksX8_readLine_4 17 rfl rfl)
theorem dX8_readLine_112 : decode cX8_readLine 112 = .ok (.getfield 363, 3) := dk_180 1 107 (dk_at dksX8_readLine_4 18 rfl rfl)
theorem dX8_readLine_115 : decode cX8_readLine 115 = .ok (.bipush 7, 2) := dk_16 7 (dk_at dksX8_readLine_4 21 rfl rfl)
theorem dX8_readLine_117 : decode cX8_readLine 117 = .ok (.if_icmp .ge 10, 3) := dk_162 0 10 (dk_at dksX8_readLine_5 0 rfl rfl)
theorem dX8_readLine_120 : decode cX8_readLine 120 = .ok (.aload_n 0, 1) := dk_42 (dk_at dksX8_readLine_5 3 rfl rfl)
theorem dX8_readLine_121 : decode cX8_readLine 121 = .ok (.invokevirtual 381, 3) := dk_182 1 125 (dk_at dksX8_readLine_5 4 rfl rfl)
theorem dX8_readLine_124 : decode cX8_readLine 124 = .ok (.goto 111, 3) := dk_167 0 111 (dk_at dksX8_readLine_5 7 rfl rfl)
theorem dX8_readLine_127 : decode cX8_readLine 127 = .ok (.aload_n 0, 1) := dk_42 (dk_at dksX8_readLine_5 10 rfl rfl)
theorem dX8_readLine_128 : decode cX8_readLine 128 = .ok (.ldc2_w 215, 3) := dk_20 0 215 (dk_at dksX8_readLine_5 11 rfl rfl)
theorem dX8_readLine_131 : decode cX8_readLine 131 = .ok (.invokevirtual 239, 3) := dk_182 0 239 (dk_at dksX8_readLine_5 14 rfl rfl)
theorem dX8_readLine_134 : decode cX8_readLine 134 = .ok (.ifCond .eq 17, 3) := dk_153 0 17 (dk_at dksX8_readLine_5 17 rfl rfl)
theorem dX8_readLine_137 : decode cX8_readLine 137 = .ok (.aload_n 0, 1) := dk_42 (dk_at dksX8_readLine_5 20 rfl rfl)
theorem dX8_readLine_138 : decode cX8_readLine 138 = .ok (.getfield 298, 3) := dk_180 1 42 (dk_at dksX8_readLine_5 21 rfl rfl)
theorem dX8_readLine_141 : decode cX8_readLine 141 = .ok (.ifCond .ne 10, 3) := dk_154 0 10 (dk_at dksX8_readLine_6 0 rfl rfl)
theorem dX8_readLine_144 : decode cX8_readLine 144 = .ok (.aload_n 0, 1) := dk_42 (dk_at dksX8_readLine_6 3 rfl rfl)
theorem dX8_readLine_145 : decode cX8_readLine 145 = .ok (.invokevirtual 384, 3) := dk_182 1 128 (dk_at dksX8_readLine_6 4 rfl rfl)
theorem dX8_readLine_148 : decode cX8_readLine 148 = .ok (.goto 87, 3) := dk_167 0 87 (dk_at dksX8_readLine_6 7 rfl rfl)
theorem dX8_readLine_151 : decode cX8_readLine 151 = .ok (.aload_n 0, 1) := dk_42 (dk_at dksX8_readLine_6 10 rfl rfl)
theorem dX8_readLine_152 : decode cX8_readLine 152 = .ok (.ldc2_w 217, 3) := dk_20 0 217 (dk_at dksX8_readLine_6 11 rfl rfl)
theorem dX8_readLine_155 : decode cX8_readLine 155 = .ok (.invokevirtual 239, 3) := dk_182 0 239 (dk_at dksX8_readLine_6 14 rfl rfl)
theorem dX8_readLine_158 : decode cX8_readLine 158 = .ok (.ifCond .eq 32, 3) := dk_153 0 32 (dk_at dksX8_readLine_6 17 rfl rfl)
theorem dX8_readLine_161 : decode cX8_readLine 161 = .ok (.aload_n 0, 1) := dk_42 (dk_at dksX8_readLine_6 20 rfl rfl)
theorem dX8_readLine_162 : decode cX8_readLine 162 = .ok (.getfield 387, 3) := dk_180 1 131 (dk_at dksX8_readLine_6 21 rfl rfl)
theorem dX8_readLine_165 : decode cX8_readLine 165 = .ok (.ifCond .ne 25, 3) := dk_154 0 25 (dk_at dksX8_readLine_7 0 rfl rfl)
theorem dX8_readLine_168 : decode cX8_readLine 168 = .ok (.aload_n 0, 1) := dk_42 (dk_at dksX8_readLine_7 3 rfl rfl)
theorem dX8_readLine_169 : decode cX8_readLine 169 = .ok (.iconst 1, 1) := dk_4 (dk_at dksX8_readLine_7 4 rfl rfl)
theorem dX8_readLine_170 : decode cX8_readLine 170 = .ok (.putfield 387, 3) := dk_181 1 131 (dk_at dksX8_readLine_7 5 rfl rfl)
theorem dX8_readLine_173 : decode cX8_readLine 173 = .ok (.aload_n 0, 1) := dk_42 (dk_at dksX8_readLine_7 8 rfl rfl)
theorem dX8_readLine_174 : decode cX8_readLine 174 = .ok (.aload_n 0, 1) := dk_42 (dk_at dksX8_readLine_7 9 rfl rfl)
theorem dX8_readLine_175 : decode cX8_readLine 175 = .ok (.ldc2_w 217, 3) := dk_20 0 217 (dk_at dksX8_readLine_7 10 rfl rfl)
theorem dX8_readLine_178 : decode cX8_readLine 178 = .ok (.iconst 0, 1) := dk_3 (dk_at dksX8_readLine_7 13 rfl rfl)
theorem dX8_readLine_179 : decode cX8_readLine 179 = .ok (.bipush 100, 2) := dk_16 100 (dk_at dksX8_readLine_7 14 rfl rfl)
theorem dX8_readLine_181 : decode cX8_readLine 181 = .ok (.invokevirtual 340, 3) := dk_182 1 84 (dk_at dksX8_readLine_7 16 rfl rfl)
theorem dX8_readLine_184 : decode cX8_readLine 184 = .ok (.putfield 390, 3) := dk_181 1 134 (dk_at dksX8_readLine_7 19 rfl rfl)
theorem dX8_readLine_187 : decode cX8_readLine 187 = .ok (.goto 48, 3) := dk_167 0 48 (dk_at dksX8_readLine_8 0 rfl rfl)
theorem dX8_readLine_190 : decode cX8_readLine 190 = .ok (.aload_n 0, 1) := dk_42 (dk_at dksX8_readLine_8 3 rfl rfl)
theorem dX8_readLine_191 : decode cX8_readLine 191 = .ok (.ldc2_w 219, 3) := dk_20 0 219 (dk_at dksX8_readLine_8 4 rfl rfl)
theorem dX8_readLine_194 : decode cX8_readLine 194 = .ok (.invokevirtual 239, 3) := dk_182 0 239 (dk_at dksX8_readLine_8 7 rfl rfl)
theorem dX8_readLine_197 : decode cX8_readLine 197 = .ok (.ifCond .eq 33, 3) := dk_153 0 33 (dk_at dksX8_readLine_8 10 rfl rfl)
theorem dX8_readLine_200 : decode cX8_readLine 200 = .ok (.aload_n 0, 1) := dk_42 (dk_at dksX8_readLine_8 13 rfl rfl)
theorem dX8_readLine_201 : decode cX8_readLine 201 = .ok (.getfield 393, 3) := dk_180 1 137 (dk_at dksX8_readLine_8 14 rfl rfl)
theorem dX8_readLine_204 : decode cX8_readLine 204 = .ok (.ifCond .ne 26, 3) := dk_154 0 26 (dk_at dksX8_readLine_8 17 rfl rfl)
theorem dX8_readLine_207 : decode cX8_readLine 207 = .ok (.aload_n 0, 1) := dk_42 (dk_at dksX8_readLine_8 20 rfl rfl)
theorem dX8_readLine_208 : decode cX8_readLine 208 = .ok (.iconst 1, 1) := dk_4 (dk_at dksX8_readLine_8 21 rfl rfl)
theorem dX8_readLine_209 : decode cX8_readLine 209 = .ok (.putfield 393, 3) := dk_181 1 137 (dk_at dksX8_readLine_9 0 rfl rfl)
theorem dX8_readLine_212 : decode cX8_readLine 212 = .ok (.aload_n 0, 1) := dk_42 (dk_at dksX8_readLine_9 3 rfl rfl)
theorem dX8_readLine_213 : decode cX8_readLine 213 = .ok (.aload_n 0, 1) := dk_42 (dk_at dksX8_readLine_9 4 rfl rfl)
theorem dX8_readLine_214 : decode cX8_readLine 214 = .ok (.ldc2_w 219, 3) := dk_20 0 219 (dk_at dksX8_readLine_9 5 rfl rfl)
theorem dX8_readLine_217 : decode cX8_readLine 217 = .ok (.iconst 0, 1) := dk_3 (dk_at dksX8_readLine_9 8 rfl rfl)
theorem dX8_readLine_218 : decode cX8_readLine 218 = .ok (.sipush 999, 3) := dk_17 3 231 (dk_at dksX8_readLine_9 9 rfl rfl)
theorem dX8_readLine_221 : decode cX8_readLine 221 = .ok (.invokevirtual 340, 3) := dk_182 1 84 (dk_at dksX8_readLine_9 12 rfl rfl)
theorem dX8_readLine_224 : decode cX8_readLine 224 = .ok (.putfield 396, 3) := dk_181 1 140 (dk_at dksX8_readLine_9 15 rfl rfl)
theorem dX8_readLine_227 : decode cX8_readLine 227 = .ok (.goto 8, 3) := dk_167 0 8 (dk_at dksX8_readLine_9 18 rfl rfl)
theorem dX8_readLine_230 : decode cX8_readLine 230 = .ok (.aload_n 0, 1) := dk_42 (dk_at dksX8_readLine_9 21 rfl rfl)
theorem dX8_readLine_231 : decode cX8_readLine 231 = .ok (.iconst 2, 1) := dk_5 (dk_at dksX8_readLine_9 22 rfl rfl)
theorem dX8_readLine_232 : decode cX8_readLine 232 = .ok (.invokevirtual 243, 3) := dk_182 0 243 (dk_at dksX8_readLine_10 0 rfl rfl)
theorem dX8_readLine_235 : decode cX8_readLine 235 = .ok (.aload_n 0, 1) := dk_42 (dk_at dksX8_readLine_10 3 rfl rfl)
theorem dX8_readLine_236 : decode cX8_readLine 236 = .ok (.iconst 1, 1) := dk_4 (dk_at dksX8_readLine_10 4 rfl rfl)
theorem dX8_readLine_237 : decode cX8_readLine 237 = .ok (.putfield 366, 3) := dk_181 1 110 (dk_at dksX8_readLine_10 5 rfl rfl)
theorem dX8_readLine_240 : decode cX8_readLine 240 = .ok (.aload_n 0, 1) := dk_42 (dk_at dksX8_readLine_10 8 rfl rfl)
theorem dX8_readLine_241 : decode cX8_readLine 241 = .ok (.getfield 194, 3) := dk_180 0 194 (dk_at dksX8_readLine_10 9 rfl rfl)
theorem dX8_readLine_244 : decode cX8_readLine 244 = .ok (.ifCond .ne 17, 3) := dk_154 0 17 (dk_at dksX8_readLine_10 12 rfl rfl)
theorem dX8_readLine_247 : decode cX8_readLine 247 = .ok (.aload_n 0, 1) := dk_42 (dk_at dksX8_readLine_10 15 rfl rfl)
theorem dX8_readLine_248 : decode cX8_readLine 248 = .ok (.getfield 181, 3) := dk_180 0 181 (dk_at dksX8_readLine_10 16 rfl rfl)
theorem dX8_readLine_251 : decode cX8_readLine 251 = .ok (.bipush 59, 2) := dk_16 59 (dk_at dksX8_readLine_10 19 rfl rfl)
theorem dX8_readLine_253 : decode cX8_readLine 253 = .ok (.if_icmp .eq 8, 3) := dk_159 0 8 (dk_at dksX8_readLine_10 21 rfl rfl)
theorem dX8_readLine_256 : decode cX8_readLine 256 = .ok (.aload_n 0, 1) := dk_42 (dk_at dksX8_readLine_11 0 rfl rfl)
theorem dX8_readLine_257 : decode cX8_readLine 257 = .ok (.iconst 2, 1) := dk_5 (dk_at dksX8_readLine_11 1 rfl rfl)
theorem dX8_readLine_258 : decode cX8_readLine 258 = .ok (.invokevirtual 243, 3) := dk_182 0 243 (dk_at dksX8_readLine_11 2 rfl rfl)
theorem dX8_readLine_261 : decode cX8_readLine 261 = .ok (.aload_n 0, 1) := dk_42 (dk_at dksX8_readLine_11 5 rfl rfl)
theorem dX8_readLine_262 : decode cX8_readLine 262 = .ok (.getfield 194, 3) := dk_180 0 194 (dk_at dksX8_readLine_11 6 rfl rfl)
theorem dX8_readLine_265 : decode cX8_readLine 265 = .ok (.ifCond .ne 7, 3) := dk_154 0 7 (dk_at dksX8_readLine_11 9 rfl rfl)
theorem dX8_readLine_268 : decode cX8_readLine 268 = .ok (.aload_n 0, 1) := dk_42 (dk_at dksX8_readLine_11 12 rfl rfl)
theorem dX8_readLine_269 : decode cX8_readLine 269 = .ok (.invokevirtual 246, 3) := dk_182 0 246 (dk_at dksX8_readLine_11 13 rfl rfl)
theorem dX8_readLine_272 : decode cX8_readLine 272 = .ok (.return_, 1) := dk_177 (dk_at dksX8_readLine_11 16 rfl rfl)
abbrev cX8_isWord : ByteArray := prog_20_method_11_code
def yX8_isWord : MethodName := ⟨RX8, "isWord", "(J)Z"⟩
def dkwX8_isWord_0 : List UInt8 := [42, 180, 0, 181, 4, 160, 0, 16, 42, 180, 0, 174, 31, 148, 154, 0, 7, 4, 167, 0, 4, 3, 172]
abbrev dktX8_isWord_0 : List UInt8 := dkwX8_isWord_0 ++ []
theorem dksX8_isWord_0 : cX8_isWord.data.toList.drop 0 = dktX8_isWord_0 := by decide +kernel
theorem dX8_isWord_0 : decode cX8_isWord 0 = .ok (.aload_n 0, 1) := dk_42 (dk_at dksX8_isWord_0 0 rfl rfl)
theorem dX8_isWord_1 : decode cX8_isWord 1 = .ok (.getfield 181, 3) := dk_180 0 181 (dk_at dksX8_isWord_0 1 rfl rfl)
theorem dX8_isWord_4 : decode cX8_isWord 4 = .ok (.iconst 1, 1) := dk_4 (dk_at dksX8_isWord_0 4 rfl rfl)
theorem dX8_isWord_5 : decode cX8_isWord 5 = .ok (.if_icmp .ne 16, 3) := dk_160 0 16 (dk_at dksX8_isWord_0 5 rfl rfl)
theorem dX8_isWord_8 : decode cX8_isWord 8 = .ok (.aload_n 0, 1) := dk_42 (dk_at dksX8_isWord_0 8 rfl rfl)
theorem dX8_isWord_9 : decode cX8_isWord 9 = .ok (.getfield 174, 3) := dk_180 0 174 (dk_at dksX8_isWord_0 9 rfl rfl)
theorem dX8_isWord_12 : decode cX8_isWord 12 = .ok (.lload_n 1, 1) := dk_31 (dk_at dksX8_isWord_0 12 rfl rfl)
theorem dX8_isWord_13 : decode cX8_isWord 13 = .ok (.lcmp, 1) := dk_148 (dk_at dksX8_isWord_0 13 rfl rfl)
theorem dX8_isWord_14 : decode cX8_isWord 14 = .ok (.ifCond .ne 7, 3) := dk_154 0 7 (dk_at dksX8_isWord_0 14 rfl rfl)
theorem dX8_isWord_17 : decode cX8_isWord 17 = .ok (.iconst 1, 1) := dk_4 (dk_at dksX8_isWord_0 17 rfl rfl)
theorem dX8_isWord_18 : decode cX8_isWord 18 = .ok (.goto 4, 3) := dk_167 0 4 (dk_at dksX8_isWord_0 18 rfl rfl)
theorem dX8_isWord_21 : decode cX8_isWord 21 = .ok (.iconst 0, 1) := dk_3 (dk_at dksX8_isWord_0 21 rfl rfl)
theorem dX8_isWord_22 : decode cX8_isWord 22 = .ok (.ireturn, 1) := dk_172 (dk_at dksX8_isWord_0 22 rfl rfl)
abbrev cX8_readWater : ByteArray := prog_20_method_37_code
def yX8_readWater : MethodName := ⟨RX8, "readWate\x72", "()V"⟩
def dkwX8_readWater_1 : List UInt8 := [182, 1, 84, 181, 1, 88, 177]
abbrev dktX8_readWater_1 : List UInt8 := dkwX8_readWater_1 ++ []
def dkwX8_readWater_0 : List UInt8 := [42, 182, 0, 246, 42, 42, 4, 16, 8, 182, 0, 253, 181, 1, 81, 42, 42, 20, 0, 199, 4, 16, 6]
abbrev dktX8_readWater_0 : List UInt8 := dkwX8_readWater_0 ++ dktX8_readWater_1
theorem dksX8_readWater_0 : cX8_readWater.data.toList.drop 0 = dktX8_readWater_0 := by decide +kernel
theorem dksX8_readWater_1 : cX8_readWater.data.toList.drop 23 = dktX8_readWater_1 := dk_seg dksX8_readWater_0 23 rfl rfl
theorem dX8_readWater_0 : decode cX8_readWater 0 = .ok (.aload_n 0, 1) := dk_42 (dk_at dksX8_readWater_0 0 rfl rfl)
theorem dX8_readWater_1 : decode cX8_readWater 1 = .ok (.invokevirtual 246, 3) := dk_182 0 246 (dk_at dksX8_readWater_0 1 rfl rfl)
theorem dX8_readWater_4 : decode cX8_readWater 4 = .ok (.aload_n 0, 1) := dk_42 (dk_at dksX8_readWater_0 4 rfl rfl)
theorem dX8_readWater_5 : decode cX8_readWater 5 = .ok (.aload_n 0, 1) := dk_42 (dk_at dksX8_readWater_0 5 rfl rfl)
theorem dX8_readWater_6 : decode cX8_readWater 6 = .ok (.iconst 1, 1) := dk_4 (dk_at dksX8_readWater_0 6 rfl rfl)
theorem dX8_readWater_7 : decode cX8_readWater 7 = .ok (.bipush 8, 2) := dk_16 8 (dk_at dksX8_readWater_0 7 rfl rfl)
theorem dX8_readWater_9 : decode cX8_readWater 9 = .ok (.invokevirtual 253, 3) := dk_182 0 253 (dk_at dksX8_readWater_0 9 rfl rfl)
theorem dX8_readWater_12 : decode cX8_readWater 12 = .ok (.putfield 337, 3) := dk_181 1 81 (dk_at dksX8_readWater_0 12 rfl rfl)
theorem dX8_readWater_15 : decode cX8_readWater 15 = .ok (.aload_n 0, 1) := dk_42 (dk_at dksX8_readWater_0 15 rfl rfl)
theorem dX8_readWater_16 : decode cX8_readWater 16 = .ok (.aload_n 0, 1) := dk_42 (dk_at dksX8_readWater_0 16 rfl rfl)
theorem dX8_readWater_17 : decode cX8_readWater 17 = .ok (.ldc2_w 199, 3) := dk_20 0 199 (dk_at dksX8_readWater_0 17 rfl rfl)
theorem dX8_readWater_20 : decode cX8_readWater 20 = .ok (.iconst 1, 1) := dk_4 (dk_at dksX8_readWater_0 20 rfl rfl)
theorem dX8_readWater_21 : decode cX8_readWater 21 = .ok (.bipush 6, 2) := dk_16 6 (dk_at dksX8_readWater_0 21 rfl rfl)
theorem dX8_readWater_23 : decode cX8_readWater 23 = .ok (.invokevirtual 340, 3) := dk_182 1 84 (dk_at dksX8_readWater_1 0 rfl rfl)
theorem dX8_readWater_26 : decode cX8_readWater 26 = .ok (.putfield 344, 3) := dk_181 1 88 (dk_at dksX8_readWater_1 3 rfl rfl)
theorem dX8_readWater_29 : decode cX8_readWater 29 = .ok (.return_, 1) := dk_177 (dk_at dksX8_readWater_1 6 rfl rfl)
abbrev cX8_toldNumber : ByteArray := prog_20_method_15_code
def yX8_toldNumber : MethodName := ⟨RX8, "toldNumbe\x72", "(II)I"⟩
def dkwX8_toldNumber_2 : List UInt8 := [42, 180, 0, 178, 62, 42, 180, 0, 194, 154, 0, 7, 42, 182, 0, 246, 29, 172]
abbrev dktX8_toldNumber_2 : List UInt8 := dkwX8_toldNumber_2 ++ []
def dkwX8_toldNumber_1 : List UInt8 := [167, 0, 24, 42, 180, 0, 178, 27, 161, 0, 11, 42, 180, 0, 178, 28, 164, 0, 8, 42, 7, 182, 0, 243]
abbrev dktX8_toldNumber_1 : List UInt8 := dkwX8_toldNumber_1 ++ dktX8_toldNumber_2
def dkwX8_toldNumber_0 : List UInt8 := [42, 180, 0, 194, 158, 0, 5, 3, 172, 42, 180, 0, 181, 5, 159, 0, 11, 42, 5, 182, 0, 243]
abbrev dktX8_toldNumber_0 : List UInt8 := dkwX8_toldNumber_0 ++ dktX8_toldNumber_1
theorem dksX8_toldNumber_0 : cX8_toldNumber.data.toList.drop 0 = dktX8_toldNumber_0 := by decide +kernel
theorem dksX8_toldNumber_1 : cX8_toldNumber.data.toList.drop 22 = dktX8_toldNumber_1 := dk_seg dksX8_toldNumber_0 22 rfl rfl
theorem dksX8_toldNumber_2 : cX8_toldNumber.data.toList.drop 46 = dktX8_toldNumber_2 := dk_seg dksX8_toldNumber_1 24 rfl rfl
theorem dX8_toldNumber_0 : decode cX8_toldNumber 0 = .ok (.aload_n 0, 1) := dk_42 (dk_at dksX8_toldNumber_0 0 rfl rfl)
theorem dX8_toldNumber_1 : decode cX8_toldNumber 1 = .ok (.getfield 194, 3) := dk_180 0 194 (dk_at dksX8_toldNumber_0 1 rfl rfl)
theorem dX8_toldNumber_4 : decode cX8_toldNumber 4 = .ok (.ifCond .le 5, 3) := dk_158 0 5 (dk_at dksX8_toldNumber_0 4 rfl rfl)
theorem dX8_toldNumber_7 : decode cX8_toldNumber 7 = .ok (.iconst 0, 1) := dk_3 (dk_at dksX8_toldNumber_0 7 rfl rfl)
theorem dX8_toldNumber_8 : decode cX8_toldNumber 8 = .ok (.ireturn, 1) := dk_172 (dk_at dksX8_toldNumber_0 8 rfl rfl)
theorem dX8_toldNumber_9 : decode cX8_toldNumber 9 = .ok (.aload_n 0, 1) := dk_42 (dk_at dksX8_toldNumber_0 9 rfl rfl)
theorem dX8_toldNumber_10 : decode cX8_toldNumber 10 = .ok (.getfield 181, 3) := dk_180 0 181 (dk_at dksX8_toldNumber_0 10 rfl rfl)
theorem dX8_toldNumber_13 : decode cX8_toldNumber 13 = .ok (.iconst 2, 1) := dk_5 (dk_at dksX8_toldNumber_0 13 rfl rfl)
theorem dX8_toldNumber_14 : decode cX8_toldNumber 14 = .ok (.if_icmp .eq 11, 3) := dk_159 0 11 (dk_at dksX8_toldNumber_0 14 rfl rfl)
theorem dX8_toldNumber_17 : decode cX8_toldNumber 17 = .ok (.aload_n 0, 1) := dk_42 (dk_at dksX8_toldNumber_0 17 rfl rfl)
theorem dX8_toldNumber_18 : decode cX8_toldNumber 18 = .ok (.iconst 2, 1) := dk_5 (dk_at dksX8_toldNumber_0 18 rfl rfl)
theorem dX8_toldNumber_19 : decode cX8_toldNumber 19 = .ok (.invokevirtual 243, 3) := dk_182 0 243 (dk_at dksX8_toldNumber_0 19 rfl rfl)
theorem dX8_toldNumber_22 : decode cX8_toldNumber 22 = .ok (.goto 24, 3) := dk_167 0 24 (dk_at dksX8_toldNumber_1 0 rfl rfl)
theorem dX8_toldNumber_25 : decode cX8_toldNumber 25 = .ok (.aload_n 0, 1) := dk_42 (dk_at dksX8_toldNumber_1 3 rfl rfl)
theorem dX8_toldNumber_26 : decode cX8_toldNumber 26 = .ok (.getfield 178, 3) := dk_180 0 178 (dk_at dksX8_toldNumber_1 4 rfl rfl)
theorem dX8_toldNumber_29 : decode cX8_toldNumber 29 = .ok (.iload_n 1, 1) := dk_27 (dk_at dksX8_toldNumber_1 7 rfl rfl)
theorem dX8_toldNumber_30 : decode cX8_toldNumber 30 = .ok (.if_icmp .lt 11, 3) := dk_161 0 11 (dk_at dksX8_toldNumber_1 8 rfl rfl)
theorem dX8_toldNumber_33 : decode cX8_toldNumber 33 = .ok (.aload_n 0, 1) := dk_42 (dk_at dksX8_toldNumber_1 11 rfl rfl)
theorem dX8_toldNumber_34 : decode cX8_toldNumber 34 = .ok (.getfield 178, 3) := dk_180 0 178 (dk_at dksX8_toldNumber_1 12 rfl rfl)
theorem dX8_toldNumber_37 : decode cX8_toldNumber 37 = .ok (.iload_n 2, 1) := dk_28 (dk_at dksX8_toldNumber_1 15 rfl rfl)
theorem dX8_toldNumber_38 : decode cX8_toldNumber 38 = .ok (.if_icmp .le 8, 3) := dk_164 0 8 (dk_at dksX8_toldNumber_1 16 rfl rfl)
theorem dX8_toldNumber_41 : decode cX8_toldNumber 41 = .ok (.aload_n 0, 1) := dk_42 (dk_at dksX8_toldNumber_1 19 rfl rfl)
theorem dX8_toldNumber_42 : decode cX8_toldNumber 42 = .ok (.iconst 4, 1) := dk_7 (dk_at dksX8_toldNumber_1 20 rfl rfl)
theorem dX8_toldNumber_43 : decode cX8_toldNumber 43 = .ok (.invokevirtual 243, 3) := dk_182 0 243 (dk_at dksX8_toldNumber_1 21 rfl rfl)
theorem dX8_toldNumber_46 : decode cX8_toldNumber 46 = .ok (.aload_n 0, 1) := dk_42 (dk_at dksX8_toldNumber_2 0 rfl rfl)
theorem dX8_toldNumber_47 : decode cX8_toldNumber 47 = .ok (.getfield 178, 3) := dk_180 0 178 (dk_at dksX8_toldNumber_2 1 rfl rfl)
theorem dX8_toldNumber_50 : decode cX8_toldNumber 50 = .ok (.istore_n 3, 1) := dk_62 (dk_at dksX8_toldNumber_2 4 rfl rfl)
theorem dX8_toldNumber_51 : decode cX8_toldNumber 51 = .ok (.aload_n 0, 1) := dk_42 (dk_at dksX8_toldNumber_2 5 rfl rfl)
theorem dX8_toldNumber_52 : decode cX8_toldNumber 52 = .ok (.getfield 194, 3) := dk_180 0 194 (dk_at dksX8_toldNumber_2 6 rfl rfl)
theorem dX8_toldNumber_55 : decode cX8_toldNumber 55 = .ok (.ifCond .ne 7, 3) := dk_154 0 7 (dk_at dksX8_toldNumber_2 9 rfl rfl)
theorem dX8_toldNumber_58 : decode cX8_toldNumber 58 = .ok (.aload_n 0, 1) := dk_42 (dk_at dksX8_toldNumber_2 12 rfl rfl)
theorem dX8_toldNumber_59 : decode cX8_toldNumber 59 = .ok (.invokevirtual 246, 3) := dk_182 0 246 (dk_at dksX8_toldNumber_2 13 rfl rfl)
theorem dX8_toldNumber_62 : decode cX8_toldNumber 62 = .ok (.iload_n 3, 1) := dk_29 (dk_at dksX8_toldNumber_2 16 rfl rfl)
theorem dX8_toldNumber_63 : decode cX8_toldNumber 63 = .ok (.ireturn, 1) := dk_172 (dk_at dksX8_toldNumber_2 17 rfl rfl)
abbrev cX8_wrong : ByteArray := prog_20_method_10_code
def yX8_wrong : MethodName := ⟨RX8, "wrong", "(I)V"⟩
def dkwX8_wrong_1 : List UInt8 := [181, 0, 194, 42, 42, 180, 0, 171, 181, 0, 13, 177]
abbrev dktX8_wrong_1 : List UInt8 := dkwX8_wrong_1 ++ []
def dkwX8_wrong_0 : List UInt8 := [42, 180, 0, 194, 158, 0, 4, 177, 42, 42, 180, 0, 181, 6, 160, 0, 7, 4, 167, 0, 4, 27]
abbrev dktX8_wrong_0 : List UInt8 := dkwX8_wrong_0 ++ dktX8_wrong_1
theorem dksX8_wrong_0 : cX8_wrong.data.toList.drop 0 = dktX8_wrong_0 := by decide +kernel
theorem dksX8_wrong_1 : cX8_wrong.data.toList.drop 22 = dktX8_wrong_1 := dk_seg dksX8_wrong_0 22 rfl rfl
theorem dX8_wrong_0 : decode cX8_wrong 0 = .ok (.aload_n 0, 1) := dk_42 (dk_at dksX8_wrong_0 0 rfl rfl)
theorem dX8_wrong_1 : decode cX8_wrong 1 = .ok (.getfield 194, 3) := dk_180 0 194 (dk_at dksX8_wrong_0 1 rfl rfl)
theorem dX8_wrong_4 : decode cX8_wrong 4 = .ok (.ifCond .le 4, 3) := dk_158 0 4 (dk_at dksX8_wrong_0 4 rfl rfl)
theorem dX8_wrong_7 : decode cX8_wrong 7 = .ok (.return_, 1) := dk_177 (dk_at dksX8_wrong_0 7 rfl rfl)
theorem dX8_wrong_8 : decode cX8_wrong 8 = .ok (.aload_n 0, 1) := dk_42 (dk_at dksX8_wrong_0 8 rfl rfl)
theorem dX8_wrong_9 : decode cX8_wrong 9 = .ok (.aload_n 0, 1) := dk_42 (dk_at dksX8_wrong_0 9 rfl rfl)
theorem dX8_wrong_10 : decode cX8_wrong 10 = .ok (.getfield 181, 3) := dk_180 0 181 (dk_at dksX8_wrong_0 10 rfl rfl)
theorem dX8_wrong_13 : decode cX8_wrong 13 = .ok (.iconst 3, 1) := dk_6 (dk_at dksX8_wrong_0 13 rfl rfl)
theorem dX8_wrong_14 : decode cX8_wrong 14 = .ok (.if_icmp .ne 7, 3) := dk_160 0 7 (dk_at dksX8_wrong_0 14 rfl rfl)
theorem dX8_wrong_17 : decode cX8_wrong 17 = .ok (.iconst 1, 1) := dk_4 (dk_at dksX8_wrong_0 17 rfl rfl)
theorem dX8_wrong_18 : decode cX8_wrong 18 = .ok (.goto 4, 3) := dk_167 0 4 (dk_at dksX8_wrong_0 18 rfl rfl)
theorem dX8_wrong_21 : decode cX8_wrong 21 = .ok (.iload_n 1, 1) := dk_27 (dk_at dksX8_wrong_0 21 rfl rfl)
theorem dX8_wrong_22 : decode cX8_wrong 22 = .ok (.putfield 194, 3) := dk_181 0 194 (dk_at dksX8_wrong_1 0 rfl rfl)
theorem dX8_wrong_25 : decode cX8_wrong 25 = .ok (.aload_n 0, 1) := dk_42 (dk_at dksX8_wrong_1 3 rfl rfl)
theorem dX8_wrong_26 : decode cX8_wrong 26 = .ok (.aload_n 0, 1) := dk_42 (dk_at dksX8_wrong_1 4 rfl rfl)
theorem dX8_wrong_27 : decode cX8_wrong 27 = .ok (.getfield 171, 3) := dk_180 0 171 (dk_at dksX8_wrong_1 5 rfl rfl)
theorem dX8_wrong_30 : decode cX8_wrong 30 = .ok (.putfield 13, 3) := dk_181 0 13 (dk_at dksX8_wrong_1 8 rfl rfl)
theorem dX8_wrong_33 : decode cX8_wrong 33 = .ok (.return_, 1) := dk_177 (dk_at dksX8_wrong_1 11 rfl rfl)
abbrev cX8_told : ByteArray := prog_20_method_16_code
def yX8_told : MethodName := ⟨RX8, "told", "(JII)I"⟩
def dkwX8_told_0 : List UInt8 := [42, 31, 182, 0, 249, 42, 29, 21, 4, 182, 0, 253, 172]
abbrev dktX8_told_0 : List UInt8 := dkwX8_told_0 ++ []
theorem dksX8_told_0 : cX8_told.data.toList.drop 0 = dktX8_told_0 := by decide +kernel
theorem dX8_told_0 : decode cX8_told 0 = .ok (.aload_n 0, 1) := dk_42 (dk_at dksX8_told_0 0 rfl rfl)
theorem dX8_told_1 : decode cX8_told 1 = .ok (.lload_n 1, 1) := dk_31 (dk_at dksX8_told_0 1 rfl rfl)
theorem dX8_told_2 : decode cX8_told 2 = .ok (.invokevirtual 249, 3) := dk_182 0 249 (dk_at dksX8_told_0 2 rfl rfl)
theorem dX8_told_5 : decode cX8_told 5 = .ok (.aload_n 0, 1) := dk_42 (dk_at dksX8_told_0 5 rfl rfl)
theorem dX8_told_6 : decode cX8_told 6 = .ok (.iload_n 3, 1) := dk_29 (dk_at dksX8_told_0 6 rfl rfl)
theorem dX8_told_7 : decode cX8_told 7 = .ok (.iload 4, 2) := dk_21 4 (dk_at dksX8_told_0 7 rfl rfl)
theorem dX8_told_9 : decode cX8_told 9 = .ok (.invokevirtual 253, 3) := dk_182 0 253 (dk_at dksX8_told_0 9 rfl rfl)
theorem dX8_told_12 : decode cX8_told 12 = .ok (.ireturn, 1) := dk_172 (dk_at dksX8_told_0 12 rfl rfl)
abbrev cX8_want : ByteArray := prog_20_method_14_code
def yX8_want : MethodName := ⟨RX8, "want", "(J)V"⟩
def dkwX8_want_1 : List UInt8 := [42, 182, 0, 246, 177]
abbrev dktX8_want_1 : List UInt8 := dkwX8_want_1 ++ []
def dkwX8_want_0 : List UInt8 := [42, 180, 0, 194, 158, 0, 4, 177, 42, 31, 182, 0, 239, 154, 0, 11, 42, 5, 182, 0, 243, 167, 0, 7]
abbrev dktX8_want_0 : List UInt8 := dkwX8_want_0 ++ dktX8_want_1
theorem dksX8_want_0 : cX8_want.data.toList.drop 0 = dktX8_want_0 := by decide +kernel
theorem dksX8_want_1 : cX8_want.data.toList.drop 24 = dktX8_want_1 := dk_seg dksX8_want_0 24 rfl rfl
theorem dX8_want_0 : decode cX8_want 0 = .ok (.aload_n 0, 1) := dk_42 (dk_at dksX8_want_0 0 rfl rfl)
theorem dX8_want_1 : decode cX8_want 1 = .ok (.getfield 194, 3) := dk_180 0 194 (dk_at dksX8_want_0 1 rfl rfl)
theorem dX8_want_4 : decode cX8_want 4 = .ok (.ifCond .le 4, 3) := dk_158 0 4 (dk_at dksX8_want_0 4 rfl rfl)
theorem dX8_want_7 : decode cX8_want 7 = .ok (.return_, 1) := dk_177 (dk_at dksX8_want_0 7 rfl rfl)
theorem dX8_want_8 : decode cX8_want 8 = .ok (.aload_n 0, 1) := dk_42 (dk_at dksX8_want_0 8 rfl rfl)
theorem dX8_want_9 : decode cX8_want 9 = .ok (.lload_n 1, 1) := dk_31 (dk_at dksX8_want_0 9 rfl rfl)
theorem dX8_want_10 : decode cX8_want 10 = .ok (.invokevirtual 239, 3) := dk_182 0 239 (dk_at dksX8_want_0 10 rfl rfl)
theorem dX8_want_13 : decode cX8_want 13 = .ok (.ifCond .ne 11, 3) := dk_154 0 11 (dk_at dksX8_want_0 13 rfl rfl)
theorem dX8_want_16 : decode cX8_want 16 = .ok (.aload_n 0, 1) := dk_42 (dk_at dksX8_want_0 16 rfl rfl)
theorem dX8_want_17 : decode cX8_want 17 = .ok (.iconst 2, 1) := dk_5 (dk_at dksX8_want_0 17 rfl rfl)
theorem dX8_want_18 : decode cX8_want 18 = .ok (.invokevirtual 243, 3) := dk_182 0 243 (dk_at dksX8_want_0 18 rfl rfl)
theorem dX8_want_21 : decode cX8_want 21 = .ok (.goto 7, 3) := dk_167 0 7 (dk_at dksX8_want_0 21 rfl rfl)
theorem dX8_want_24 : decode cX8_want 24 = .ok (.aload_n 0, 1) := dk_42 (dk_at dksX8_want_1 0 rfl rfl)
theorem dX8_want_25 : decode cX8_want 25 = .ok (.invokevirtual 246, 3) := dk_182 0 246 (dk_at dksX8_want_1 1 rfl rfl)
theorem dX8_want_28 : decode cX8_want 28 = .ok (.return_, 1) := dk_177 (dk_at dksX8_want_1 4 rfl rfl)
abbrev cX8_readCurrent : ByteArray := prog_20_method_39_code
def yX8_readCurrent : MethodName := ⟨RX8, "readCurrent", "()V"⟩
def dkwX8_readCurrent_2 : List UInt8 := [27, 79, 42, 89, 180, 1, 95, 4, 96, 181, 1, 95, 177]
abbrev dktX8_readCurrent_2 : List UInt8 := dkwX8_readCurrent_2 ++ []
def dkwX8_readCurrent_1 : List UInt8 := [3, 42, 180, 1, 88, 4, 100, 182, 1, 91, 61, 42, 180, 0, 194, 158, 0, 4, 177, 42, 180, 0, 42, 28]
abbrev dktX8_readCurrent_1 : List UInt8 := dkwX8_readCurrent_1 ++ dktX8_readCurrent_2
def dkwX8_readCurrent_0 : List UInt8 := [42, 182, 0, 246, 42, 3, 16, 7, 182, 0, 253, 60, 42, 20, 0, 203, 182, 0, 249, 42, 42, 180, 0, 42]
abbrev dktX8_readCurrent_0 : List UInt8 := dkwX8_readCurrent_0 ++ dktX8_readCurrent_1
theorem dksX8_readCurrent_0 : cX8_readCurrent.data.toList.drop 0 = dktX8_readCurrent_0 := by decide +kernel
theorem dksX8_readCurrent_1 : cX8_readCurrent.data.toList.drop 24 = dktX8_readCurrent_1 := dk_seg dksX8_readCurrent_0 24 rfl rfl
theorem dksX8_readCurrent_2 : cX8_readCurrent.data.toList.drop 48 = dktX8_readCurrent_2 := dk_seg dksX8_readCurrent_1 24 rfl rfl
theorem dX8_readCurrent_0 : decode cX8_readCurrent 0 = .ok (.aload_n 0, 1) := dk_42 (dk_at dksX8_readCurrent_0 0 rfl rfl)
theorem dX8_readCurrent_1 : decode cX8_readCurrent 1 = .ok (.invokevirtual 246, 3) := dk_182 0 246 (dk_at dksX8_readCurrent_0 1 rfl rfl)
theorem dX8_readCurrent_4 : decode cX8_readCurrent 4 = .ok (.aload_n 0, 1) := dk_42 (dk_at dksX8_readCurrent_0 4 rfl rfl)
theorem dX8_readCurrent_5 : decode cX8_readCurrent 5 = .ok (.iconst 0, 1) := dk_3 (dk_at dksX8_readCurrent_0 5 rfl rfl)
theorem dX8_readCurrent_6 : decode cX8_readCurrent 6 = .ok (.bipush 7, 2) := dk_16 7 (dk_at dksX8_readCurrent_0 6 rfl rfl)
theorem dX8_readCurrent_8 : decode cX8_readCurrent 8 = .ok (.invokevirtual 253, 3) := dk_182 0 253 (dk_at dksX8_readCurrent_0 8 rfl rfl)
theorem dX8_readCurrent_11 : decode cX8_readCurrent 11 = .ok (.istore_n 1, 1) := dk_60 (dk_at dksX8_readCurrent_0 11 rfl rfl)
theorem dX8_readCurrent_12 : decode cX8_readCurrent 12 = .ok (.aload_n 0, 1) := dk_42 (dk_at dksX8_readCurrent_0 12 rfl rfl)
theorem dX8_readCurrent_13 : decode cX8_readCurrent 13 = .ok (.ldc2_w 203, 3) := dk_20 0 203 (dk_at dksX8_readCurrent_0 13 rfl rfl)
theorem dX8_readCurrent_16 : decode cX8_readCurrent 16 = .ok (.invokevirtual 249, 3) := dk_182 0 249 (dk_at dksX8_readCurrent_0 16 rfl rfl)
theorem dX8_readCurrent_19 : decode cX8_readCurrent 19 = .ok (.aload_n 0, 1) := dk_42 (dk_at dksX8_readCurrent_0 19 rfl rfl)
theorem dX8_readCurrent_20 : decode cX8_readCurrent 20 = .ok (.aload_n 0, 1) := dk_42 (dk_at dksX8_readCurrent_0 20 rfl rfl)
theorem dX8_readCurrent_21 : decode cX8_readCurrent 21 = .ok (.getfield 42, 3) := dk_180 0 42 (dk_at dksX8_readCurrent_0 21 rfl rfl)
theorem dX8_readCurrent_24 : decode cX8_readCurrent 24 = .ok (.iconst 0, 1) := dk_3 (dk_at dksX8_readCurrent_1 0 rfl rfl)
theorem dX8_readCurrent_25 : decode cX8_readCurrent 25 = .ok (.aload_n 0, 1) := dk_42 (dk_at dksX8_readCurrent_1 1 rfl rfl)
theorem dX8_readCurrent_26 : decode cX8_readCurrent 26 = .ok (.getfield 344, 3) := dk_180 1 88 (dk_at dksX8_readCurrent_1 2 rfl rfl)
theorem dX8_readCurrent_29 : decode cX8_readCurrent 29 = .ok (.iconst 1, 1) := dk_4 (dk_at dksX8_readCurrent_1 5 rfl rfl)
theorem dX8_readCurrent_30 : decode cX8_readCurrent 30 = .ok (.isub, 1) := dk_100 (dk_at dksX8_readCurrent_1 6 rfl rfl)
theorem dX8_readCurrent_31 : decode cX8_readCurrent 31 = .ok (.invokevirtual 347, 3) := dk_182 1 91 (dk_at dksX8_readCurrent_1 7 rfl rfl)
theorem dX8_readCurrent_34 : decode cX8_readCurrent 34 = .ok (.istore_n 2, 1) := dk_61 (dk_at dksX8_readCurrent_1 10 rfl rfl)
theorem dX8_readCurrent_35 : decode cX8_readCurrent 35 = .ok (.aload_n 0, 1) := dk_42 (dk_at dksX8_readCurrent_1 11 rfl rfl)
theorem dX8_readCurrent_36 : decode cX8_readCurrent 36 = .ok (.getfield 194, 3) := dk_180 0 194 (dk_at dksX8_readCurrent_1 12 rfl rfl)
theorem dX8_readCurrent_39 : decode cX8_readCurrent 39 = .ok (.ifCond .le 4, 3) := dk_158 0 4 (dk_at dksX8_readCurrent_1 15 rfl rfl)
theorem dX8_readCurrent_42 : decode cX8_readCurrent 42 = .ok (.return_, 1) := dk_177 (dk_at dksX8_readCurrent_1 18 rfl rfl)
theorem dX8_readCurrent_43 : decode cX8_readCurrent 43 = .ok (.aload_n 0, 1) := dk_42 (dk_at dksX8_readCurrent_1 19 rfl rfl)
theorem dX8_readCurrent_44 : decode cX8_readCurrent 44 = .ok (.getfield 42, 3) := dk_180 0 42 (dk_at dksX8_readCurrent_1 20 rfl rfl)
theorem dX8_readCurrent_47 : decode cX8_readCurrent 47 = .ok (.iload_n 2, 1) := dk_28 (dk_at dksX8_readCurrent_1 23 rfl rfl)
theorem dX8_readCurrent_48 : decode cX8_readCurrent 48 = .ok (.iload_n 1, 1) := dk_27 (dk_at dksX8_readCurrent_2 0 rfl rfl)
theorem dX8_readCurrent_49 : decode cX8_readCurrent 49 = .ok (.iastore, 1) := dk_79 (dk_at dksX8_readCurrent_2 1 rfl rfl)
theorem dX8_readCurrent_50 : decode cX8_readCurrent 50 = .ok (.aload_n 0, 1) := dk_42 (dk_at dksX8_readCurrent_2 2 rfl rfl)
theorem dX8_readCurrent_51 : decode cX8_readCurrent 51 = .ok (.dup, 1) := dk_89 (dk_at dksX8_readCurrent_2 3 rfl rfl)
theorem dX8_readCurrent_52 : decode cX8_readCurrent 52 = .ok (.getfield 351, 3) := dk_180 1 95 (dk_at dksX8_readCurrent_2 4 rfl rfl)
theorem dX8_readCurrent_55 : decode cX8_readCurrent 55 = .ok (.iconst 1, 1) := dk_4 (dk_at dksX8_readCurrent_2 7 rfl rfl)
theorem dX8_readCurrent_56 : decode cX8_readCurrent 56 = .ok (.iadd, 1) := dk_96 (dk_at dksX8_readCurrent_2 8 rfl rfl)
theorem dX8_readCurrent_57 : decode cX8_readCurrent 57 = .ok (.putfield 351, 3) := dk_181 1 95 (dk_at dksX8_readCurrent_2 9 rfl rfl)
theorem dX8_readCurrent_60 : decode cX8_readCurrent 60 = .ok (.return_, 1) := dk_177 (dk_at dksX8_readCurrent_2 12 rfl rfl)
abbrev cX8_readCell : ByteArray := prog_20_method_38_code
def yX8_readCell : MethodName := ⟨RX8, "readCell", "([III)I"⟩
def dkwX8_readCell_3 : List UInt8 := [104, 21, 4, 96, 172]
abbrev dktX8_readCell_3 : List UInt8 := dkwX8_readCell_3 ++ []
def dkwX8_readCell_2 : List UInt8 := [180, 0, 178, 104, 21, 4, 96, 46, 155, 0, 8, 42, 6, 182, 0, 243, 16, 8, 42, 28, 29, 182, 0, 253]
abbrev dktX8_readCell_2 : List UInt8 := dkwX8_readCell_2 ++ dktX8_readCell_3
def dkwX8_readCell_1 : List UInt8 := [5, 160, 0, 39, 42, 180, 0, 178, 28, 161, 0, 31, 42, 180, 0, 178, 29, 163, 0, 23, 43, 16, 8, 42]
abbrev dktX8_readCell_1 : List UInt8 := dkwX8_readCell_1 ++ dktX8_readCell_2
def dkwX8_readCell_0 : List UInt8 := [42, 3, 42, 180, 1, 81, 4, 100, 182, 0, 253, 54, 4, 42, 180, 0, 194, 154, 0, 47, 42, 180, 0, 181]
abbrev dktX8_readCell_0 : List UInt8 := dkwX8_readCell_0 ++ dktX8_readCell_1
theorem dksX8_readCell_0 : cX8_readCell.data.toList.drop 0 = dktX8_readCell_0 := by decide +kernel
theorem dksX8_readCell_1 : cX8_readCell.data.toList.drop 24 = dktX8_readCell_1 := dk_seg dksX8_readCell_0 24 rfl rfl
theorem dksX8_readCell_2 : cX8_readCell.data.toList.drop 48 = dktX8_readCell_2 := dk_seg dksX8_readCell_1 24 rfl rfl
theorem dksX8_readCell_3 : cX8_readCell.data.toList.drop 72 = dktX8_readCell_3 := dk_seg dksX8_readCell_2 24 rfl rfl
theorem dX8_readCell_0 : decode cX8_readCell 0 = .ok (.aload_n 0, 1) := dk_42 (dk_at dksX8_readCell_0 0 rfl rfl)
theorem dX8_readCell_1 : decode cX8_readCell 1 = .ok (.iconst 0, 1) := dk_3 (dk_at dksX8_readCell_0 1 rfl rfl)
theorem dX8_readCell_2 : decode cX8_readCell 2 = .ok (.aload_n 0, 1) := dk_42 (dk_at dksX8_readCell_0 2 rfl rfl)
theorem dX8_readCell_3 : decode cX8_readCell 3 = .ok (.getfield 337, 3) := dk_180 1 81 (dk_at dksX8_readCell_0 3 rfl rfl)
theorem dX8_readCell_6 : decode cX8_readCell 6 = .ok (.iconst 1, 1) := dk_4 (dk_at dksX8_readCell_0 6 rfl rfl)
theorem dX8_readCell_7 : decode cX8_readCell 7 = .ok (.isub, 1) := dk_100 (dk_at dksX8_readCell_0 7 rfl rfl)
theorem dX8_readCell_8 : decode cX8_readCell 8 = .ok (.invokevirtual 253, 3) := dk_182 0 253 (dk_at dksX8_readCell_0 8 rfl rfl)
theorem dX8_readCell_11 : decode cX8_readCell 11 = .ok (.istore 4, 2) := dk_54 4 (dk_at dksX8_readCell_0 11 rfl rfl)
theorem dX8_readCell_13 : decode cX8_readCell 13 = .ok (.aload_n 0, 1) := dk_42 (dk_at dksX8_readCell_0 13 rfl rfl)
theorem dX8_readCell_14 : decode cX8_readCell 14 = .ok (.getfield 194, 3) := dk_180 0 194 (dk_at dksX8_readCell_0 14 rfl rfl)
theorem dX8_readCell_17 : decode cX8_readCell 17 = .ok (.ifCond .ne 47, 3) := dk_154 0 47 (dk_at dksX8_readCell_0 17 rfl rfl)
theorem dX8_readCell_20 : decode cX8_readCell 20 = .ok (.aload_n 0, 1) := dk_42 (dk_at dksX8_readCell_0 20 rfl rfl)
theorem dX8_readCell_21 : decode cX8_readCell 21 = .ok (.getfield 181, 3) := dk_180 0 181 (dk_at dksX8_readCell_0 21 rfl rfl)
theorem dX8_readCell_24 : decode cX8_readCell 24 = .ok (.iconst 2, 1) := dk_5 (dk_at dksX8_readCell_1 0 rfl rfl)
theorem dX8_readCell_25 : decode cX8_readCell 25 = .ok (.if_icmp .ne 39, 3) := dk_160 0 39 (dk_at dksX8_readCell_1 1 rfl rfl)
theorem dX8_readCell_28 : decode cX8_readCell 28 = .ok (.aload_n 0, 1) := dk_42 (dk_at dksX8_readCell_1 4 rfl rfl)
theorem dX8_readCell_29 : decode cX8_readCell 29 = .ok (.getfield 178, 3) := dk_180 0 178 (dk_at dksX8_readCell_1 5 rfl rfl)
theorem dX8_readCell_32 : decode cX8_readCell 32 = .ok (.iload_n 2, 1) := dk_28 (dk_at dksX8_readCell_1 8 rfl rfl)
theorem dX8_readCell_33 : decode cX8_readCell 33 = .ok (.if_icmp .lt 31, 3) := dk_161 0 31 (dk_at dksX8_readCell_1 9 rfl rfl)
theorem dX8_readCell_36 : decode cX8_readCell 36 = .ok (.aload_n 0, 1) := dk_42 (dk_at dksX8_readCell_1 12 rfl rfl)
theorem dX8_readCell_37 : decode cX8_readCell 37 = .ok (.getfield 178, 3) := dk_180 0 178 (dk_at dksX8_readCell_1 13 rfl rfl)
theorem dX8_readCell_40 : decode cX8_readCell 40 = .ok (.iload_n 3, 1) := dk_29 (dk_at dksX8_readCell_1 16 rfl rfl)
theorem dX8_readCell_41 : decode cX8_readCell 41 = .ok (.if_icmp .gt 23, 3) := dk_163 0 23 (dk_at dksX8_readCell_1 17 rfl rfl)
theorem dX8_readCell_44 : decode cX8_readCell 44 = .ok (.aload_n 1, 1) := dk_43 (dk_at dksX8_readCell_1 20 rfl rfl)
theorem dX8_readCell_45 : decode cX8_readCell 45 = .ok (.bipush 8, 2) := dk_16 8 (dk_at dksX8_readCell_1 21 rfl rfl)
theorem dX8_readCell_47 : decode cX8_readCell 47 = .ok (.aload_n 0, 1) := dk_42 (dk_at dksX8_readCell_1 23 rfl rfl)
theorem dX8_readCell_48 : decode cX8_readCell 48 = .ok (.getfield 178, 3) := dk_180 0 178 (dk_at dksX8_readCell_2 0 rfl rfl)
theorem dX8_readCell_51 : decode cX8_readCell 51 = .ok (.imul, 1) := dk_104 (dk_at dksX8_readCell_2 3 rfl rfl)
theorem dX8_readCell_52 : decode cX8_readCell 52 = .ok (.iload 4, 2) := dk_21 4 (dk_at dksX8_readCell_2 4 rfl rfl)
theorem dX8_readCell_54 : decode cX8_readCell 54 = .ok (.iadd, 1) := dk_96 (dk_at dksX8_readCell_2 6 rfl rfl)
theorem dX8_readCell_55 : decode cX8_readCell 55 = .ok (.iaload, 1) := dk_46 (dk_at dksX8_readCell_2 7 rfl rfl)
theorem dX8_readCell_56 : decode cX8_readCell 56 = .ok (.ifCond .lt 8, 3) := dk_155 0 8 (dk_at dksX8_readCell_2 8 rfl rfl)
theorem dX8_readCell_59 : decode cX8_readCell 59 = .ok (.aload_n 0, 1) := dk_42 (dk_at dksX8_readCell_2 11 rfl rfl)
theorem dX8_readCell_60 : decode cX8_readCell 60 = .ok (.iconst 3, 1) := dk_6 (dk_at dksX8_readCell_2 12 rfl rfl)
theorem dX8_readCell_61 : decode cX8_readCell 61 = .ok (.invokevirtual 243, 3) := dk_182 0 243 (dk_at dksX8_readCell_2 13 rfl rfl)
theorem dX8_readCell_64 : decode cX8_readCell 64 = .ok (.bipush 8, 2) := dk_16 8 (dk_at dksX8_readCell_2 16 rfl rfl)
theorem dX8_readCell_66 : decode cX8_readCell 66 = .ok (.aload_n 0, 1) := dk_42 (dk_at dksX8_readCell_2 18 rfl rfl)
theorem dX8_readCell_67 : decode cX8_readCell 67 = .ok (.iload_n 2, 1) := dk_28 (dk_at dksX8_readCell_2 19 rfl rfl)
theorem dX8_readCell_68 : decode cX8_readCell 68 = .ok (.iload_n 3, 1) := dk_29 (dk_at dksX8_readCell_2 20 rfl rfl)
theorem dX8_readCell_69 : decode cX8_readCell 69 = .ok (.invokevirtual 253, 3) := dk_182 0 253 (dk_at dksX8_readCell_2 21 rfl rfl)
theorem dX8_readCell_72 : decode cX8_readCell 72 = .ok (.imul, 1) := dk_104 (dk_at dksX8_readCell_3 0 rfl rfl)
theorem dX8_readCell_73 : decode cX8_readCell 73 = .ok (.iload 4, 2) := dk_21 4 (dk_at dksX8_readCell_3 1 rfl rfl)
theorem dX8_readCell_75 : decode cX8_readCell 75 = .ok (.iadd, 1) := dk_96 (dk_at dksX8_readCell_3 3 rfl rfl)
theorem dX8_readCell_76 : decode cX8_readCell 76 = .ok (.ireturn, 1) := dk_172 (dk_at dksX8_readCell_3 4 rfl rfl)
abbrev cX8_readIron : ByteArray := prog_20_method_40_code
def yX8_readIron : MethodName := ⟨RX8, "readIron", "()V"⟩
def dkwX8_readIron_1 : List UInt8 := [158, 0, 4, 177, 42, 180, 0, 45, 27, 4, 79, 42, 89, 180, 1, 98, 4, 96, 181, 1, 98, 177]
abbrev dktX8_readIron_1 : List UInt8 := dkwX8_readIron_1 ++ []
def dkwX8_readIron_0 : List UInt8 := [42, 182, 0, 246, 42, 42, 180, 0, 45, 4, 42, 180, 1, 88, 4, 100, 182, 1, 91, 60, 42, 180, 0, 194]
abbrev dktX8_readIron_0 : List UInt8 := dkwX8_readIron_0 ++ dktX8_readIron_1
theorem dksX8_readIron_0 : cX8_readIron.data.toList.drop 0 = dktX8_readIron_0 := by decide +kernel
theorem dksX8_readIron_1 : cX8_readIron.data.toList.drop 24 = dktX8_readIron_1 := dk_seg dksX8_readIron_0 24 rfl rfl
theorem dX8_readIron_0 : decode cX8_readIron 0 = .ok (.aload_n 0, 1) := dk_42 (dk_at dksX8_readIron_0 0 rfl rfl)
theorem dX8_readIron_1 : decode cX8_readIron 1 = .ok (.invokevirtual 246, 3) := dk_182 0 246 (dk_at dksX8_readIron_0 1 rfl rfl)
theorem dX8_readIron_4 : decode cX8_readIron 4 = .ok (.aload_n 0, 1) := dk_42 (dk_at dksX8_readIron_0 4 rfl rfl)
theorem dX8_readIron_5 : decode cX8_readIron 5 = .ok (.aload_n 0, 1) := dk_42 (dk_at dksX8_readIron_0 5 rfl rfl)
theorem dX8_readIron_6 : decode cX8_readIron 6 = .ok (.getfield 45, 3) := dk_180 0 45 (dk_at dksX8_readIron_0 6 rfl rfl)
theorem dX8_readIron_9 : decode cX8_readIron 9 = .ok (.iconst 1, 1) := dk_4 (dk_at dksX8_readIron_0 9 rfl rfl)
theorem dX8_readIron_10 : decode cX8_readIron 10 = .ok (.aload_n 0, 1) := dk_42 (dk_at dksX8_readIron_0 10 rfl rfl)
theorem dX8_readIron_11 : decode cX8_readIron 11 = .ok (.getfield 344, 3) := dk_180 1 88 (dk_at dksX8_readIron_0 11 rfl rfl)
theorem dX8_readIron_14 : decode cX8_readIron 14 = .ok (.iconst 1, 1) := dk_4 (dk_at dksX8_readIron_0 14 rfl rfl)
theorem dX8_readIron_15 : decode cX8_readIron 15 = .ok (.isub, 1) := dk_100 (dk_at dksX8_readIron_0 15 rfl rfl)
theorem dX8_readIron_16 : decode cX8_readIron 16 = .ok (.invokevirtual 347, 3) := dk_182 1 91 (dk_at dksX8_readIron_0 16 rfl rfl)
theorem dX8_readIron_19 : decode cX8_readIron 19 = .ok (.istore_n 1, 1) := dk_60 (dk_at dksX8_readIron_0 19 rfl rfl)
theorem dX8_readIron_20 : decode cX8_readIron 20 = .ok (.aload_n 0, 1) := dk_42 (dk_at dksX8_readIron_0 20 rfl rfl)
theorem dX8_readIron_21 : decode cX8_readIron 21 = .ok (.getfield 194, 3) := dk_180 0 194 (dk_at dksX8_readIron_0 21 rfl rfl)
theorem dX8_readIron_24 : decode cX8_readIron 24 = .ok (.ifCond .le 4, 3) := dk_158 0 4 (dk_at dksX8_readIron_1 0 rfl rfl)
theorem dX8_readIron_27 : decode cX8_readIron 27 = .ok (.return_, 1) := dk_177 (dk_at dksX8_readIron_1 3 rfl rfl)
theorem dX8_readIron_28 : decode cX8_readIron 28 = .ok (.aload_n 0, 1) := dk_42 (dk_at dksX8_readIron_1 4 rfl rfl)
theorem dX8_readIron_29 : decode cX8_readIron 29 = .ok (.getfield 45, 3) := dk_180 0 45 (dk_at dksX8_readIron_1 5 rfl rfl)
theorem dX8_readIron_32 : decode cX8_readIron 32 = .ok (.iload_n 1, 1) := dk_27 (dk_at dksX8_readIron_1 8 rfl rfl)
theorem dX8_readIron_33 : decode cX8_readIron 33 = .ok (.iconst 1, 1) := dk_4 (dk_at dksX8_readIron_1 9 rfl rfl)
theorem dX8_readIron_34 : decode cX8_readIron 34 = .ok (.iastore, 1) := dk_79 (dk_at dksX8_readIron_1 10 rfl rfl)
theorem dX8_readIron_35 : decode cX8_readIron 35 = .ok (.aload_n 0, 1) := dk_42 (dk_at dksX8_readIron_1 11 rfl rfl)
theorem dX8_readIron_36 : decode cX8_readIron 36 = .ok (.dup, 1) := dk_89 (dk_at dksX8_readIron_1 12 rfl rfl)
theorem dX8_readIron_37 : decode cX8_readIron 37 = .ok (.getfield 354, 3) := dk_180 1 98 (dk_at dksX8_readIron_1 13 rfl rfl)
theorem dX8_readIron_40 : decode cX8_readIron 40 = .ok (.iconst 1, 1) := dk_4 (dk_at dksX8_readIron_1 16 rfl rfl)
theorem dX8_readIron_41 : decode cX8_readIron 41 = .ok (.iadd, 1) := dk_96 (dk_at dksX8_readIron_1 17 rfl rfl)
theorem dX8_readIron_42 : decode cX8_readIron 42 = .ok (.putfield 354, 3) := dk_181 1 98 (dk_at dksX8_readIron_1 18 rfl rfl)
theorem dX8_readIron_45 : decode cX8_readIron 45 = .ok (.return_, 1) := dk_177 (dk_at dksX8_readIron_1 21 rfl rfl)
abbrev cX8_readBoard : ByteArray := prog_20_method_41_code
def yX8_readBoard : MethodName := ⟨RX8, "readBoard", "()V"⟩
def dkwX8_readBoard_4 : List UInt8 := [154, 0, 13, 42, 89, 180, 1, 101, 4, 96, 181, 1, 101, 177]
abbrev dktX8_readBoard_4 : List UInt8 := dkwX8_readBoard_4 ++ []
def dkwX8_readBoard_3 : List UInt8 := [153, 0, 16, 42, 20, 0, 211, 3, 16, 99, 182, 1, 84, 167, 0, 5, 16, 20, 79, 42, 180, 0, 194]
abbrev dktX8_readBoard_3 : List UInt8 := dkwX8_readBoard_3 ++ dktX8_readBoard_4
def dkwX8_readBoard_2 : List UInt8 := [182, 1, 84, 79, 42, 180, 0, 54, 27, 42, 180, 0, 194, 154, 0, 26, 42, 20, 0, 211, 182, 0, 239]
abbrev dktX8_readBoard_2 : List UInt8 := dkwX8_readBoard_2 ++ dktX8_readBoard_3
def dkwX8_readBoard_1 : List UInt8 := [16, 99, 182, 1, 84, 79, 42, 180, 0, 51, 27, 42, 20, 0, 203, 3, 42, 180, 1, 81, 4, 100]
abbrev dktX8_readBoard_1 : List UInt8 := dkwX8_readBoard_1 ++ dktX8_readBoard_2
def dkwX8_readBoard_0 : List UInt8 := [42, 3, 42, 180, 1, 101, 182, 1, 104, 42, 180, 1, 101, 60, 42, 180, 0, 48, 27, 42, 20, 0, 209, 3]
abbrev dktX8_readBoard_0 : List UInt8 := dkwX8_readBoard_0 ++ dktX8_readBoard_1
theorem dksX8_readBoard_0 : cX8_readBoard.data.toList.drop 0 = dktX8_readBoard_0 := by decide +kernel
theorem dksX8_readBoard_1 : cX8_readBoard.data.toList.drop 24 = dktX8_readBoard_1 := dk_seg dksX8_readBoard_0 24 rfl rfl
theorem dksX8_readBoard_2 : cX8_readBoard.data.toList.drop 46 = dktX8_readBoard_2 := dk_seg dksX8_readBoard_1 22 rfl rfl
theorem dksX8_readBoard_3 : cX8_readBoard.data.toList.drop 69 = dktX8_readBoard_3 := dk_seg dksX8_readBoard_2 23 rfl rfl
theorem dksX8_readBoard_4 : cX8_readBoard.data.toList.drop 92 = dktX8_readBoard_4 := dk_seg dksX8_readBoard_3 23 rfl rfl
theorem dX8_readBoard_0 : decode cX8_readBoard 0 = .ok (.aload_n 0, 1) := dk_42 (dk_at dksX8_readBoard_0 0 rfl rfl)
theorem dX8_readBoard_1 : decode cX8_readBoard 1 = .ok (.iconst 0, 1) := dk_3 (dk_at dksX8_readBoard_0 1 rfl rfl)
theorem dX8_readBoard_2 : decode cX8_readBoard 2 = .ok (.aload_n 0, 1) := dk_42 (dk_at dksX8_readBoard_0 2 rfl rfl)
theorem dX8_readBoard_3 : decode cX8_readBoard 3 = .ok (.getfield 357, 3) := dk_180 1 101 (dk_at dksX8_readBoard_0 3 rfl rfl)
theorem dX8_readBoard_6 : decode cX8_readBoard 6 = .ok (.invokevirtual 360, 3) := dk_182 1 104 (dk_at dksX8_readBoard_0 6 rfl rfl)
theorem dX8_readBoard_9 : decode cX8_readBoard 9 = .ok (.aload_n 0, 1) := dk_42 (dk_at dksX8_readBoard_0 9 rfl rfl)
theorem dX8_readBoard_10 : decode cX8_readBoard 10 = .ok (.getfield 357, 3) := dk_180 1 101 (dk_at dksX8_readBoard_0 10 rfl rfl)
theorem dX8_readBoard_13 : decode cX8_readBoard 13 = .ok (.istore_n 1, 1) := dk_60 (dk_at dksX8_readBoard_0 13 rfl rfl)
theorem dX8_readBoard_14 : decode cX8_readBoard 14 = .ok (.aload_n 0, 1) := dk_42 (dk_at dksX8_readBoard_0 14 rfl rfl)
theorem dX8_readBoard_15 : decode cX8_readBoard 15 = .ok (.getfield 48, 3) := dk_180 0 48 (dk_at dksX8_readBoard_0 15 rfl rfl)
theorem dX8_readBoard_18 : decode cX8_readBoard 18 = .ok (.iload_n 1, 1) := dk_27 (dk_at dksX8_readBoard_0 18 rfl rfl)
theorem dX8_readBoard_19 : decode cX8_readBoard 19 = .ok (.aload_n 0, 1) := dk_42 (dk_at dksX8_readBoard_0 19 rfl rfl)
theorem dX8_readBoard_20 : decode cX8_readBoard 20 = .ok (.ldc2_w 209, 3) := dk_20 0 209 (dk_at dksX8_readBoard_0 20 rfl rfl)
theorem dX8_readBoard_23 : decode cX8_readBoard 23 = .ok (.iconst 0, 1) := dk_3 (dk_at dksX8_readBoard_0 23 rfl rfl)
theorem dX8_readBoard_24 : decode cX8_readBoard 24 = .ok (.bipush 99, 2) := dk_16 99 (dk_at dksX8_readBoard_1 0 rfl rfl)
theorem dX8_readBoard_26 : decode cX8_readBoard 26 = .ok (.invokevirtual 340, 3) := dk_182 1 84 (dk_at dksX8_readBoard_1 2 rfl rfl)
theorem dX8_readBoard_29 : decode cX8_readBoard 29 = .ok (.iastore, 1) := dk_79 (dk_at dksX8_readBoard_1 5 rfl rfl)
theorem dX8_readBoard_30 : decode cX8_readBoard 30 = .ok (.aload_n 0, 1) := dk_42 (dk_at dksX8_readBoard_1 6 rfl rfl)
theorem dX8_readBoard_31 : decode cX8_readBoard 31 = .ok (.getfield 51, 3) := dk_180 0 51 (dk_at dksX8_readBoard_1 7 rfl rfl)
theorem dX8_readBoard_34 : decode cX8_readBoard 34 = .ok (.iload_n 1, 1) := dk_27 (dk_at dksX8_readBoard_1 10 rfl rfl)
theorem dX8_readBoard_35 : decode cX8_readBoard 35 = .ok (.aload_n 0, 1) := dk_42 (dk_at dksX8_readBoard_1 11 rfl rfl)
theorem dX8_readBoard_36 : decode cX8_readBoard 36 = .ok (.ldc2_w 203, 3) := dk_20 0 203 (dk_at dksX8_readBoard_1 12 rfl rfl)
theorem dX8_readBoard_39 : decode cX8_readBoard 39 = .ok (.iconst 0, 1) := dk_3 (dk_at dksX8_readBoard_1 15 rfl rfl)
theorem dX8_readBoard_40 : decode cX8_readBoard 40 = .ok (.aload_n 0, 1) := dk_42 (dk_at dksX8_readBoard_1 16 rfl rfl)
theorem dX8_readBoard_41 : decode cX8_readBoard 41 = .ok (.getfield 337, 3) := dk_180 1 81 (dk_at dksX8_readBoard_1 17 rfl rfl)
theorem dX8_readBoard_44 : decode cX8_readBoard 44 = .ok (.iconst 1, 1) := dk_4 (dk_at dksX8_readBoard_1 20 rfl rfl)
theorem dX8_readBoard_45 : decode cX8_readBoard 45 = .ok (.isub, 1) := dk_100 (dk_at dksX8_readBoard_1 21 rfl rfl)
theorem dX8_readBoard_46 : decode cX8_readBoard 46 = .ok (.invokevirtual 340, 3) := dk_182 1 84 (dk_at dksX8_readBoard_2 0 rfl rfl)
theorem dX8_readBoard_49 : decode cX8_readBoard 49 = .ok (.iastore, 1) := dk_79 (dk_at dksX8_readBoard_2 3 rfl rfl)
theorem dX8_readBoard_50 : decode cX8_readBoard 50 = .ok (.aload_n 0, 1) := dk_42 (dk_at dksX8_readBoard_2 4 rfl rfl)
theorem dX8_readBoard_51 : decode cX8_readBoard 51 = .ok (.getfield 54, 3) := dk_180 0 54 (dk_at dksX8_readBoard_2 5 rfl rfl)
theorem dX8_readBoard_54 : decode cX8_readBoard 54 = .ok (.iload_n 1, 1) := dk_27 (dk_at dksX8_readBoard_2 8 rfl rfl)
theorem dX8_readBoard_55 : decode cX8_readBoard 55 = .ok (.aload_n 0, 1) := dk_42 (dk_at dksX8_readBoard_2 9 rfl rfl)
theorem dX8_readBoard_56 : decode cX8_readBoard 56 = .ok (.getfield 194, 3) := dk_180 0 194 (dk_at dksX8_readBoard_2 10 rfl rfl)
theorem dX8_readBoard_59 : decode cX8_readBoard 59 = .ok (.ifCond .ne 26, 3) := dk_154 0 26 (dk_at dksX8_readBoard_2 13 rfl rfl)
theorem dX8_readBoard_62 : decode cX8_readBoard 62 = .ok (.aload_n 0, 1) := dk_42 (dk_at dksX8_readBoard_2 16 rfl rfl)
theorem dX8_readBoard_63 : decode cX8_readBoard 63 = .ok (.ldc2_w 211, 3) := dk_20 0 211 (dk_at dksX8_readBoard_2 17 rfl rfl)
theorem dX8_readBoard_66 : decode cX8_readBoard 66 = .ok (.invokevirtual 239, 3) := dk_182 0 239 (dk_at dksX8_readBoard_2 20 rfl rfl)
theorem dX8_readBoard_69 : decode cX8_readBoard 69 = .ok (.ifCond .eq 16, 3) := dk_153 0 16 (dk_at dksX8_readBoard_3 0 rfl rfl)
theorem dX8_readBoard_72 : decode cX8_readBoard 72 = .ok (.aload_n 0, 1) := dk_42 (dk_at dksX8_readBoard_3 3 rfl rfl)
theorem dX8_readBoard_73 : decode cX8_readBoard 73 = .ok (.ldc2_w 211, 3) := dk_20 0 211 (dk_at dksX8_readBoard_3 4 rfl rfl)
theorem dX8_readBoard_76 : decode cX8_readBoard 76 = .ok (.iconst 0, 1) := dk_3 (dk_at dksX8_readBoard_3 7 rfl rfl)
theorem dX8_readBoard_77 : decode cX8_readBoard 77 = .ok (.bipush 99, 2) := dk_16 99 (dk_at dksX8_readBoard_3 8 rfl rfl)
theorem dX8_readBoard_79 : decode cX8_readBoard 79 = .ok (.invokevirtual 340, 3) := dk_182 1 84 (dk_at dksX8_readBoard_3 10 rfl rfl)
theorem dX8_readBoard_82 : decode cX8_readBoard 82 = .ok (.goto 5, 3) := dk_167 0 5 (dk_at dksX8_readBoard_3 13 rfl rfl)
theorem dX8_readBoard_85 : decode cX8_readBoard 85 = .ok (.bipush 20, 2) := dk_16 20 (dk_at dksX8_readBoard_3 16 rfl rfl)
theorem dX8_readBoard_87 : decode cX8_readBoard 87 = .ok (.iastore, 1) := dk_79 (dk_at dksX8_readBoard_3 18 rfl rfl)
theorem dX8_readBoard_88 : decode cX8_readBoard 88 = .ok (.aload_n 0, 1) := dk_42 (dk_at dksX8_readBoard_3 19 rfl rfl)
theorem dX8_readBoard_89 : decode cX8_readBoard 89 = .ok (.getfield 194, 3) := dk_180 0 194 (dk_at dksX8_readBoard_3 20 rfl rfl)
theorem dX8_readBoard_92 : decode cX8_readBoard 92 = .ok (.ifCond .ne 13, 3) := dk_154 0 13 (dk_at dksX8_readBoard_4 0 rfl rfl)
theorem dX8_readBoard_95 : decode cX8_readBoard 95 = .ok (.aload_n 0, 1) := dk_42 (dk_at dksX8_readBoard_4 3 rfl rfl)
theorem dX8_readBoard_96 : decode cX8_readBoard 96 = .ok (.dup, 1) := dk_89 (dk_at dksX8_readBoard_4 4 rfl rfl)
theorem dX8_readBoard_97 : decode cX8_readBoard 97 = .ok (.getfield 357, 3) := dk_180 1 101 (dk_at dksX8_readBoard_4 5 rfl rfl)
theorem dX8_readBoard_100 : decode cX8_readBoard 100 = .ok (.iconst 1, 1) := dk_4 (dk_at dksX8_readBoard_4 8 rfl rfl)
theorem dX8_readBoard_101 : decode cX8_readBoard 101 = .ok (.iadd, 1) := dk_96 (dk_at dksX8_readBoard_4 9 rfl rfl)
theorem dX8_readBoard_102 : decode cX8_readBoard 102 = .ok (.putfield 357, 3) := dk_181 1 101 (dk_at dksX8_readBoard_4 10 rfl rfl)
theorem dX8_readBoard_105 : decode cX8_readBoard 105 = .ok (.return_, 1) := dk_177 (dk_at dksX8_readBoard_4 13 rfl rfl)
abbrev cX8_newName : ByteArray := prog_20_method_17_code
def yX8_newName : MethodName := ⟨RX8, "newName", "(II)V"⟩
def dkwX8_newName_3 : List UInt8 := [42, 180, 0, 174, 80, 42, 182, 0, 246, 177]
abbrev dktX8_newName_3 : List UInt8 := dkwX8_newName_3 ++ []
def dkwX8_newName_2 : List UInt8 := [182, 0, 243, 132, 3, 1, 167, 255, 220, 42, 180, 0, 194, 158, 0, 4, 177, 42, 180, 0, 17, 27, 28, 96]
abbrev dktX8_newName_2 : List UInt8 := dkwX8_newName_2 ++ dktX8_newName_3
def dkwX8_newName_1 : List UInt8 := [180, 0, 194, 154, 0, 30, 42, 180, 0, 17, 27, 29, 96, 47, 42, 180, 0, 174, 148, 154, 0, 8, 42, 6]
abbrev dktX8_newName_1 : List UInt8 := dkwX8_newName_1 ++ dktX8_newName_2
def dkwX8_newName_0 : List UInt8 := [42, 182, 0, 246, 42, 182, 1, 1, 154, 0, 8, 42, 5, 182, 0, 243, 3, 62, 29, 28, 162, 0, 37, 42]
abbrev dktX8_newName_0 : List UInt8 := dkwX8_newName_0 ++ dktX8_newName_1
theorem dksX8_newName_0 : cX8_newName.data.toList.drop 0 = dktX8_newName_0 := by decide +kernel
theorem dksX8_newName_1 : cX8_newName.data.toList.drop 24 = dktX8_newName_1 := dk_seg dksX8_newName_0 24 rfl rfl
theorem dksX8_newName_2 : cX8_newName.data.toList.drop 48 = dktX8_newName_2 := dk_seg dksX8_newName_1 24 rfl rfl
theorem dksX8_newName_3 : cX8_newName.data.toList.drop 72 = dktX8_newName_3 := dk_seg dksX8_newName_2 24 rfl rfl
theorem dX8_newName_0 : decode cX8_newName 0 = .ok (.aload_n 0, 1) := dk_42 (dk_at dksX8_newName_0 0 rfl rfl)
theorem dX8_newName_1 : decode cX8_newName 1 = .ok (.invokevirtual 246, 3) := dk_182 0 246 (dk_at dksX8_newName_0 1 rfl rfl)
theorem dX8_newName_4 : decode cX8_newName 4 = .ok (.aload_n 0, 1) := dk_42 (dk_at dksX8_newName_0 4 rfl rfl)
theorem dX8_newName_5 : decode cX8_newName 5 = .ok (.invokevirtual 257, 3) := dk_182 1 1 (dk_at dksX8_newName_0 5 rfl rfl)
theorem dX8_newName_8 : decode cX8_newName 8 = .ok (.ifCond .ne 8, 3) := dk_154 0 8 (dk_at dksX8_newName_0 8 rfl rfl)
theorem dX8_newName_11 : decode cX8_newName 11 = .ok (.aload_n 0, 1) := dk_42 (dk_at dksX8_newName_0 11 rfl rfl)
theorem dX8_newName_12 : decode cX8_newName 12 = .ok (.iconst 2, 1) := dk_5 (dk_at dksX8_newName_0 12 rfl rfl)
theorem dX8_newName_13 : decode cX8_newName 13 = .ok (.invokevirtual 243, 3) := dk_182 0 243 (dk_at dksX8_newName_0 13 rfl rfl)
theorem dX8_newName_16 : decode cX8_newName 16 = .ok (.iconst 0, 1) := dk_3 (dk_at dksX8_newName_0 16 rfl rfl)
theorem dX8_newName_17 : decode cX8_newName 17 = .ok (.istore_n 3, 1) := dk_62 (dk_at dksX8_newName_0 17 rfl rfl)
theorem dX8_newName_18 : decode cX8_newName 18 = .ok (.iload_n 3, 1) := dk_29 (dk_at dksX8_newName_0 18 rfl rfl)
theorem dX8_newName_19 : decode cX8_newName 19 = .ok (.iload_n 2, 1) := dk_28 (dk_at dksX8_newName_0 19 rfl rfl)
theorem dX8_newName_20 : decode cX8_newName 20 = .ok (.if_icmp .ge 37, 3) := dk_162 0 37 (dk_at dksX8_newName_0 20 rfl rfl)
theorem dX8_newName_23 : decode cX8_newName 23 = .ok (.aload_n 0, 1) := dk_42 (dk_at dksX8_newName_0 23 rfl rfl)
theorem dX8_newName_24 : decode cX8_newName 24 = .ok (.getfield 194, 3) := dk_180 0 194 (dk_at dksX8_newName_1 0 rfl rfl)
theorem dX8_newName_27 : decode cX8_newName 27 = .ok (.ifCond .ne 30, 3) := dk_154 0 30 (dk_at dksX8_newName_1 3 rfl rfl)
theorem dX8_newName_30 : decode cX8_newName 30 = .ok (.aload_n 0, 1) := dk_42 (dk_at dksX8_newName_1 6 rfl rfl)
theorem dX8_newName_31 : decode cX8_newName 31 = .ok (.getfield 17, 3) := dk_180 0 17 (dk_at dksX8_newName_1 7 rfl rfl)
theorem dX8_newName_34 : decode cX8_newName 34 = .ok (.iload_n 1, 1) := dk_27 (dk_at dksX8_newName_1 10 rfl rfl)
theorem dX8_newName_35 : decode cX8_newName 35 = .ok (.iload_n 3, 1) := dk_29 (dk_at dksX8_newName_1 11 rfl rfl)
theorem dX8_newName_36 : decode cX8_newName 36 = .ok (.iadd, 1) := dk_96 (dk_at dksX8_newName_1 12 rfl rfl)
theorem dX8_newName_37 : decode cX8_newName 37 = .ok (.laload, 1) := dk_47 (dk_at dksX8_newName_1 13 rfl rfl)
theorem dX8_newName_38 : decode cX8_newName 38 = .ok (.aload_n 0, 1) := dk_42 (dk_at dksX8_newName_1 14 rfl rfl)
theorem dX8_newName_39 : decode cX8_newName 39 = .ok (.getfield 174, 3) := dk_180 0 174 (dk_at dksX8_newName_1 15 rfl rfl)
theorem dX8_newName_42 : decode cX8_newName 42 = .ok (.lcmp, 1) := dk_148 (dk_at dksX8_newName_1 18 rfl rfl)
theorem dX8_newName_43 : decode cX8_newName 43 = .ok (.ifCond .ne 8, 3) := dk_154 0 8 (dk_at dksX8_newName_1 19 rfl rfl)
theorem dX8_newName_46 : decode cX8_newName 46 = .ok (.aload_n 0, 1) := dk_42 (dk_at dksX8_newName_1 22 rfl rfl)
theorem dX8_newName_47 : decode cX8_newName 47 = .ok (.iconst 3, 1) := dk_6 (dk_at dksX8_newName_1 23 rfl rfl)
theorem dX8_newName_48 : decode cX8_newName 48 = .ok (.invokevirtual 243, 3) := dk_182 0 243 (dk_at dksX8_newName_2 0 rfl rfl)
theorem dX8_newName_51 : decode cX8_newName 51 = .ok (.iinc 3 1, 3) := dk_132 3 1 (dk_at dksX8_newName_2 3 rfl rfl)
theorem dX8_newName_54 : decode cX8_newName 54 = .ok (.goto (-36), 3) := dk_167 255 220 (dk_at dksX8_newName_2 6 rfl rfl)
theorem dX8_newName_57 : decode cX8_newName 57 = .ok (.aload_n 0, 1) := dk_42 (dk_at dksX8_newName_2 9 rfl rfl)
theorem dX8_newName_58 : decode cX8_newName 58 = .ok (.getfield 194, 3) := dk_180 0 194 (dk_at dksX8_newName_2 10 rfl rfl)
theorem dX8_newName_61 : decode cX8_newName 61 = .ok (.ifCond .le 4, 3) := dk_158 0 4 (dk_at dksX8_newName_2 13 rfl rfl)
theorem dX8_newName_64 : decode cX8_newName 64 = .ok (.return_, 1) := dk_177 (dk_at dksX8_newName_2 16 rfl rfl)
theorem dX8_newName_65 : decode cX8_newName 65 = .ok (.aload_n 0, 1) := dk_42 (dk_at dksX8_newName_2 17 rfl rfl)
theorem dX8_newName_66 : decode cX8_newName 66 = .ok (.getfield 17, 3) := dk_180 0 17 (dk_at dksX8_newName_2 18 rfl rfl)
theorem dX8_newName_69 : decode cX8_newName 69 = .ok (.iload_n 1, 1) := dk_27 (dk_at dksX8_newName_2 21 rfl rfl)
theorem dX8_newName_70 : decode cX8_newName 70 = .ok (.iload_n 2, 1) := dk_28 (dk_at dksX8_newName_2 22 rfl rfl)
theorem dX8_newName_71 : decode cX8_newName 71 = .ok (.iadd, 1) := dk_96 (dk_at dksX8_newName_2 23 rfl rfl)
theorem dX8_newName_72 : decode cX8_newName 72 = .ok (.aload_n 0, 1) := dk_42 (dk_at dksX8_newName_3 0 rfl rfl)
theorem dX8_newName_73 : decode cX8_newName 73 = .ok (.getfield 174, 3) := dk_180 0 174 (dk_at dksX8_newName_3 1 rfl rfl)
theorem dX8_newName_76 : decode cX8_newName 76 = .ok (.lastore, 1) := dk_80 (dk_at dksX8_newName_3 4 rfl rfl)
theorem dX8_newName_77 : decode cX8_newName 77 = .ok (.aload_n 0, 1) := dk_42 (dk_at dksX8_newName_3 5 rfl rfl)
theorem dX8_newName_78 : decode cX8_newName 78 = .ok (.invokevirtual 246, 3) := dk_182 0 246 (dk_at dksX8_newName_3 6 rfl rfl)
theorem dX8_newName_81 : decode cX8_newName 81 = .ok (.return_, 1) := dk_177 (dk_at dksX8_newName_3 9 rfl rfl)
abbrev cX8_isName : ByteArray := prog_20_method_13_code
def yX8_isName : MethodName := ⟨RX8, "isName", "()Z"⟩
def dkwX8_isName_0 : List UInt8 := [42, 180, 0, 181, 4, 160, 0, 14, 42, 182, 0, 235, 154, 0, 7, 4, 167, 0, 4, 3, 172]
abbrev dktX8_isName_0 : List UInt8 := dkwX8_isName_0 ++ []
theorem dksX8_isName_0 : cX8_isName.data.toList.drop 0 = dktX8_isName_0 := by decide +kernel
theorem dX8_isName_0 : decode cX8_isName 0 = .ok (.aload_n 0, 1) := dk_42 (dk_at dksX8_isName_0 0 rfl rfl)
theorem dX8_isName_1 : decode cX8_isName 1 = .ok (.getfield 181, 3) := dk_180 0 181 (dk_at dksX8_isName_0 1 rfl rfl)
theorem dX8_isName_4 : decode cX8_isName 4 = .ok (.iconst 1, 1) := dk_4 (dk_at dksX8_isName_0 4 rfl rfl)
theorem dX8_isName_5 : decode cX8_isName 5 = .ok (.if_icmp .ne 14, 3) := dk_160 0 14 (dk_at dksX8_isName_0 5 rfl rfl)
theorem dX8_isName_8 : decode cX8_isName 8 = .ok (.aload_n 0, 1) := dk_42 (dk_at dksX8_isName_0 8 rfl rfl)
theorem dX8_isName_9 : decode cX8_isName 9 = .ok (.invokevirtual 235, 3) := dk_182 0 235 (dk_at dksX8_isName_0 9 rfl rfl)
theorem dX8_isName_12 : decode cX8_isName 12 = .ok (.ifCond .ne 7, 3) := dk_154 0 7 (dk_at dksX8_isName_0 12 rfl rfl)
theorem dX8_isName_15 : decode cX8_isName 15 = .ok (.iconst 1, 1) := dk_4 (dk_at dksX8_isName_0 15 rfl rfl)
theorem dX8_isName_16 : decode cX8_isName 16 = .ok (.goto 4, 3) := dk_167 0 4 (dk_at dksX8_isName_0 16 rfl rfl)
theorem dX8_isName_19 : decode cX8_isName 19 = .ok (.iconst 0, 1) := dk_3 (dk_at dksX8_isName_0 19 rfl rfl)
theorem dX8_isName_20 : decode cX8_isName 20 = .ok (.ireturn, 1) := dk_172 (dk_at dksX8_isName_0 20 rfl rfl)
abbrev cX8_isOwn : ByteArray := prog_20_method_12_code
def yX8_isOwn : MethodName := ⟨RX8, "isOwn", "()Z"⟩
def dkwX8_isOwn_9 : List UInt8 := [180, 0, 174, 20, 0, 233, 148, 154, 0, 7, 4, 167, 0, 4, 3, 172]
abbrev dktX8_isOwn_9 : List UInt8 := dkwX8_isOwn_9 ++ []
def dkwX8_isOwn_8 : List UInt8 := [180, 0, 174, 20, 0, 229, 148, 153, 0, 25, 42, 180, 0, 174, 20, 0, 231, 148, 153, 0, 14, 42]
abbrev dktX8_isOwn_8 : List UInt8 := dkwX8_isOwn_8 ++ dktX8_isOwn_9
def dkwX8_isOwn_7 : List UInt8 := [180, 0, 174, 20, 0, 225, 148, 153, 0, 47, 42, 180, 0, 174, 20, 0, 227, 148, 153, 0, 36, 42]
abbrev dktX8_isOwn_7 : List UInt8 := dkwX8_isOwn_7 ++ dktX8_isOwn_8
def dkwX8_isOwn_6 : List UInt8 := [180, 0, 174, 20, 0, 221, 148, 153, 0, 69, 42, 180, 0, 174, 20, 0, 223, 148, 153, 0, 58, 42]
abbrev dktX8_isOwn_6 : List UInt8 := dkwX8_isOwn_6 ++ dktX8_isOwn_7
def dkwX8_isOwn_5 : List UInt8 := [180, 0, 174, 20, 0, 217, 148, 153, 0, 91, 42, 180, 0, 174, 20, 0, 219, 148, 153, 0, 80, 42]
abbrev dktX8_isOwn_5 : List UInt8 := dkwX8_isOwn_5 ++ dktX8_isOwn_6
def dkwX8_isOwn_4 : List UInt8 := [180, 0, 174, 20, 0, 213, 148, 153, 0, 113, 42, 180, 0, 174, 20, 0, 215, 148, 153, 0, 102, 42]
abbrev dktX8_isOwn_4 : List UInt8 := dkwX8_isOwn_4 ++ dktX8_isOwn_5
def dkwX8_isOwn_3 : List UInt8 := [180, 0, 174, 20, 0, 209, 148, 153, 0, 135, 42, 180, 0, 174, 20, 0, 211, 148, 153, 0, 124, 42]
abbrev dktX8_isOwn_3 : List UInt8 := dkwX8_isOwn_3 ++ dktX8_isOwn_4
def dkwX8_isOwn_2 : List UInt8 := [180, 0, 174, 20, 0, 205, 148, 153, 0, 157, 42, 180, 0, 174, 20, 0, 207, 148, 153, 0, 146, 42]
abbrev dktX8_isOwn_2 : List UInt8 := dkwX8_isOwn_2 ++ dktX8_isOwn_3
def dkwX8_isOwn_1 : List UInt8 := [180, 0, 174, 20, 0, 201, 148, 153, 0, 179, 42, 180, 0, 174, 20, 0, 203, 148, 153, 0, 168, 42]
abbrev dktX8_isOwn_1 : List UInt8 := dkwX8_isOwn_1 ++ dktX8_isOwn_2
def dkwX8_isOwn_0 : List UInt8 := [42, 180, 0, 174, 20, 0, 197, 148, 153, 0, 201, 42, 180, 0, 174, 20, 0, 199, 148, 153, 0, 190, 42]
abbrev dktX8_isOwn_0 : List UInt8 := dkwX8_isOwn_0 ++ dktX8_isOwn_1
theorem dksX8_isOwn_0 : cX8_isOwn.data.toList.drop 0 = dktX8_isOwn_0 := by decide +kernel
theorem dksX8_isOwn_1 : cX8_isOwn.data.toList.drop 23 = dktX8_isOwn_1 := dk_seg dksX8_isOwn_0 23 rfl rfl
theorem dksX8_isOwn_2 : cX8_isOwn.data.toList.drop 45 = dktX8_isOwn_2 := dk_seg dksX8_isOwn_1 22 rfl rfl
theorem dksX8_isOwn_3 : cX8_isOwn.data.toList.drop 67 = dktX8_isOwn_3 := dk_seg dksX8_isOwn_2 22 rfl rfl
theorem dksX8_isOwn_4 : cX8_isOwn.data.toList.drop 89 = dktX8_isOwn_4 := dk_seg dksX8_isOwn_3 22 rfl rfl
theorem dksX8_isOwn_5 : cX8_isOwn.data.toList.drop 111 = dktX8_isOwn_5 := dk_seg dksX8_isOwn_4 22 rfl rfl
theorem dksX8_isOwn_6 : cX8_isOwn.data.toList.drop 133 = dktX8_isOwn_6 := dk_seg dksX8_isOwn_5 22 rfl rfl
theorem dksX8_isOwn_7 : cX8_isOwn.data.toList.drop 155 = dktX8_isOwn_7 := dk_seg dksX8_isOwn_6 22 rfl rfl
theorem dksX8_isOwn_8 : cX8_isOwn.data.toList.drop 177 = dktX8_isOwn_8 := dk_seg dksX8_isOwn_7 22 rfl rfl
theorem dksX8_isOwn_9 : cX8_isOwn.data.toList.drop 199 = dktX8_isOwn_9 := dk_seg dksX8_isOwn_8 22 rfl rfl
theorem dX8_isOwn_0 : decode cX8_isOwn 0 = .ok (.aload_n 0, 1) := dk_42 (dk_at dksX8_isOwn_0 0 rfl rfl)
theorem dX8_isOwn_1 : decode cX8_isOwn 1 = .ok (.getfield 174, 3) := dk_180 0 174 (dk_at dksX8_isOwn_0 1 rfl rfl)
theorem dX8_isOwn_4 : decode cX8_isOwn 4 = .ok (.ldc2_w 197, 3) := dk_20 0 197 (dk_at dksX8_isOwn_0 4 rfl rfl)
theorem dX8_isOwn_7 : decode cX8_isOwn 7 = .ok (.lcmp, 1) := dk_148 (dk_at dksX8_isOwn_0 7 rfl rfl)
theorem dX8_isOwn_8 : decode cX8_isOwn 8 = .ok (.ifCond .eq 201, 3) := dk_153 0 201 (dk_at dksX8_isOwn_0 8 rfl rfl)
theorem dX8_isOwn_11 : decode cX8_isOwn 11 = .ok (.aload_n 0, 1) := dk_42 (dk_at dksX8_isOwn_0 11 rfl rfl)
theorem dX8_isOwn_12 : decode cX8_isOwn 12 = .ok (.getfield 174, 3) := dk_180 0 174 (dk_at dksX8_isOwn_0 12 rfl rfl)
theorem dX8_isOwn_15 : decode cX8_isOwn 15 = .ok (.ldc2_w 199, 3) := dk_20 0 199 (dk_at dksX8_isOwn_0 15 rfl rfl)
theorem dX8_isOwn_18 : decode cX8_isOwn 18 = .ok (.lcmp, 1) := dk_148 (dk_at dksX8_isOwn_0 18 rfl rfl)
theorem dX8_isOwn_19 : decode cX8_isOwn 19 = .ok (.ifCond .eq 190, 3) := dk_153 0 190 (dk_at dksX8_isOwn_0 19 rfl rfl)
theorem dX8_isOwn_22 : decode cX8_isOwn 22 = .ok (.aload_n 0, 1) := dk_42 (dk_at dksX8_isOwn_0 22 rfl rfl)
theorem dX8_isOwn_23 : decode cX8_isOwn 23 = .ok (.getfield 174, 3) := dk_180 0 174 (dk_at dksX8_isOwn_1 0 rfl rfl)
theorem dX8_isOwn_26 : decode cX8_isOwn 26 = .ok (.ldc2_w 201, 3) := dk_20 0 201 (dk_at dksX8_isOwn_1 3 rfl rfl)
theorem dX8_isOwn_29 : decode cX8_isOwn 29 = .ok (.lcmp, 1) := dk_148 (dk_at dksX8_isOwn_1 6 rfl rfl)
theorem dX8_isOwn_30 : decode cX8_isOwn 30 = .ok (.ifCond .eq 179, 3) := dk_153 0 179 (dk_at dksX8_isOwn_1 7 rfl rfl)
theorem dX8_isOwn_33 : decode cX8_isOwn 33 = .ok (.aload_n 0, 1) := dk_42 (dk_at dksX8_isOwn_1 10 rfl rfl)
theorem dX8_isOwn_34 : decode cX8_isOwn 34 = .ok (.getfield 174, 3) := dk_180 0 174 (dk_at dksX8_isOwn_1 11 rfl rfl)
theorem dX8_isOwn_37 : decode cX8_isOwn 37 = .ok (.ldc2_w 203, 3) := dk_20 0 203 (dk_at dksX8_isOwn_1 14 rfl rfl)
theorem dX8_isOwn_40 : decode cX8_isOwn 40 = .ok (.lcmp, 1) := dk_148 (dk_at dksX8_isOwn_1 17 rfl rfl)
theorem dX8_isOwn_41 : decode cX8_isOwn 41 = .ok (.ifCond .eq 168, 3) := dk_153 0 168 (dk_at dksX8_isOwn_1 18 rfl rfl)
theorem dX8_isOwn_44 : decode cX8_isOwn 44 = .ok (.aload_n 0, 1) := dk_42 (dk_at dksX8_isOwn_1 21 rfl rfl)
theorem dX8_isOwn_45 : decode cX8_isOwn 45 = .ok (.getfield 174, 3) := dk_180 0 174 (dk_at dksX8_isOwn_2 0 rfl rfl)
theorem dX8_isOwn_48 : decode cX8_isOwn 48 = .ok (.ldc2_w 205, 3) := dk_20 0 205 (dk_at dksX8_isOwn_2 3 rfl rfl)
theorem dX8_isOwn_51 : decode cX8_isOwn 51 = .ok (.lcmp, 1) := dk_148 (dk_at dksX8_isOwn_2 6 rfl rfl)
theorem dX8_isOwn_52 : decode cX8_isOwn 52 = .ok (.ifCond .eq 157, 3) := dk_153 0 157 (dk_at dksX8_isOwn_2 7 rfl rfl)
theorem dX8_isOwn_55 : decode cX8_isOwn 55 = .ok (.aload_n 0, 1) := dk_42 (dk_at dksX8_isOwn_2 10 rfl rfl)
theorem dX8_isOwn_56 : decode cX8_isOwn 56 = .ok (.getfield 174, 3) := dk_180 0 174 (dk_at dksX8_isOwn_2 11 rfl rfl)
theorem dX8_isOwn_59 : decode cX8_isOwn 59 = .ok (.ldc2_w 207, 3) := dk_20 0 207 (dk_at dksX8_isOwn_2 14 rfl rfl)
theorem dX8_isOwn_62 : decode cX8_isOwn 62 = .ok (.lcmp, 1) := dk_148 (dk_at dksX8_isOwn_2 17 rfl rfl)
theorem dX8_isOwn_63 : decode cX8_isOwn 63 = .ok (.ifCond .eq 146, 3) := dk_153 0 146 (dk_at dksX8_isOwn_2 18 rfl rfl)
theorem dX8_isOwn_66 : decode cX8_isOwn 66 = .ok (.aload_n 0, 1) := dk_42 (dk_at dksX8_isOwn_2 21 rfl rfl)
theorem dX8_isOwn_67 : decode cX8_isOwn 67 = .ok (.getfield 174, 3) := dk_180 0 174 (dk_at dksX8_isOwn_3 0 rfl rfl)
theorem dX8_isOwn_70 : decode cX8_isOwn 70 = .ok (.ldc2_w 209, 3) := dk_20 0 209 (dk_at dksX8_isOwn_3 3 rfl rfl)
theorem dX8_isOwn_73 : decode cX8_isOwn 73 = .ok (.lcmp, 1) := dk_148 (dk_at dksX8_isOwn_3 6 rfl rfl)
theorem dX8_isOwn_74 : decode cX8_isOwn 74 = .ok (.ifCond .eq 135, 3) := dk_153 0 135 (dk_at dksX8_isOwn_3 7 rfl rfl)
theorem dX8_isOwn_77 : decode cX8_isOwn 77 = .ok (.aload_n 0, 1) := dk_42 (dk_at dksX8_isOwn_3 10 rfl rfl)
theorem dX8_isOwn_78 : decode cX8_isOwn 78 = .ok (.getfield 174, 3) := dk_180 0 174 (dk_at dksX8_isOwn_3 11 rfl rfl)
theorem dX8_isOwn_81 : decode cX8_isOwn 81 = .ok (.ldc2_w 211, 3) := dk_20 0 211 (dk_at dksX8_isOwn_3 14 rfl rfl)
theorem dX8_isOwn_84 : decode cX8_isOwn 84 = .ok (.lcmp, 1) := dk_148 (dk_at dksX8_isOwn_3 17 rfl rfl)
theorem dX8_isOwn_85 : decode cX8_isOwn 85 = .ok (.ifCond .eq 124, 3) := dk_153 0 124 (dk_at dksX8_isOwn_3 18 rfl rfl)
theorem dX8_isOwn_88 : decode cX8_isOwn 88 = .ok (.aload_n 0, 1) := dk_42 (dk_at dksX8_isOwn_3 21 rfl rfl)
theorem dX8_isOwn_89 : decode cX8_isOwn 89 = .ok (.getfield 174, 3) := dk_180 0 174 (dk_at dksX8_isOwn_4 0 rfl rfl)
theorem dX8_isOwn_92 : decode cX8_isOwn 92 = .ok (.ldc2_w 213, 3) := dk_20 0 213 (dk_at dksX8_isOwn_4 3 rfl rfl)
theorem dX8_isOwn_95 : decode cX8_isOwn 95 = .ok (.lcmp, 1) := dk_148 (dk_at dksX8_isOwn_4 6 rfl rfl)
theorem dX8_isOwn_96 : decode cX8_isOwn 96 = .ok (.ifCond .eq 113, 3) := dk_153 0 113 (dk_at dksX8_isOwn_4 7 rfl rfl)
theorem dX8_isOwn_99 : decode cX8_isOwn 99 = .ok (.aload_n 0, 1) := dk_42 (dk_at dksX8_isOwn_4 10 rfl rfl)
theorem dX8_isOwn_100 : decode cX8_isOwn 100 = .ok (.getfield 174, 3) := dk_180 0 174 (dk_at dksX8_isOwn_4 11 rfl rfl)
theorem dX8_isOwn_103 : decode cX8_isOwn 103 = .ok (.ldc2_w 215, 3) := dk_20 0 215 (dk_at dksX8_isOwn_4 14 rfl rfl)
theorem dX8_isOwn_106 : decode cX8_isOwn 106 = .ok (.lcmp, 1) := dk_148 (dk_at dksX8_isOwn_4 17 rfl rfl)
theorem dX8_isOwn_107 : decode cX8_isOwn 107 = .ok (.ifCond .eq 102, 3) := dk_153 0 102 (dk_at dksX8_isOwn_4 18 rfl rfl)
theorem dX8_isOwn_110 : decode cX8_isOwn 110 = .ok (.aload_n 0, 1) := dk_42 (dk_at dksX8_isOwn_4 21 rfl rfl)
theorem dX8_isOwn_111 : decode cX8_isOwn 111 = .ok (.getfield 174, 3) := dk_180 0 174 (dk_at dksX8_isOwn_5 0 rfl rfl)
theorem dX8_isOwn_114 : decode cX8_isOwn 114 = .ok (.ldc2_w 217, 3) := dk_20 0 217 (dk_at dksX8_isOwn_5 3 rfl rfl)
theorem dX8_isOwn_117 : decode cX8_isOwn 117 = .ok (.lcmp, 1) := dk_148 (dk_at dksX8_isOwn_5 6 rfl rfl)
theorem dX8_isOwn_118 : decode cX8_isOwn 118 = .ok (.ifCond .eq 91, 3) := dk_153 0 91 (dk_at dksX8_isOwn_5 7 rfl rfl)
theorem dX8_isOwn_121 : decode cX8_isOwn 121 = .ok (.aload_n 0, 1) := dk_42 (dk_at dksX8_isOwn_5 10 rfl rfl)
theorem dX8_isOwn_122 : decode cX8_isOwn 122 = .ok (.getfield 174, 3) := dk_180 0 174 (dk_at dksX8_isOwn_5 11 rfl rfl)
theorem dX8_isOwn_125 : decode cX8_isOwn 125 = .ok (.ldc2_w 219, 3) := dk_20 0 219 (dk_at dksX8_isOwn_5 14 rfl rfl)
theorem dX8_isOwn_128 : decode cX8_isOwn 128 = .ok (.lcmp, 1) := dk_148 (dk_at dksX8_isOwn_5 17 rfl rfl)
theorem dX8_isOwn_129 : decode cX8_isOwn 129 = .ok (.ifCond .eq 80, 3) := dk_153 0 80 (dk_at dksX8_isOwn_5 18 rfl rfl)
theorem dX8_isOwn_132 : decode cX8_isOwn 132 = .ok (.aload_n 0, 1) := dk_42 (dk_at dksX8_isOwn_5 21 rfl rfl)
theorem dX8_isOwn_133 : decode cX8_isOwn 133 = .ok (.getfield 174, 3) := dk_180 0 174 (dk_at dksX8_isOwn_6 0 rfl rfl)
theorem dX8_isOwn_136 : decode cX8_isOwn 136 = .ok (.ldc2_w 221, 3) := dk_20 0 221 (dk_at dksX8_isOwn_6 3 rfl rfl)
theorem dX8_isOwn_139 : decode cX8_isOwn 139 = .ok (.lcmp, 1) := dk_148 (dk_at dksX8_isOwn_6 6 rfl rfl)
theorem dX8_isOwn_140 : decode cX8_isOwn 140 = .ok (.ifCond .eq 69, 3) := dk_153 0 69 (dk_at dksX8_isOwn_6 7 rfl rfl)
theorem dX8_isOwn_143 : decode cX8_isOwn 143 = .ok (.aload_n 0, 1) := dk_42 (dk_at dksX8_isOwn_6 10 rfl rfl)
theorem dX8_isOwn_144 : decode cX8_isOwn 144 = .ok (.getfield 174, 3) := dk_180 0 174 (dk_at dksX8_isOwn_6 11 rfl rfl)
theorem dX8_isOwn_147 : decode cX8_isOwn 147 = .ok (.ldc2_w 223, 3) := dk_20 0 223 (dk_at dksX8_isOwn_6 14 rfl rfl)
theorem dX8_isOwn_150 : decode cX8_isOwn 150 = .ok (.lcmp, 1) := dk_148 (dk_at dksX8_isOwn_6 17 rfl rfl)
theorem dX8_isOwn_151 : decode cX8_isOwn 151 = .ok (.ifCond .eq 58, 3) := dk_153 0 58 (dk_at dksX8_isOwn_6 18 rfl rfl)
theorem dX8_isOwn_154 : decode cX8_isOwn 154 = .ok (.aload_n 0, 1) := dk_42 (dk_at dksX8_isOwn_6 21 rfl rfl)
theorem dX8_isOwn_155 : decode cX8_isOwn 155 = .ok (.getfield 174, 3) := dk_180 0 174 (dk_at dksX8_isOwn_7 0 rfl rfl)
theorem dX8_isOwn_158 : decode cX8_isOwn 158 = .ok (.ldc2_w 225, 3) := dk_20 0 225 (dk_at dksX8_isOwn_7 3 rfl rfl)
theorem dX8_isOwn_161 : decode cX8_isOwn 161 = .ok (.lcmp, 1) := dk_148 (dk_at dksX8_isOwn_7 6 rfl rfl)
theorem dX8_isOwn_162 : decode cX8_isOwn 162 = .ok (.ifCond .eq 47, 3) := dk_153 0 47 (dk_at dksX8_isOwn_7 7 rfl rfl)
theorem dX8_isOwn_165 : decode cX8_isOwn 165 = .ok (.aload_n 0, 1) := dk_42 (dk_at dksX8_isOwn_7 10 rfl rfl)
theorem dX8_isOwn_166 : decode cX8_isOwn 166 = .ok (.getfield 174, 3) := dk_180 0 174 (dk_at dksX8_isOwn_7 11 rfl rfl)
theorem dX8_isOwn_169 : decode cX8_isOwn 169 = .ok (.ldc2_w 227, 3) := dk_20 0 227 (dk_at dksX8_isOwn_7 14 rfl rfl)
theorem dX8_isOwn_172 : decode cX8_isOwn 172 = .ok (.lcmp, 1) := dk_148 (dk_at dksX8_isOwn_7 17 rfl rfl)
theorem dX8_isOwn_173 : decode cX8_isOwn 173 = .ok (.ifCond .eq 36, 3) := dk_153 0 36 (dk_at dksX8_isOwn_7 18 rfl rfl)
theorem dX8_isOwn_176 : decode cX8_isOwn 176 = .ok (.aload_n 0, 1) := dk_42 (dk_at dksX8_isOwn_7 21 rfl rfl)
theorem dX8_isOwn_177 : decode cX8_isOwn 177 = .ok (.getfield 174, 3) := dk_180 0 174 (dk_at dksX8_isOwn_8 0 rfl rfl)
theorem dX8_isOwn_180 : decode cX8_isOwn 180 = .ok (.ldc2_w 229, 3) := dk_20 0 229 (dk_at dksX8_isOwn_8 3 rfl rfl)
theorem dX8_isOwn_183 : decode cX8_isOwn 183 = .ok (.lcmp, 1) := dk_148 (dk_at dksX8_isOwn_8 6 rfl rfl)
theorem dX8_isOwn_184 : decode cX8_isOwn 184 = .ok (.ifCond .eq 25, 3) := dk_153 0 25 (dk_at dksX8_isOwn_8 7 rfl rfl)
theorem dX8_isOwn_187 : decode cX8_isOwn 187 = .ok (.aload_n 0, 1) := dk_42 (dk_at dksX8_isOwn_8 10 rfl rfl)
theorem dX8_isOwn_188 : decode cX8_isOwn 188 = .ok (.getfield 174, 3) := dk_180 0 174 (dk_at dksX8_isOwn_8 11 rfl rfl)
theorem dX8_isOwn_191 : decode cX8_isOwn 191 = .ok (.ldc2_w 231, 3) := dk_20 0 231 (dk_at dksX8_isOwn_8 14 rfl rfl)
theorem dX8_isOwn_194 : decode cX8_isOwn 194 = .ok (.lcmp, 1) := dk_148 (dk_at dksX8_isOwn_8 17 rfl rfl)
theorem dX8_isOwn_195 : decode cX8_isOwn 195 = .ok (.ifCond .eq 14, 3) := dk_153 0 14 (dk_at dksX8_isOwn_8 18 rfl rfl)
theorem dX8_isOwn_198 : decode cX8_isOwn 198 = .ok (.aload_n 0, 1) := dk_42 (dk_at dksX8_isOwn_8 21 rfl rfl)
theorem dX8_isOwn_199 : decode cX8_isOwn 199 = .ok (.getfield 174, 3) := dk_180 0 174 (dk_at dksX8_isOwn_9 0 rfl rfl)
theorem dX8_isOwn_202 : decode cX8_isOwn 202 = .ok (.ldc2_w 233, 3) := dk_20 0 233 (dk_at dksX8_isOwn_9 3 rfl rfl)
theorem dX8_isOwn_205 : decode cX8_isOwn 205 = .ok (.lcmp, 1) := dk_148 (dk_at dksX8_isOwn_9 6 rfl rfl)
theorem dX8_isOwn_206 : decode cX8_isOwn 206 = .ok (.ifCond .ne 7, 3) := dk_154 0 7 (dk_at dksX8_isOwn_9 7 rfl rfl)
theorem dX8_isOwn_209 : decode cX8_isOwn 209 = .ok (.iconst 1, 1) := dk_4 (dk_at dksX8_isOwn_9 10 rfl rfl)
theorem dX8_isOwn_210 : decode cX8_isOwn 210 = .ok (.goto 4, 3) := dk_167 0 4 (dk_at dksX8_isOwn_9 11 rfl rfl)
theorem dX8_isOwn_213 : decode cX8_isOwn 213 = .ok (.iconst 0, 1) := dk_3 (dk_at dksX8_isOwn_9 14 rfl rfl)
theorem dX8_isOwn_214 : decode cX8_isOwn 214 = .ok (.ireturn, 1) := dk_172 (dk_at dksX8_isOwn_9 15 rfl rfl)
abbrev cX8_readLoad : ByteArray := prog_20_method_42_code
def yX8_readLoad : MethodName := ⟨RX8, "readLoad", "()V"⟩
def dkwX8_readLoad_1 : List UInt8 := [182, 1, 84, 79, 42, 180, 0, 194, 154, 0, 13, 42, 89, 180, 1, 107, 4, 96, 181, 1, 107, 177]
abbrev dktX8_readLoad_1 : List UInt8 := dkwX8_readLoad_1 ++ []
def dkwX8_readLoad_0 : List UInt8 := [42, 7, 42, 180, 1, 107, 182, 1, 104, 42, 180, 0, 57, 42, 180, 1, 107, 42, 20, 0, 209, 3, 16, 99]
abbrev dktX8_readLoad_0 : List UInt8 := dkwX8_readLoad_0 ++ dktX8_readLoad_1
theorem dksX8_readLoad_0 : cX8_readLoad.data.toList.drop 0 = dktX8_readLoad_0 := by decide +kernel
theorem dksX8_readLoad_1 : cX8_readLoad.data.toList.drop 24 = dktX8_readLoad_1 := dk_seg dksX8_readLoad_0 24 rfl rfl
theorem dX8_readLoad_0 : decode cX8_readLoad 0 = .ok (.aload_n 0, 1) := dk_42 (dk_at dksX8_readLoad_0 0 rfl rfl)
theorem dX8_readLoad_1 : decode cX8_readLoad 1 = .ok (.iconst 4, 1) := dk_7 (dk_at dksX8_readLoad_0 1 rfl rfl)
theorem dX8_readLoad_2 : decode cX8_readLoad 2 = .ok (.aload_n 0, 1) := dk_42 (dk_at dksX8_readLoad_0 2 rfl rfl)
theorem dX8_readLoad_3 : decode cX8_readLoad 3 = .ok (.getfield 363, 3) := dk_180 1 107 (dk_at dksX8_readLoad_0 3 rfl rfl)
theorem dX8_readLoad_6 : decode cX8_readLoad 6 = .ok (.invokevirtual 360, 3) := dk_182 1 104 (dk_at dksX8_readLoad_0 6 rfl rfl)
theorem dX8_readLoad_9 : decode cX8_readLoad 9 = .ok (.aload_n 0, 1) := dk_42 (dk_at dksX8_readLoad_0 9 rfl rfl)
theorem dX8_readLoad_10 : decode cX8_readLoad 10 = .ok (.getfield 57, 3) := dk_180 0 57 (dk_at dksX8_readLoad_0 10 rfl rfl)
theorem dX8_readLoad_13 : decode cX8_readLoad 13 = .ok (.aload_n 0, 1) := dk_42 (dk_at dksX8_readLoad_0 13 rfl rfl)
theorem dX8_readLoad_14 : decode cX8_readLoad 14 = .ok (.getfield 363, 3) := dk_180 1 107 (dk_at dksX8_readLoad_0 14 rfl rfl)
theorem dX8_readLoad_17 : decode cX8_readLoad 17 = .ok (.aload_n 0, 1) := dk_42 (dk_at dksX8_readLoad_0 17 rfl rfl)
theorem dX8_readLoad_18 : decode cX8_readLoad 18 = .ok (.ldc2_w 209, 3) := dk_20 0 209 (dk_at dksX8_readLoad_0 18 rfl rfl)
theorem dX8_readLoad_21 : decode cX8_readLoad 21 = .ok (.iconst 0, 1) := dk_3 (dk_at dksX8_readLoad_0 21 rfl rfl)
theorem dX8_readLoad_22 : decode cX8_readLoad 22 = .ok (.bipush 99, 2) := dk_16 99 (dk_at dksX8_readLoad_0 22 rfl rfl)
theorem dX8_readLoad_24 : decode cX8_readLoad 24 = .ok (.invokevirtual 340, 3) := dk_182 1 84 (dk_at dksX8_readLoad_1 0 rfl rfl)
theorem dX8_readLoad_27 : decode cX8_readLoad 27 = .ok (.iastore, 1) := dk_79 (dk_at dksX8_readLoad_1 3 rfl rfl)
theorem dX8_readLoad_28 : decode cX8_readLoad 28 = .ok (.aload_n 0, 1) := dk_42 (dk_at dksX8_readLoad_1 4 rfl rfl)
theorem dX8_readLoad_29 : decode cX8_readLoad 29 = .ok (.getfield 194, 3) := dk_180 0 194 (dk_at dksX8_readLoad_1 5 rfl rfl)
theorem dX8_readLoad_32 : decode cX8_readLoad 32 = .ok (.ifCond .ne 13, 3) := dk_154 0 13 (dk_at dksX8_readLoad_1 8 rfl rfl)
theorem dX8_readLoad_35 : decode cX8_readLoad 35 = .ok (.aload_n 0, 1) := dk_42 (dk_at dksX8_readLoad_1 11 rfl rfl)
theorem dX8_readLoad_36 : decode cX8_readLoad 36 = .ok (.dup, 1) := dk_89 (dk_at dksX8_readLoad_1 12 rfl rfl)
theorem dX8_readLoad_37 : decode cX8_readLoad 37 = .ok (.getfield 363, 3) := dk_180 1 107 (dk_at dksX8_readLoad_1 13 rfl rfl)
theorem dX8_readLoad_40 : decode cX8_readLoad 40 = .ok (.iconst 1, 1) := dk_4 (dk_at dksX8_readLoad_1 16 rfl rfl)
theorem dX8_readLoad_41 : decode cX8_readLoad 41 = .ok (.iadd, 1) := dk_96 (dk_at dksX8_readLoad_1 17 rfl rfl)
theorem dX8_readLoad_42 : decode cX8_readLoad 42 = .ok (.putfield 363, 3) := dk_181 1 107 (dk_at dksX8_readLoad_1 18 rfl rfl)
theorem dX8_readLoad_45 : decode cX8_readLoad 45 = .ok (.return_, 1) := dk_177 (dk_at dksX8_readLoad_1 21 rfl rfl)
abbrev cX8_formula : ByteArray := prog_20_method_30_code
def yX8_formula : MethodName := ⟨RX8, "formula", "()V"⟩
def dkwX8_formula_8 : List UInt8 := [154, 0, 8, 42, 3, 182, 1, 55, 177]
abbrev dktX8_formula_8 : List UInt8 := dkwX8_formula_8 ++ []
def dkwX8_formula_7 : List UInt8 := [42, 180, 0, 194, 154, 0, 15, 42, 182, 1, 52, 153, 0, 8, 42, 5, 182, 0, 243, 42, 180, 0, 194]
abbrev dktX8_formula_7 : List UInt8 := dkwX8_formula_7 ++ dktX8_formula_8
def dkwX8_formula_6 : List UInt8 := [180, 1, 7, 4, 96, 181, 1, 7, 42, 182, 0, 246, 42, 182, 1, 46, 167, 0, 5, 3, 60, 167, 255, 132]
abbrev dktX8_formula_6 : List UInt8 := dkwX8_formula_6 ++ dktX8_formula_7
def dkwX8_formula_5 : List UInt8 := [154, 0, 42, 42, 28, 184, 1, 10, 182, 1, 55, 42, 180, 0, 33, 42, 180, 1, 7, 28, 79, 42, 89]
abbrev dktX8_formula_5 : List UInt8 := dkwX8_formula_5 ++ dktX8_formula_6
def dkwX8_formula_4 : List UInt8 := [182, 0, 246, 167, 0, 63, 28, 153, 0, 57, 28, 184, 1, 10, 7, 160, 0, 10, 42, 182, 1, 58]
abbrev dktX8_formula_4 : List UInt8 := dkwX8_formula_4 ++ dktX8_formula_5
def dkwX8_formula_3 : List UInt8 := [182, 1, 55, 42, 89, 180, 1, 7, 4, 100, 181, 1, 7, 42, 89, 180, 1, 17, 4, 100, 181, 1, 17, 42]
abbrev dktX8_formula_3 : List UInt8 := dkwX8_formula_3 ++ dktX8_formula_4
def dkwX8_formula_2 : List UInt8 := [182, 1, 49, 61, 42, 180, 0, 181, 16, 41, 160, 0, 42, 42, 182, 1, 52, 153, 0, 35, 42, 3]
abbrev dktX8_formula_2 : List UInt8 := dkwX8_formula_2 ++ dktX8_formula_3
def dkwX8_formula_1 : List UInt8 := [42, 3, 181, 1, 23, 42, 182, 1, 46, 4, 60, 27, 153, 0, 126, 42, 180, 0, 194, 154, 0, 119, 42]
abbrev dktX8_formula_1 : List UInt8 := dkwX8_formula_1 ++ dktX8_formula_2
def dkwX8_formula_0 : List UInt8 := [42, 182, 0, 246, 42, 4, 181, 1, 42, 42, 3, 181, 1, 4, 42, 3, 181, 1, 7, 42, 3, 181, 1, 17]
abbrev dktX8_formula_0 : List UInt8 := dkwX8_formula_0 ++ dktX8_formula_1
theorem dksX8_formula_0 : cX8_formula.data.toList.drop 0 = dktX8_formula_0 := by decide +kernel
theorem dksX8_formula_1 : cX8_formula.data.toList.drop 24 = dktX8_formula_1 := dk_seg dksX8_formula_0 24 rfl rfl
theorem dksX8_formula_2 : cX8_formula.data.toList.drop 47 = dktX8_formula_2 := dk_seg dksX8_formula_1 23 rfl rfl
theorem dksX8_formula_3 : cX8_formula.data.toList.drop 69 = dktX8_formula_3 := dk_seg dksX8_formula_2 22 rfl rfl
theorem dksX8_formula_4 : cX8_formula.data.toList.drop 93 = dktX8_formula_4 := dk_seg dksX8_formula_3 24 rfl rfl
theorem dksX8_formula_5 : cX8_formula.data.toList.drop 115 = dktX8_formula_5 := dk_seg dksX8_formula_4 22 rfl rfl
theorem dksX8_formula_6 : cX8_formula.data.toList.drop 138 = dktX8_formula_6 := dk_seg dksX8_formula_5 23 rfl rfl
theorem dksX8_formula_7 : cX8_formula.data.toList.drop 162 = dktX8_formula_7 := dk_seg dksX8_formula_6 24 rfl rfl
theorem dksX8_formula_8 : cX8_formula.data.toList.drop 185 = dktX8_formula_8 := dk_seg dksX8_formula_7 23 rfl rfl
theorem dX8_formula_0 : decode cX8_formula 0 = .ok (.aload_n 0, 1) := dk_42 (dk_at dksX8_formula_0 0 rfl rfl)
theorem dX8_formula_1 : decode cX8_formula 1 = .ok (.invokevirtual 246, 3) := dk_182 0 246 (dk_at dksX8_formula_0 1 rfl rfl)
theorem dX8_formula_4 : decode cX8_formula 4 = .ok (.aload_n 0, 1) := dk_42 (dk_at dksX8_formula_0 4 rfl rfl)
theorem dX8_formula_5 : decode cX8_formula 5 = .ok (.iconst 1, 1) := dk_4 (dk_at dksX8_formula_0 5 rfl rfl)
theorem dX8_formula_6 : decode cX8_formula 6 = .ok (.putfield 298, 3) := dk_181 1 42 (dk_at dksX8_formula_0 6 rfl rfl)
theorem dX8_formula_9 : decode cX8_formula 9 = .ok (.aload_n 0, 1) := dk_42 (dk_at dksX8_formula_0 9 rfl rfl)
theorem dX8_formula_10 : decode cX8_formula 10 = .ok (.iconst 0, 1) := dk_3 (dk_at dksX8_formula_0 10 rfl rfl)
theorem dX8_formula_11 : decode cX8_formula 11 = .ok (.putfield 260, 3) := dk_181 1 4 (dk_at dksX8_formula_0 11 rfl rfl)
theorem dX8_formula_14 : decode cX8_formula 14 = .ok (.aload_n 0, 1) := dk_42 (dk_at dksX8_formula_0 14 rfl rfl)
theorem dX8_formula_15 : decode cX8_formula 15 = .ok (.iconst 0, 1) := dk_3 (dk_at dksX8_formula_0 15 rfl rfl)
theorem dX8_formula_16 : decode cX8_formula 16 = .ok (.putfield 263, 3) := dk_181 1 7 (dk_at dksX8_formula_0 16 rfl rfl)
theorem dX8_formula_19 : decode cX8_formula 19 = .ok (.aload_n 0, 1) := dk_42 (dk_at dksX8_formula_0 19 rfl rfl)
theorem dX8_formula_20 : decode cX8_formula 20 = .ok (.iconst 0, 1) := dk_3 (dk_at dksX8_formula_0 20 rfl rfl)
theorem dX8_formula_21 : decode cX8_formula 21 = .ok (.putfield 273, 3) := dk_181 1 17 (dk_at dksX8_formula_0 21 rfl rfl)
theorem dX8_formula_24 : decode cX8_formula 24 = .ok (.aload_n 0, 1) := dk_42 (dk_at dksX8_formula_1 0 rfl rfl)
theorem dX8_formula_25 : decode cX8_formula 25 = .ok (.iconst 0, 1) := dk_3 (dk_at dksX8_formula_1 1 rfl rfl)
theorem dX8_formula_26 : decode cX8_formula 26 = .ok (.putfield 279, 3) := dk_181 1 23 (dk_at dksX8_formula_1 2 rfl rfl)
theorem dX8_formula_29 : decode cX8_formula 29 = .ok (.aload_n 0, 1) := dk_42 (dk_at dksX8_formula_1 5 rfl rfl)
theorem dX8_formula_30 : decode cX8_formula 30 = .ok (.invokevirtual 302, 3) := dk_182 1 46 (dk_at dksX8_formula_1 6 rfl rfl)
theorem dX8_formula_33 : decode cX8_formula 33 = .ok (.iconst 1, 1) := dk_4 (dk_at dksX8_formula_1 9 rfl rfl)
theorem dX8_formula_34 : decode cX8_formula 34 = .ok (.istore_n 1, 1) := dk_60 (dk_at dksX8_formula_1 10 rfl rfl)
theorem dX8_formula_35 : decode cX8_formula 35 = .ok (.iload_n 1, 1) := dk_27 (dk_at dksX8_formula_1 11 rfl rfl)
theorem dX8_formula_36 : decode cX8_formula 36 = .ok (.ifCond .eq 126, 3) := dk_153 0 126 (dk_at dksX8_formula_1 12 rfl rfl)
theorem dX8_formula_39 : decode cX8_formula 39 = .ok (.aload_n 0, 1) := dk_42 (dk_at dksX8_formula_1 15 rfl rfl)
theorem dX8_formula_40 : decode cX8_formula 40 = .ok (.getfield 194, 3) := dk_180 0 194 (dk_at dksX8_formula_1 16 rfl rfl)
theorem dX8_formula_43 : decode cX8_formula 43 = .ok (.ifCond .ne 119, 3) := dk_154 0 119 (dk_at dksX8_formula_1 19 rfl rfl)
theorem dX8_formula_46 : decode cX8_formula 46 = .ok (.aload_n 0, 1) := dk_42 (dk_at dksX8_formula_1 22 rfl rfl)
theorem dX8_formula_47 : decode cX8_formula 47 = .ok (.invokevirtual 305, 3) := dk_182 1 49 (dk_at dksX8_formula_2 0 rfl rfl)
theorem dX8_formula_50 : decode cX8_formula 50 = .ok (.istore_n 2, 1) := dk_61 (dk_at dksX8_formula_2 3 rfl rfl)
theorem dX8_formula_51 : decode cX8_formula 51 = .ok (.aload_n 0, 1) := dk_42 (dk_at dksX8_formula_2 4 rfl rfl)
theorem dX8_formula_52 : decode cX8_formula 52 = .ok (.getfield 181, 3) := dk_180 0 181 (dk_at dksX8_formula_2 5 rfl rfl)
theorem dX8_formula_55 : decode cX8_formula 55 = .ok (.bipush 41, 2) := dk_16 41 (dk_at dksX8_formula_2 8 rfl rfl)
theorem dX8_formula_57 : decode cX8_formula 57 = .ok (.if_icmp .ne 42, 3) := dk_160 0 42 (dk_at dksX8_formula_2 10 rfl rfl)
theorem dX8_formula_60 : decode cX8_formula 60 = .ok (.aload_n 0, 1) := dk_42 (dk_at dksX8_formula_2 13 rfl rfl)
theorem dX8_formula_61 : decode cX8_formula 61 = .ok (.invokevirtual 308, 3) := dk_182 1 52 (dk_at dksX8_formula_2 14 rfl rfl)
theorem dX8_formula_64 : decode cX8_formula 64 = .ok (.ifCond .eq 35, 3) := dk_153 0 35 (dk_at dksX8_formula_2 17 rfl rfl)
theorem dX8_formula_67 : decode cX8_formula 67 = .ok (.aload_n 0, 1) := dk_42 (dk_at dksX8_formula_2 20 rfl rfl)
theorem dX8_formula_68 : decode cX8_formula 68 = .ok (.iconst 0, 1) := dk_3 (dk_at dksX8_formula_2 21 rfl rfl)
theorem dX8_formula_69 : decode cX8_formula 69 = .ok (.invokevirtual 311, 3) := dk_182 1 55 (dk_at dksX8_formula_3 0 rfl rfl)
theorem dX8_formula_72 : decode cX8_formula 72 = .ok (.aload_n 0, 1) := dk_42 (dk_at dksX8_formula_3 3 rfl rfl)
theorem dX8_formula_73 : decode cX8_formula 73 = .ok (.dup, 1) := dk_89 (dk_at dksX8_formula_3 4 rfl rfl)
theorem dX8_formula_74 : decode cX8_formula 74 = .ok (.getfield 263, 3) := dk_180 1 7 (dk_at dksX8_formula_3 5 rfl rfl)
theorem dX8_formula_77 : decode cX8_formula 77 = .ok (.iconst 1, 1) := dk_4 (dk_at dksX8_formula_3 8 rfl rfl)
theorem dX8_formula_78 : decode cX8_formula 78 = .ok (.isub, 1) := dk_100 (dk_at dksX8_formula_3 9 rfl rfl)
theorem dX8_formula_79 : decode cX8_formula 79 = .ok (.putfield 263, 3) := dk_181 1 7 (dk_at dksX8_formula_3 10 rfl rfl)
theorem dX8_formula_82 : decode cX8_formula 82 = .ok (.aload_n 0, 1) := dk_42 (dk_at dksX8_formula_3 13 rfl rfl)
theorem dX8_formula_83 : decode cX8_formula 83 = .ok (.dup, 1) := dk_89 (dk_at dksX8_formula_3 14 rfl rfl)
theorem dX8_formula_84 : decode cX8_formula 84 = .ok (.getfield 273, 3) := dk_180 1 17 (dk_at dksX8_formula_3 15 rfl rfl)
theorem dX8_formula_87 : decode cX8_formula 87 = .ok (.iconst 1, 1) := dk_4 (dk_at dksX8_formula_3 18 rfl rfl)
theorem dX8_formula_88 : decode cX8_formula 88 = .ok (.isub, 1) := dk_100 (dk_at dksX8_formula_3 19 rfl rfl)
theorem dX8_formula_89 : decode cX8_formula 89 = .ok (.putfield 273, 3) := dk_181 1 17 (dk_at dksX8_formula_3 20 rfl rfl)
theorem dX8_formula_92 : decode cX8_formula 92 = .ok (.aload_n 0, 1) := dk_42 (dk_at dksX8_formula_3 23 rfl rfl)
theorem dX8_formula_93 : decode cX8_formula 93 = .ok (.invokevirtual 246, 3) := dk_182 0 246 (dk_at dksX8_formula_4 0 rfl rfl)
theorem dX8_formula_96 : decode cX8_formula 96 = .ok (.goto 63, 3) := dk_167 0 63 (dk_at dksX8_formula_4 3 rfl rfl)
theorem dX8_formula_99 : decode cX8_formula 99 = .ok (.iload_n 2, 1) := dk_28 (dk_at dksX8_formula_4 6 rfl rfl)
theorem dX8_formula_100 : decode cX8_formula 100 = .ok (.ifCond .eq 57, 3) := dk_153 0 57 (dk_at dksX8_formula_4 7 rfl rfl)
theorem dX8_formula_103 : decode cX8_formula 103 = .ok (.iload_n 2, 1) := dk_28 (dk_at dksX8_formula_4 10 rfl rfl)
theorem dX8_formula_104 : decode cX8_formula 104 = .ok (.invokestatic 266, 3) := dk_184 1 10 (dk_at dksX8_formula_4 11 rfl rfl)
theorem dX8_formula_107 : decode cX8_formula 107 = .ok (.iconst 4, 1) := dk_7 (dk_at dksX8_formula_4 14 rfl rfl)
theorem dX8_formula_108 : decode cX8_formula 108 = .ok (.if_icmp .ne 10, 3) := dk_160 0 10 (dk_at dksX8_formula_4 15 rfl rfl)
theorem dX8_formula_111 : decode cX8_formula 111 = .ok (.aload_n 0, 1) := dk_42 (dk_at dksX8_formula_4 18 rfl rfl)
theorem dX8_formula_112 : decode cX8_formula 112 = .ok (.invokevirtual 314, 3) := dk_182 1 58 (dk_at dksX8_formula_4 19 rfl rfl)
theorem dX8_formula_115 : decode cX8_formula 115 = .ok (.ifCond .ne 42, 3) := dk_154 0 42 (dk_at dksX8_formula_5 0 rfl rfl)
theorem dX8_formula_118 : decode cX8_formula 118 = .ok (.aload_n 0, 1) := dk_42 (dk_at dksX8_formula_5 3 rfl rfl)
theorem dX8_formula_119 : decode cX8_formula 119 = .ok (.iload_n 2, 1) := dk_28 (dk_at dksX8_formula_5 4 rfl rfl)
theorem dX8_formula_120 : decode cX8_formula 120 = .ok (.invokestatic 266, 3) := dk_184 1 10 (dk_at dksX8_formula_5 5 rfl rfl)
theorem dX8_formula_123 : decode cX8_formula 123 = .ok (.invokevirtual 311, 3) := dk_182 1 55 (dk_at dksX8_formula_5 8 rfl rfl)
theorem dX8_formula_126 : decode cX8_formula 126 = .ok (.aload_n 0, 1) := dk_42 (dk_at dksX8_formula_5 11 rfl rfl)
theorem dX8_formula_127 : decode cX8_formula 127 = .ok (.getfield 33, 3) := dk_180 0 33 (dk_at dksX8_formula_5 12 rfl rfl)
theorem dX8_formula_130 : decode cX8_formula 130 = .ok (.aload_n 0, 1) := dk_42 (dk_at dksX8_formula_5 15 rfl rfl)
theorem dX8_formula_131 : decode cX8_formula 131 = .ok (.getfield 263, 3) := dk_180 1 7 (dk_at dksX8_formula_5 16 rfl rfl)
theorem dX8_formula_134 : decode cX8_formula 134 = .ok (.iload_n 2, 1) := dk_28 (dk_at dksX8_formula_5 19 rfl rfl)
theorem dX8_formula_135 : decode cX8_formula 135 = .ok (.iastore, 1) := dk_79 (dk_at dksX8_formula_5 20 rfl rfl)
theorem dX8_formula_136 : decode cX8_formula 136 = .ok (.aload_n 0, 1) := dk_42 (dk_at dksX8_formula_5 21 rfl rfl)
theorem dX8_formula_137 : decode cX8_formula 137 = .ok (.dup, 1) := dk_89 (dk_at dksX8_formula_5 22 rfl rfl)
theorem dX8_formula_138 : decode cX8_formula 138 = .ok (.getfield 263, 3) := dk_180 1 7 (dk_at dksX8_formula_6 0 rfl rfl)
theorem dX8_formula_141 : decode cX8_formula 141 = .ok (.iconst 1, 1) := dk_4 (dk_at dksX8_formula_6 3 rfl rfl)
theorem dX8_formula_142 : decode cX8_formula 142 = .ok (.iadd, 1) := dk_96 (dk_at dksX8_formula_6 4 rfl rfl)
theorem dX8_formula_143 : decode cX8_formula 143 = .ok (.putfield 263, 3) := dk_181 1 7 (dk_at dksX8_formula_6 5 rfl rfl)
theorem dX8_formula_146 : decode cX8_formula 146 = .ok (.aload_n 0, 1) := dk_42 (dk_at dksX8_formula_6 8 rfl rfl)
theorem dX8_formula_147 : decode cX8_formula 147 = .ok (.invokevirtual 246, 3) := dk_182 0 246 (dk_at dksX8_formula_6 9 rfl rfl)
theorem dX8_formula_150 : decode cX8_formula 150 = .ok (.aload_n 0, 1) := dk_42 (dk_at dksX8_formula_6 12 rfl rfl)
theorem dX8_formula_151 : decode cX8_formula 151 = .ok (.invokevirtual 302, 3) := dk_182 1 46 (dk_at dksX8_formula_6 13 rfl rfl)
theorem dX8_formula_154 : decode cX8_formula 154 = .ok (.goto 5, 3) := dk_167 0 5 (dk_at dksX8_formula_6 16 rfl rfl)
theorem dX8_formula_157 : decode cX8_formula 157 = .ok (.iconst 0, 1) := dk_3 (dk_at dksX8_formula_6 19 rfl rfl)
theorem dX8_formula_158 : decode cX8_formula 158 = .ok (.istore_n 1, 1) := dk_60 (dk_at dksX8_formula_6 20 rfl rfl)
theorem dX8_formula_159 : decode cX8_formula 159 = .ok (.goto (-124), 3) := dk_167 255 132 (dk_at dksX8_formula_6 21 rfl rfl)
theorem dX8_formula_162 : decode cX8_formula 162 = .ok (.aload_n 0, 1) := dk_42 (dk_at dksX8_formula_7 0 rfl rfl)
theorem dX8_formula_163 : decode cX8_formula 163 = .ok (.getfield 194, 3) := dk_180 0 194 (dk_at dksX8_formula_7 1 rfl rfl)
theorem dX8_formula_166 : decode cX8_formula 166 = .ok (.ifCond .ne 15, 3) := dk_154 0 15 (dk_at dksX8_formula_7 4 rfl rfl)
theorem dX8_formula_169 : decode cX8_formula 169 = .ok (.aload_n 0, 1) := dk_42 (dk_at dksX8_formula_7 7 rfl rfl)
theorem dX8_formula_170 : decode cX8_formula 170 = .ok (.invokevirtual 308, 3) := dk_182 1 52 (dk_at dksX8_formula_7 8 rfl rfl)
theorem dX8_formula_173 : decode cX8_formula 173 = .ok (.ifCond .eq 8, 3) := dk_153 0 8 (dk_at dksX8_formula_7 11 rfl rfl)
theorem dX8_formula_176 : decode cX8_formula 176 = .ok (.aload_n 0, 1) := dk_42 (dk_at dksX8_formula_7 14 rfl rfl)
theorem dX8_formula_177 : decode cX8_formula 177 = .ok (.iconst 2, 1) := dk_5 (dk_at dksX8_formula_7 15 rfl rfl)
theorem dX8_formula_178 : decode cX8_formula 178 = .ok (.invokevirtual 243, 3) := dk_182 0 243 (dk_at dksX8_formula_7 16 rfl rfl)
theorem dX8_formula_181 : decode cX8_formula 181 = .ok (.aload_n 0, 1) := dk_42 (dk_at dksX8_formula_7 19 rfl rfl)
theorem dX8_formula_182 : decode cX8_formula 182 = .ok (.getfield 194, 3) := dk_180 0 194 (dk_at dksX8_formula_7 20 rfl rfl)
theorem dX8_formula_185 : decode cX8_formula 185 = .ok (.ifCond .ne 8, 3) := dk_154 0 8 (dk_at dksX8_formula_8 0 rfl rfl)
theorem dX8_formula_188 : decode cX8_formula 188 = .ok (.aload_n 0, 1) := dk_42 (dk_at dksX8_formula_8 3 rfl rfl)
theorem dX8_formula_189 : decode cX8_formula 189 = .ok (.iconst 0, 1) := dk_3 (dk_at dksX8_formula_8 4 rfl rfl)
theorem dX8_formula_190 : decode cX8_formula 190 = .ok (.invokevirtual 311, 3) := dk_182 1 55 (dk_at dksX8_formula_8 5 rfl rfl)
theorem dX8_formula_193 : decode cX8_formula 193 = .ok (.return_, 1) := dk_177 (dk_at dksX8_formula_8 8 rfl rfl)
abbrev cX8_unit : ByteArray := prog_20_method_27_code
def yX8_unit : MethodName := ⟨RX8, "unit", "()V"⟩
def dkwX8_unit_7 : List UInt8 := [156, 0, 10, 42, 180, 0, 178, 167, 0, 4, 28, 182, 1, 13, 42, 182, 0, 246, 177]
abbrev dktX8_unit_7 : List UInt8 := dkwX8_unit_7 ++ []
def dkwX8_unit_6 : List UInt8 := [180, 0, 194, 158, 0, 4, 177, 42, 182, 1, 35, 42, 28, 156, 0, 7, 3, 167, 0, 4, 4, 28]
abbrev dktX8_unit_6 : List UInt8 := dkwX8_unit_6 ++ dktX8_unit_7
def dkwX8_unit_5 : List UInt8 := [180, 0, 181, 5, 159, 0, 7, 28, 155, 0, 10, 42, 182, 1, 32, 153, 0, 8, 42, 5, 182, 0, 243, 42]
abbrev dktX8_unit_5 : List UInt8 := dkwX8_unit_5 ++ dktX8_unit_6
def dkwX8_unit_4 : List UInt8 := [167, 255, 165, 3, 60, 167, 255, 160, 42, 180, 0, 194, 158, 0, 4, 177, 42, 182, 1, 38, 61, 42]
abbrev dktX8_unit_4 : List UInt8 := dkwX8_unit_4 ++ dktX8_unit_5
def dkwX8_unit_3 : List UInt8 := [180, 1, 17, 16, 6, 164, 0, 8, 42, 5, 182, 0, 243, 42, 182, 1, 35, 42, 16, 20, 182, 1, 29]
abbrev dktX8_unit_3 : List UInt8 := dkwX8_unit_3 ++ dktX8_unit_4
def dkwX8_unit_2 : List UInt8 := [182, 1, 29, 167, 255, 208, 42, 180, 0, 181, 16, 40, 160, 0, 37, 42, 182, 1, 32, 154, 0, 12, 42]
abbrev dktX8_unit_2 : List UInt8 := dkwX8_unit_2 ++ dktX8_unit_3
def dkwX8_unit_1 : List UInt8 := [182, 1, 26, 153, 0, 26, 42, 180, 1, 17, 16, 6, 164, 0, 8, 42, 5, 182, 0, 243, 42, 16, 21]
abbrev dktX8_unit_1 : List UInt8 := dkwX8_unit_1 ++ dktX8_unit_2
def dkwX8_unit_0 : List UInt8 := [4, 60, 27, 153, 0, 98, 42, 180, 0, 194, 154, 0, 91, 42, 20, 0, 233, 182, 0, 239, 153, 0, 33, 42]
abbrev dktX8_unit_0 : List UInt8 := dkwX8_unit_0 ++ dktX8_unit_1
theorem dksX8_unit_0 : cX8_unit.data.toList.drop 0 = dktX8_unit_0 := by decide +kernel
theorem dksX8_unit_1 : cX8_unit.data.toList.drop 24 = dktX8_unit_1 := dk_seg dksX8_unit_0 24 rfl rfl
theorem dksX8_unit_2 : cX8_unit.data.toList.drop 47 = dktX8_unit_2 := dk_seg dksX8_unit_1 23 rfl rfl
theorem dksX8_unit_3 : cX8_unit.data.toList.drop 70 = dktX8_unit_3 := dk_seg dksX8_unit_2 23 rfl rfl
theorem dksX8_unit_4 : cX8_unit.data.toList.drop 93 = dktX8_unit_4 := dk_seg dksX8_unit_3 23 rfl rfl
theorem dksX8_unit_5 : cX8_unit.data.toList.drop 115 = dktX8_unit_5 := dk_seg dksX8_unit_4 22 rfl rfl
theorem dksX8_unit_6 : cX8_unit.data.toList.drop 139 = dktX8_unit_6 := dk_seg dksX8_unit_5 24 rfl rfl
theorem dksX8_unit_7 : cX8_unit.data.toList.drop 161 = dktX8_unit_7 := dk_seg dksX8_unit_6 22 rfl rfl
theorem dX8_unit_0 : decode cX8_unit 0 = .ok (.iconst 1, 1) := dk_4 (dk_at dksX8_unit_0 0 rfl rfl)
theorem dX8_unit_1 : decode cX8_unit 1 = .ok (.istore_n 1, 1) := dk_60 (dk_at dksX8_unit_0 1 rfl rfl)
theorem dX8_unit_2 : decode cX8_unit 2 = .ok (.iload_n 1, 1) := dk_27 (dk_at dksX8_unit_0 2 rfl rfl)
theorem dX8_unit_3 : decode cX8_unit 3 = .ok (.ifCond .eq 98, 3) := dk_153 0 98 (dk_at dksX8_unit_0 3 rfl rfl)
theorem dX8_unit_6 : decode cX8_unit 6 = .ok (.aload_n 0, 1) := dk_42 (dk_at dksX8_unit_0 6 rfl rfl)
theorem dX8_unit_7 : decode cX8_unit 7 = .ok (.getfield 194, 3) := dk_180 0 194 (dk_at dksX8_unit_0 7 rfl rfl)
theorem dX8_unit_10 : decode cX8_unit 10 = .ok (.ifCond .ne 91, 3) := dk_154 0 91 (dk_at dksX8_unit_0 10 rfl rfl)
theorem dX8_unit_13 : decode cX8_unit 13 = .ok (.aload_n 0, 1) := dk_42 (dk_at dksX8_unit_0 13 rfl rfl)
theorem dX8_unit_14 : decode cX8_unit 14 = .ok (.ldc2_w 233, 3) := dk_20 0 233 (dk_at dksX8_unit_0 14 rfl rfl)
theorem dX8_unit_17 : decode cX8_unit 17 = .ok (.invokevirtual 239, 3) := dk_182 0 239 (dk_at dksX8_unit_0 17 rfl rfl)
theorem dX8_unit_20 : decode cX8_unit 20 = .ok (.ifCond .eq 33, 3) := dk_153 0 33 (dk_at dksX8_unit_0 20 rfl rfl)
theorem dX8_unit_23 : decode cX8_unit 23 = .ok (.aload_n 0, 1) := dk_42 (dk_at dksX8_unit_0 23 rfl rfl)
theorem dX8_unit_24 : decode cX8_unit 24 = .ok (.invokevirtual 282, 3) := dk_182 1 26 (dk_at dksX8_unit_1 0 rfl rfl)
theorem dX8_unit_27 : decode cX8_unit 27 = .ok (.ifCond .eq 26, 3) := dk_153 0 26 (dk_at dksX8_unit_1 3 rfl rfl)
theorem dX8_unit_30 : decode cX8_unit 30 = .ok (.aload_n 0, 1) := dk_42 (dk_at dksX8_unit_1 6 rfl rfl)
theorem dX8_unit_31 : decode cX8_unit 31 = .ok (.getfield 273, 3) := dk_180 1 17 (dk_at dksX8_unit_1 7 rfl rfl)
theorem dX8_unit_34 : decode cX8_unit 34 = .ok (.bipush 6, 2) := dk_16 6 (dk_at dksX8_unit_1 10 rfl rfl)
theorem dX8_unit_36 : decode cX8_unit 36 = .ok (.if_icmp .le 8, 3) := dk_164 0 8 (dk_at dksX8_unit_1 12 rfl rfl)
theorem dX8_unit_39 : decode cX8_unit 39 = .ok (.aload_n 0, 1) := dk_42 (dk_at dksX8_unit_1 15 rfl rfl)
theorem dX8_unit_40 : decode cX8_unit 40 = .ok (.iconst 2, 1) := dk_5 (dk_at dksX8_unit_1 16 rfl rfl)
theorem dX8_unit_41 : decode cX8_unit 41 = .ok (.invokevirtual 243, 3) := dk_182 0 243 (dk_at dksX8_unit_1 17 rfl rfl)
theorem dX8_unit_44 : decode cX8_unit 44 = .ok (.aload_n 0, 1) := dk_42 (dk_at dksX8_unit_1 20 rfl rfl)
theorem dX8_unit_45 : decode cX8_unit 45 = .ok (.bipush 21, 2) := dk_16 21 (dk_at dksX8_unit_1 21 rfl rfl)
theorem dX8_unit_47 : decode cX8_unit 47 = .ok (.invokevirtual 285, 3) := dk_182 1 29 (dk_at dksX8_unit_2 0 rfl rfl)
theorem dX8_unit_50 : decode cX8_unit 50 = .ok (.goto (-48), 3) := dk_167 255 208 (dk_at dksX8_unit_2 3 rfl rfl)
theorem dX8_unit_53 : decode cX8_unit 53 = .ok (.aload_n 0, 1) := dk_42 (dk_at dksX8_unit_2 6 rfl rfl)
theorem dX8_unit_54 : decode cX8_unit 54 = .ok (.getfield 181, 3) := dk_180 0 181 (dk_at dksX8_unit_2 7 rfl rfl)
theorem dX8_unit_57 : decode cX8_unit 57 = .ok (.bipush 40, 2) := dk_16 40 (dk_at dksX8_unit_2 10 rfl rfl)
theorem dX8_unit_59 : decode cX8_unit 59 = .ok (.if_icmp .ne 37, 3) := dk_160 0 37 (dk_at dksX8_unit_2 12 rfl rfl)
theorem dX8_unit_62 : decode cX8_unit 62 = .ok (.aload_n 0, 1) := dk_42 (dk_at dksX8_unit_2 15 rfl rfl)
theorem dX8_unit_63 : decode cX8_unit 63 = .ok (.invokevirtual 288, 3) := dk_182 1 32 (dk_at dksX8_unit_2 16 rfl rfl)
theorem dX8_unit_66 : decode cX8_unit 66 = .ok (.ifCond .ne 12, 3) := dk_154 0 12 (dk_at dksX8_unit_2 19 rfl rfl)
theorem dX8_unit_69 : decode cX8_unit 69 = .ok (.aload_n 0, 1) := dk_42 (dk_at dksX8_unit_2 22 rfl rfl)
theorem dX8_unit_70 : decode cX8_unit 70 = .ok (.getfield 273, 3) := dk_180 1 17 (dk_at dksX8_unit_3 0 rfl rfl)
theorem dX8_unit_73 : decode cX8_unit 73 = .ok (.bipush 6, 2) := dk_16 6 (dk_at dksX8_unit_3 3 rfl rfl)
theorem dX8_unit_75 : decode cX8_unit 75 = .ok (.if_icmp .le 8, 3) := dk_164 0 8 (dk_at dksX8_unit_3 5 rfl rfl)
theorem dX8_unit_78 : decode cX8_unit 78 = .ok (.aload_n 0, 1) := dk_42 (dk_at dksX8_unit_3 8 rfl rfl)
theorem dX8_unit_79 : decode cX8_unit 79 = .ok (.iconst 2, 1) := dk_5 (dk_at dksX8_unit_3 9 rfl rfl)
theorem dX8_unit_80 : decode cX8_unit 80 = .ok (.invokevirtual 243, 3) := dk_182 0 243 (dk_at dksX8_unit_3 10 rfl rfl)
theorem dX8_unit_83 : decode cX8_unit 83 = .ok (.aload_n 0, 1) := dk_42 (dk_at dksX8_unit_3 13 rfl rfl)
theorem dX8_unit_84 : decode cX8_unit 84 = .ok (.invokevirtual 291, 3) := dk_182 1 35 (dk_at dksX8_unit_3 14 rfl rfl)
theorem dX8_unit_87 : decode cX8_unit 87 = .ok (.aload_n 0, 1) := dk_42 (dk_at dksX8_unit_3 17 rfl rfl)
theorem dX8_unit_88 : decode cX8_unit 88 = .ok (.bipush 20, 2) := dk_16 20 (dk_at dksX8_unit_3 18 rfl rfl)
theorem dX8_unit_90 : decode cX8_unit 90 = .ok (.invokevirtual 285, 3) := dk_182 1 29 (dk_at dksX8_unit_3 20 rfl rfl)
theorem dX8_unit_93 : decode cX8_unit 93 = .ok (.goto (-91), 3) := dk_167 255 165 (dk_at dksX8_unit_4 0 rfl rfl)
theorem dX8_unit_96 : decode cX8_unit 96 = .ok (.iconst 0, 1) := dk_3 (dk_at dksX8_unit_4 3 rfl rfl)
theorem dX8_unit_97 : decode cX8_unit 97 = .ok (.istore_n 1, 1) := dk_60 (dk_at dksX8_unit_4 4 rfl rfl)
theorem dX8_unit_98 : decode cX8_unit 98 = .ok (.goto (-96), 3) := dk_167 255 160 (dk_at dksX8_unit_4 5 rfl rfl)
theorem dX8_unit_101 : decode cX8_unit 101 = .ok (.aload_n 0, 1) := dk_42 (dk_at dksX8_unit_4 8 rfl rfl)
theorem dX8_unit_102 : decode cX8_unit 102 = .ok (.getfield 194, 3) := dk_180 0 194 (dk_at dksX8_unit_4 9 rfl rfl)
theorem dX8_unit_105 : decode cX8_unit 105 = .ok (.ifCond .le 4, 3) := dk_158 0 4 (dk_at dksX8_unit_4 12 rfl rfl)
theorem dX8_unit_108 : decode cX8_unit 108 = .ok (.return_, 1) := dk_177 (dk_at dksX8_unit_4 15 rfl rfl)
theorem dX8_unit_109 : decode cX8_unit 109 = .ok (.aload_n 0, 1) := dk_42 (dk_at dksX8_unit_4 16 rfl rfl)
theorem dX8_unit_110 : decode cX8_unit 110 = .ok (.invokevirtual 294, 3) := dk_182 1 38 (dk_at dksX8_unit_4 17 rfl rfl)
theorem dX8_unit_113 : decode cX8_unit 113 = .ok (.istore_n 2, 1) := dk_61 (dk_at dksX8_unit_4 20 rfl rfl)
theorem dX8_unit_114 : decode cX8_unit 114 = .ok (.aload_n 0, 1) := dk_42 (dk_at dksX8_unit_4 21 rfl rfl)
theorem dX8_unit_115 : decode cX8_unit 115 = .ok (.getfield 181, 3) := dk_180 0 181 (dk_at dksX8_unit_5 0 rfl rfl)
theorem dX8_unit_118 : decode cX8_unit 118 = .ok (.iconst 2, 1) := dk_5 (dk_at dksX8_unit_5 3 rfl rfl)
theorem dX8_unit_119 : decode cX8_unit 119 = .ok (.if_icmp .eq 7, 3) := dk_159 0 7 (dk_at dksX8_unit_5 4 rfl rfl)
theorem dX8_unit_122 : decode cX8_unit 122 = .ok (.iload_n 2, 1) := dk_28 (dk_at dksX8_unit_5 7 rfl rfl)
theorem dX8_unit_123 : decode cX8_unit 123 = .ok (.ifCond .lt 10, 3) := dk_155 0 10 (dk_at dksX8_unit_5 8 rfl rfl)
theorem dX8_unit_126 : decode cX8_unit 126 = .ok (.aload_n 0, 1) := dk_42 (dk_at dksX8_unit_5 11 rfl rfl)
theorem dX8_unit_127 : decode cX8_unit 127 = .ok (.invokevirtual 288, 3) := dk_182 1 32 (dk_at dksX8_unit_5 12 rfl rfl)
theorem dX8_unit_130 : decode cX8_unit 130 = .ok (.ifCond .eq 8, 3) := dk_153 0 8 (dk_at dksX8_unit_5 15 rfl rfl)
theorem dX8_unit_133 : decode cX8_unit 133 = .ok (.aload_n 0, 1) := dk_42 (dk_at dksX8_unit_5 18 rfl rfl)
theorem dX8_unit_134 : decode cX8_unit 134 = .ok (.iconst 2, 1) := dk_5 (dk_at dksX8_unit_5 19 rfl rfl)
theorem dX8_unit_135 : decode cX8_unit 135 = .ok (.invokevirtual 243, 3) := dk_182 0 243 (dk_at dksX8_unit_5 20 rfl rfl)
theorem dX8_unit_138 : decode cX8_unit 138 = .ok (.aload_n 0, 1) := dk_42 (dk_at dksX8_unit_5 23 rfl rfl)
theorem dX8_unit_139 : decode cX8_unit 139 = .ok (.getfield 194, 3) := dk_180 0 194 (dk_at dksX8_unit_6 0 rfl rfl)
theorem dX8_unit_142 : decode cX8_unit 142 = .ok (.ifCond .le 4, 3) := dk_158 0 4 (dk_at dksX8_unit_6 3 rfl rfl)
theorem dX8_unit_145 : decode cX8_unit 145 = .ok (.return_, 1) := dk_177 (dk_at dksX8_unit_6 6 rfl rfl)
theorem dX8_unit_146 : decode cX8_unit 146 = .ok (.aload_n 0, 1) := dk_42 (dk_at dksX8_unit_6 7 rfl rfl)
theorem dX8_unit_147 : decode cX8_unit 147 = .ok (.invokevirtual 291, 3) := dk_182 1 35 (dk_at dksX8_unit_6 8 rfl rfl)
theorem dX8_unit_150 : decode cX8_unit 150 = .ok (.aload_n 0, 1) := dk_42 (dk_at dksX8_unit_6 11 rfl rfl)
theorem dX8_unit_151 : decode cX8_unit 151 = .ok (.iload_n 2, 1) := dk_28 (dk_at dksX8_unit_6 12 rfl rfl)
theorem dX8_unit_152 : decode cX8_unit 152 = .ok (.ifCond .ge 7, 3) := dk_156 0 7 (dk_at dksX8_unit_6 13 rfl rfl)
theorem dX8_unit_155 : decode cX8_unit 155 = .ok (.iconst 0, 1) := dk_3 (dk_at dksX8_unit_6 16 rfl rfl)
theorem dX8_unit_156 : decode cX8_unit 156 = .ok (.goto 4, 3) := dk_167 0 4 (dk_at dksX8_unit_6 17 rfl rfl)
theorem dX8_unit_159 : decode cX8_unit 159 = .ok (.iconst 1, 1) := dk_4 (dk_at dksX8_unit_6 20 rfl rfl)
theorem dX8_unit_160 : decode cX8_unit 160 = .ok (.iload_n 2, 1) := dk_28 (dk_at dksX8_unit_6 21 rfl rfl)
theorem dX8_unit_161 : decode cX8_unit 161 = .ok (.ifCond .ge 10, 3) := dk_156 0 10 (dk_at dksX8_unit_7 0 rfl rfl)
theorem dX8_unit_164 : decode cX8_unit 164 = .ok (.aload_n 0, 1) := dk_42 (dk_at dksX8_unit_7 3 rfl rfl)
theorem dX8_unit_165 : decode cX8_unit 165 = .ok (.getfield 178, 3) := dk_180 0 178 (dk_at dksX8_unit_7 4 rfl rfl)
theorem dX8_unit_168 : decode cX8_unit 168 = .ok (.goto 4, 3) := dk_167 0 4 (dk_at dksX8_unit_7 7 rfl rfl)
theorem dX8_unit_171 : decode cX8_unit 171 = .ok (.iload_n 2, 1) := dk_28 (dk_at dksX8_unit_7 10 rfl rfl)
theorem dX8_unit_172 : decode cX8_unit 172 = .ok (.invokevirtual 269, 3) := dk_182 1 13 (dk_at dksX8_unit_7 11 rfl rfl)
theorem dX8_unit_175 : decode cX8_unit 175 = .ok (.aload_n 0, 1) := dk_42 (dk_at dksX8_unit_7 14 rfl rfl)
theorem dX8_unit_176 : decode cX8_unit 176 = .ok (.invokevirtual 246, 3) := dk_182 0 246 (dk_at dksX8_unit_7 15 rfl rfl)
theorem dX8_unit_179 : decode cX8_unit 179 = .ok (.return_, 1) := dk_177 (dk_at dksX8_unit_7 18 rfl rfl)
abbrev cX8_mayNot : ByteArray := prog_20_method_22_code
def yX8_mayNot : MethodName := ⟨RX8, "mayNot", "()Z"⟩
def dkwX8_mayNot_1 : List UInt8 := [180, 0, 33, 42, 180, 1, 7, 4, 100, 46, 184, 1, 10, 7, 162, 0, 7, 4, 167, 0, 4, 3, 172]
abbrev dktX8_mayNot_1 : List UInt8 := dkwX8_mayNot_1 ++ []
def dkwX8_mayNot_0 : List UInt8 := [42, 180, 1, 7, 153, 0, 37, 42, 180, 0, 33, 42, 180, 1, 7, 4, 100, 46, 16, 20, 159, 0, 21, 42]
abbrev dktX8_mayNot_0 : List UInt8 := dkwX8_mayNot_0 ++ dktX8_mayNot_1
theorem dksX8_mayNot_0 : cX8_mayNot.data.toList.drop 0 = dktX8_mayNot_0 := by decide +kernel
theorem dksX8_mayNot_1 : cX8_mayNot.data.toList.drop 24 = dktX8_mayNot_1 := dk_seg dksX8_mayNot_0 24 rfl rfl
theorem dX8_mayNot_0 : decode cX8_mayNot 0 = .ok (.aload_n 0, 1) := dk_42 (dk_at dksX8_mayNot_0 0 rfl rfl)
theorem dX8_mayNot_1 : decode cX8_mayNot 1 = .ok (.getfield 263, 3) := dk_180 1 7 (dk_at dksX8_mayNot_0 1 rfl rfl)
theorem dX8_mayNot_4 : decode cX8_mayNot 4 = .ok (.ifCond .eq 37, 3) := dk_153 0 37 (dk_at dksX8_mayNot_0 4 rfl rfl)
theorem dX8_mayNot_7 : decode cX8_mayNot 7 = .ok (.aload_n 0, 1) := dk_42 (dk_at dksX8_mayNot_0 7 rfl rfl)
theorem dX8_mayNot_8 : decode cX8_mayNot 8 = .ok (.getfield 33, 3) := dk_180 0 33 (dk_at dksX8_mayNot_0 8 rfl rfl)
theorem dX8_mayNot_11 : decode cX8_mayNot 11 = .ok (.aload_n 0, 1) := dk_42 (dk_at dksX8_mayNot_0 11 rfl rfl)
theorem dX8_mayNot_12 : decode cX8_mayNot 12 = .ok (.getfield 263, 3) := dk_180 1 7 (dk_at dksX8_mayNot_0 12 rfl rfl)
theorem dX8_mayNot_15 : decode cX8_mayNot 15 = .ok (.iconst 1, 1) := dk_4 (dk_at dksX8_mayNot_0 15 rfl rfl)
theorem dX8_mayNot_16 : decode cX8_mayNot 16 = .ok (.isub, 1) := dk_100 (dk_at dksX8_mayNot_0 16 rfl rfl)
theorem dX8_mayNot_17 : decode cX8_mayNot 17 = .ok (.iaload, 1) := dk_46 (dk_at dksX8_mayNot_0 17 rfl rfl)
theorem dX8_mayNot_18 : decode cX8_mayNot 18 = .ok (.bipush 20, 2) := dk_16 20 (dk_at dksX8_mayNot_0 18 rfl rfl)
theorem dX8_mayNot_20 : decode cX8_mayNot 20 = .ok (.if_icmp .eq 21, 3) := dk_159 0 21 (dk_at dksX8_mayNot_0 20 rfl rfl)
theorem dX8_mayNot_23 : decode cX8_mayNot 23 = .ok (.aload_n 0, 1) := dk_42 (dk_at dksX8_mayNot_0 23 rfl rfl)
theorem dX8_mayNot_24 : decode cX8_mayNot 24 = .ok (.getfield 33, 3) := dk_180 0 33 (dk_at dksX8_mayNot_1 0 rfl rfl)
theorem dX8_mayNot_27 : decode cX8_mayNot 27 = .ok (.aload_n 0, 1) := dk_42 (dk_at dksX8_mayNot_1 3 rfl rfl)
theorem dX8_mayNot_28 : decode cX8_mayNot 28 = .ok (.getfield 263, 3) := dk_180 1 7 (dk_at dksX8_mayNot_1 4 rfl rfl)
theorem dX8_mayNot_31 : decode cX8_mayNot 31 = .ok (.iconst 1, 1) := dk_4 (dk_at dksX8_mayNot_1 7 rfl rfl)
theorem dX8_mayNot_32 : decode cX8_mayNot 32 = .ok (.isub, 1) := dk_100 (dk_at dksX8_mayNot_1 8 rfl rfl)
theorem dX8_mayNot_33 : decode cX8_mayNot 33 = .ok (.iaload, 1) := dk_46 (dk_at dksX8_mayNot_1 9 rfl rfl)
theorem dX8_mayNot_34 : decode cX8_mayNot 34 = .ok (.invokestatic 266, 3) := dk_184 1 10 (dk_at dksX8_mayNot_1 10 rfl rfl)
theorem dX8_mayNot_37 : decode cX8_mayNot 37 = .ok (.iconst 4, 1) := dk_7 (dk_at dksX8_mayNot_1 13 rfl rfl)
theorem dX8_mayNot_38 : decode cX8_mayNot 38 = .ok (.if_icmp .ge 7, 3) := dk_162 0 7 (dk_at dksX8_mayNot_1 14 rfl rfl)
theorem dX8_mayNot_41 : decode cX8_mayNot 41 = .ok (.iconst 1, 1) := dk_4 (dk_at dksX8_mayNot_1 17 rfl rfl)
theorem dX8_mayNot_42 : decode cX8_mayNot 42 = .ok (.goto 4, 3) := dk_167 0 4 (dk_at dksX8_mayNot_1 18 rfl rfl)
theorem dX8_mayNot_45 : decode cX8_mayNot 45 = .ok (.iconst 0, 1) := dk_3 (dk_at dksX8_mayNot_1 21 rfl rfl)
theorem dX8_mayNot_46 : decode cX8_mayNot 46 = .ok (.ireturn, 1) := dk_172 (dk_at dksX8_mayNot_1 22 rfl rfl)
abbrev cX8_tight : ByteArray := prog_20_method_19_code
def yX8_tight : MethodName := ⟨RX8, "tight", "(I)I"⟩
def dkwX8_tight_2 : List UInt8 := [4, 172, 5, 172, 6, 172, 7, 172, 8, 172, 16, 6, 172]
abbrev dktX8_tight_2 : List UInt8 := dkwX8_tight_2 ++ []
def dkwX8_tight_1 : List UInt8 := [171, 0, 0, 0, 0, 0, 85, 0, 0, 0, 8, 0, 0, 0, 21, 0, 0, 0, 79, 0, 0, 0, 38, 0, 0, 0, 77, 0, 0, 0, 43, 0, 0, 0, 83, 0, 0, 0, 45, 0, 0, 0, 83, 0, 0, 0, 60, 0, 0, 0, 81, 0, 0, 0, 61, 0, 0, 0, 81, 0, 0, 0, 62, 0, 0, 0, 81, 0, 0, 0, 124, 0, 0, 0, 75]
abbrev dktX8_tight_1 : List UInt8 := dkwX8_tight_1 ++ dktX8_tight_2
def dkwX8_tight_0 : List UInt8 := [26]
abbrev dktX8_tight_0 : List UInt8 := dkwX8_tight_0 ++ dktX8_tight_1
theorem dksX8_tight_0 : cX8_tight.data.toList.drop 0 = dktX8_tight_0 := by decide +kernel
theorem dksX8_tight_1 : cX8_tight.data.toList.drop 1 = dktX8_tight_1 := dk_seg dksX8_tight_0 1 rfl rfl
theorem dksX8_tight_2 : cX8_tight.data.toList.drop 76 = dktX8_tight_2 := dk_seg dksX8_tight_1 75 rfl rfl
theorem dX8_tight_0 : decode cX8_tight 0 = .ok (.iload_n 0, 1) := dk_26 (dk_at dksX8_tight_0 0 rfl rfl)
theorem dX8_tight_1 : decode cX8_tight 1 = .ok (.lookupswitch 85 #[(21, 79), (38, 77), (43, 83), (45, 83), (60, 81), (61, 81), (62, 81), (124, 75)], 75) := by decide +kernel
theorem dX8_tight_76 : decode cX8_tight 76 = .ok (.iconst 1, 1) := dk_4 (dk_at dksX8_tight_2 0 rfl rfl)
theorem dX8_tight_77 : decode cX8_tight 77 = .ok (.ireturn, 1) := dk_172 (dk_at dksX8_tight_2 1 rfl rfl)
theorem dX8_tight_78 : decode cX8_tight 78 = .ok (.iconst 2, 1) := dk_5 (dk_at dksX8_tight_2 2 rfl rfl)
theorem dX8_tight_79 : decode cX8_tight 79 = .ok (.ireturn, 1) := dk_172 (dk_at dksX8_tight_2 3 rfl rfl)
theorem dX8_tight_80 : decode cX8_tight 80 = .ok (.iconst 3, 1) := dk_6 (dk_at dksX8_tight_2 4 rfl rfl)
theorem dX8_tight_81 : decode cX8_tight 81 = .ok (.ireturn, 1) := dk_172 (dk_at dksX8_tight_2 5 rfl rfl)
theorem dX8_tight_82 : decode cX8_tight 82 = .ok (.iconst 4, 1) := dk_7 (dk_at dksX8_tight_2 6 rfl rfl)
theorem dX8_tight_83 : decode cX8_tight 83 = .ok (.ireturn, 1) := dk_172 (dk_at dksX8_tight_2 7 rfl rfl)
theorem dX8_tight_84 : decode cX8_tight 84 = .ok (.iconst 5, 1) := dk_8 (dk_at dksX8_tight_2 8 rfl rfl)
theorem dX8_tight_85 : decode cX8_tight 85 = .ok (.ireturn, 1) := dk_172 (dk_at dksX8_tight_2 9 rfl rfl)
theorem dX8_tight_86 : decode cX8_tight 86 = .ok (.bipush 6, 2) := dk_16 6 (dk_at dksX8_tight_2 10 rfl rfl)
theorem dX8_tight_88 : decode cX8_tight 88 = .ok (.ireturn, 1) := dk_172 (dk_at dksX8_tight_2 12 rfl rfl)
abbrev cX8_openUp : ByteArray := prog_20_method_26_code
def yX8_openUp : MethodName := ⟨RX8, "openUp", "(I)V"⟩
def dkwX8_openUp_1 : List UInt8 := [180, 1, 17, 4, 96, 181, 1, 17, 42, 180, 0, 194, 154, 0, 7, 42, 182, 0, 246, 177]
abbrev dktX8_openUp_1 : List UInt8 := dkwX8_openUp_1 ++ []
def dkwX8_openUp_0 : List UInt8 := [42, 180, 0, 33, 42, 180, 1, 7, 27, 79, 42, 89, 180, 1, 7, 4, 96, 181, 1, 7, 42, 89]
abbrev dktX8_openUp_0 : List UInt8 := dkwX8_openUp_0 ++ dktX8_openUp_1
theorem dksX8_openUp_0 : cX8_openUp.data.toList.drop 0 = dktX8_openUp_0 := by decide +kernel
theorem dksX8_openUp_1 : cX8_openUp.data.toList.drop 22 = dktX8_openUp_1 := dk_seg dksX8_openUp_0 22 rfl rfl
theorem dX8_openUp_0 : decode cX8_openUp 0 = .ok (.aload_n 0, 1) := dk_42 (dk_at dksX8_openUp_0 0 rfl rfl)
theorem dX8_openUp_1 : decode cX8_openUp 1 = .ok (.getfield 33, 3) := dk_180 0 33 (dk_at dksX8_openUp_0 1 rfl rfl)
theorem dX8_openUp_4 : decode cX8_openUp 4 = .ok (.aload_n 0, 1) := dk_42 (dk_at dksX8_openUp_0 4 rfl rfl)
theorem dX8_openUp_5 : decode cX8_openUp 5 = .ok (.getfield 263, 3) := dk_180 1 7 (dk_at dksX8_openUp_0 5 rfl rfl)
theorem dX8_openUp_8 : decode cX8_openUp 8 = .ok (.iload_n 1, 1) := dk_27 (dk_at dksX8_openUp_0 8 rfl rfl)
theorem dX8_openUp_9 : decode cX8_openUp 9 = .ok (.iastore, 1) := dk_79 (dk_at dksX8_openUp_0 9 rfl rfl)
theorem dX8_openUp_10 : decode cX8_openUp 10 = .ok (.aload_n 0, 1) := dk_42 (dk_at dksX8_openUp_0 10 rfl rfl)
theorem dX8_openUp_11 : decode cX8_openUp 11 = .ok (.dup, 1) := dk_89 (dk_at dksX8_openUp_0 11 rfl rfl)
theorem dX8_openUp_12 : decode cX8_openUp 12 = .ok (.getfield 263, 3) := dk_180 1 7 (dk_at dksX8_openUp_0 12 rfl rfl)
theorem dX8_openUp_15 : decode cX8_openUp 15 = .ok (.iconst 1, 1) := dk_4 (dk_at dksX8_openUp_0 15 rfl rfl)
theorem dX8_openUp_16 : decode cX8_openUp 16 = .ok (.iadd, 1) := dk_96 (dk_at dksX8_openUp_0 16 rfl rfl)
theorem dX8_openUp_17 : decode cX8_openUp 17 = .ok (.putfield 263, 3) := dk_181 1 7 (dk_at dksX8_openUp_0 17 rfl rfl)
theorem dX8_openUp_20 : decode cX8_openUp 20 = .ok (.aload_n 0, 1) := dk_42 (dk_at dksX8_openUp_0 20 rfl rfl)
theorem dX8_openUp_21 : decode cX8_openUp 21 = .ok (.dup, 1) := dk_89 (dk_at dksX8_openUp_0 21 rfl rfl)
theorem dX8_openUp_22 : decode cX8_openUp 22 = .ok (.getfield 273, 3) := dk_180 1 17 (dk_at dksX8_openUp_1 0 rfl rfl)
theorem dX8_openUp_25 : decode cX8_openUp 25 = .ok (.iconst 1, 1) := dk_4 (dk_at dksX8_openUp_1 3 rfl rfl)
theorem dX8_openUp_26 : decode cX8_openUp 26 = .ok (.iadd, 1) := dk_96 (dk_at dksX8_openUp_1 4 rfl rfl)
theorem dX8_openUp_27 : decode cX8_openUp 27 = .ok (.putfield 273, 3) := dk_181 1 17 (dk_at dksX8_openUp_1 5 rfl rfl)
theorem dX8_openUp_30 : decode cX8_openUp 30 = .ok (.aload_n 0, 1) := dk_42 (dk_at dksX8_openUp_1 8 rfl rfl)
theorem dX8_openUp_31 : decode cX8_openUp 31 = .ok (.getfield 194, 3) := dk_180 0 194 (dk_at dksX8_openUp_1 9 rfl rfl)
theorem dX8_openUp_34 : decode cX8_openUp 34 = .ok (.ifCond .ne 7, 3) := dk_154 0 7 (dk_at dksX8_openUp_1 12 rfl rfl)
theorem dX8_openUp_37 : decode cX8_openUp 37 = .ok (.aload_n 0, 1) := dk_42 (dk_at dksX8_openUp_1 15 rfl rfl)
theorem dX8_openUp_38 : decode cX8_openUp 38 = .ok (.invokevirtual 246, 3) := dk_182 0 246 (dk_at dksX8_openUp_1 16 rfl rfl)
theorem dX8_openUp_41 : decode cX8_openUp 41 = .ok (.return_, 1) := dk_177 (dk_at dksX8_openUp_1 19 rfl rfl)
abbrev cX8_isFull : ByteArray := prog_20_method_24_code
def yX8_isFull : MethodName := ⟨RX8, "isFull", "()Z"⟩
def dkwX8_isFull_0 : List UInt8 := [42, 180, 1, 20, 16, 60, 159, 0, 12, 42, 180, 1, 23, 16, 30, 160, 0, 7, 4, 167, 0, 4, 3, 172]
abbrev dktX8_isFull_0 : List UInt8 := dkwX8_isFull_0 ++ []
theorem dksX8_isFull_0 : cX8_isFull.data.toList.drop 0 = dktX8_isFull_0 := by decide +kernel
theorem dX8_isFull_0 : decode cX8_isFull 0 = .ok (.aload_n 0, 1) := dk_42 (dk_at dksX8_isFull_0 0 rfl rfl)
theorem dX8_isFull_1 : decode cX8_isFull 1 = .ok (.getfield 276, 3) := dk_180 1 20 (dk_at dksX8_isFull_0 1 rfl rfl)
theorem dX8_isFull_4 : decode cX8_isFull 4 = .ok (.bipush 60, 2) := dk_16 60 (dk_at dksX8_isFull_0 4 rfl rfl)
theorem dX8_isFull_6 : decode cX8_isFull 6 = .ok (.if_icmp .eq 12, 3) := dk_159 0 12 (dk_at dksX8_isFull_0 6 rfl rfl)
theorem dX8_isFull_9 : decode cX8_isFull 9 = .ok (.aload_n 0, 1) := dk_42 (dk_at dksX8_isFull_0 9 rfl rfl)
theorem dX8_isFull_10 : decode cX8_isFull 10 = .ok (.getfield 279, 3) := dk_180 1 23 (dk_at dksX8_isFull_0 10 rfl rfl)
theorem dX8_isFull_13 : decode cX8_isFull 13 = .ok (.bipush 30, 2) := dk_16 30 (dk_at dksX8_isFull_0 13 rfl rfl)
theorem dX8_isFull_15 : decode cX8_isFull 15 = .ok (.if_icmp .ne 7, 3) := dk_160 0 7 (dk_at dksX8_isFull_0 15 rfl rfl)
theorem dX8_isFull_18 : decode cX8_isFull 18 = .ok (.iconst 1, 1) := dk_4 (dk_at dksX8_isFull_0 18 rfl rfl)
theorem dX8_isFull_19 : decode cX8_isFull 19 = .ok (.goto 4, 3) := dk_167 0 4 (dk_at dksX8_isFull_0 19 rfl rfl)
theorem dX8_isFull_22 : decode cX8_isFull 22 = .ok (.iconst 0, 1) := dk_3 (dk_at dksX8_isFull_0 22 rfl rfl)
theorem dX8_isFull_23 : decode cX8_isFull 23 = .ok (.ireturn, 1) := dk_172 (dk_at dksX8_isFull_0 23 rfl rfl)
abbrev cX8_countUnit : ByteArray := prog_20_method_25_code
def yX8_countUnit : MethodName := ⟨RX8, "countUnit", "()V"⟩
def dkwX8_countUnit_0 : List UInt8 := [42, 89, 180, 1, 20, 4, 96, 181, 1, 20, 42, 89, 180, 1, 23, 4, 96, 181, 1, 23, 177]
abbrev dktX8_countUnit_0 : List UInt8 := dkwX8_countUnit_0 ++ []
theorem dksX8_countUnit_0 : cX8_countUnit.data.toList.drop 0 = dktX8_countUnit_0 := by decide +kernel
theorem dX8_countUnit_0 : decode cX8_countUnit 0 = .ok (.aload_n 0, 1) := dk_42 (dk_at dksX8_countUnit_0 0 rfl rfl)
theorem dX8_countUnit_1 : decode cX8_countUnit 1 = .ok (.dup, 1) := dk_89 (dk_at dksX8_countUnit_0 1 rfl rfl)
theorem dX8_countUnit_2 : decode cX8_countUnit 2 = .ok (.getfield 276, 3) := dk_180 1 20 (dk_at dksX8_countUnit_0 2 rfl rfl)
theorem dX8_countUnit_5 : decode cX8_countUnit 5 = .ok (.iconst 1, 1) := dk_4 (dk_at dksX8_countUnit_0 5 rfl rfl)
theorem dX8_countUnit_6 : decode cX8_countUnit 6 = .ok (.iadd, 1) := dk_96 (dk_at dksX8_countUnit_0 6 rfl rfl)
theorem dX8_countUnit_7 : decode cX8_countUnit 7 = .ok (.putfield 276, 3) := dk_181 1 20 (dk_at dksX8_countUnit_0 7 rfl rfl)
theorem dX8_countUnit_10 : decode cX8_countUnit 10 = .ok (.aload_n 0, 1) := dk_42 (dk_at dksX8_countUnit_0 10 rfl rfl)
theorem dX8_countUnit_11 : decode cX8_countUnit 11 = .ok (.dup, 1) := dk_89 (dk_at dksX8_countUnit_0 11 rfl rfl)
theorem dX8_countUnit_12 : decode cX8_countUnit 12 = .ok (.getfield 279, 3) := dk_180 1 23 (dk_at dksX8_countUnit_0 12 rfl rfl)
theorem dX8_countUnit_15 : decode cX8_countUnit 15 = .ok (.iconst 1, 1) := dk_4 (dk_at dksX8_countUnit_0 15 rfl rfl)
theorem dX8_countUnit_16 : decode cX8_countUnit 16 = .ok (.iadd, 1) := dk_96 (dk_at dksX8_countUnit_0 16 rfl rfl)
theorem dX8_countUnit_17 : decode cX8_countUnit 17 = .ok (.putfield 279, 3) := dk_181 1 23 (dk_at dksX8_countUnit_0 17 rfl rfl)
theorem dX8_countUnit_20 : decode cX8_countUnit 20 = .ok (.return_, 1) := dk_177 (dk_at dksX8_countUnit_0 20 rfl rfl)
abbrev cX8_asked : ByteArray := prog_20_method_23_code
def yX8_asked : MethodName := ⟨RX8, "asked", "()I"⟩
def dkwX8_asked_3 : List UInt8 := [154, 0, 5, 7, 172, 42, 180, 0, 174, 20, 0, 227, 148, 154, 0, 7, 8, 167, 0, 4, 2, 172]
abbrev dktX8_asked_3 : List UInt8 := dkwX8_asked_3 ++ []
def dkwX8_asked_2 : List UInt8 := [172, 42, 180, 0, 174, 20, 0, 209, 148, 154, 0, 5, 6, 172, 42, 180, 0, 174, 20, 0, 225, 148]
abbrev dktX8_asked_2 : List UInt8 := dkwX8_asked_2 ++ dktX8_asked_3
def dkwX8_asked_1 : List UInt8 := [180, 0, 174, 20, 0, 223, 148, 154, 0, 5, 4, 172, 42, 180, 0, 174, 20, 0, 213, 148, 154, 0, 5, 5]
abbrev dktX8_asked_1 : List UInt8 := dkwX8_asked_1 ++ dktX8_asked_2
def dkwX8_asked_0 : List UInt8 := [42, 180, 0, 181, 4, 159, 0, 5, 2, 172, 42, 180, 0, 174, 20, 0, 221, 148, 154, 0, 5, 3, 172, 42]
abbrev dktX8_asked_0 : List UInt8 := dkwX8_asked_0 ++ dktX8_asked_1
theorem dksX8_asked_0 : cX8_asked.data.toList.drop 0 = dktX8_asked_0 := by decide +kernel
theorem dksX8_asked_1 : cX8_asked.data.toList.drop 24 = dktX8_asked_1 := dk_seg dksX8_asked_0 24 rfl rfl
theorem dksX8_asked_2 : cX8_asked.data.toList.drop 48 = dktX8_asked_2 := dk_seg dksX8_asked_1 24 rfl rfl
theorem dksX8_asked_3 : cX8_asked.data.toList.drop 70 = dktX8_asked_3 := dk_seg dksX8_asked_2 22 rfl rfl
theorem dX8_asked_0 : decode cX8_asked 0 = .ok (.aload_n 0, 1) := dk_42 (dk_at dksX8_asked_0 0 rfl rfl)
theorem dX8_asked_1 : decode cX8_asked 1 = .ok (.getfield 181, 3) := dk_180 0 181 (dk_at dksX8_asked_0 1 rfl rfl)
theorem dX8_asked_4 : decode cX8_asked 4 = .ok (.iconst 1, 1) := dk_4 (dk_at dksX8_asked_0 4 rfl rfl)
theorem dX8_asked_5 : decode cX8_asked 5 = .ok (.if_icmp .eq 5, 3) := dk_159 0 5 (dk_at dksX8_asked_0 5 rfl rfl)
theorem dX8_asked_8 : decode cX8_asked 8 = .ok (.iconst (-1), 1) := dk_2 (dk_at dksX8_asked_0 8 rfl rfl)
theorem dX8_asked_9 : decode cX8_asked 9 = .ok (.ireturn, 1) := dk_172 (dk_at dksX8_asked_0 9 rfl rfl)
theorem dX8_asked_10 : decode cX8_asked 10 = .ok (.aload_n 0, 1) := dk_42 (dk_at dksX8_asked_0 10 rfl rfl)
theorem dX8_asked_11 : decode cX8_asked 11 = .ok (.getfield 174, 3) := dk_180 0 174 (dk_at dksX8_asked_0 11 rfl rfl)
theorem dX8_asked_14 : decode cX8_asked 14 = .ok (.ldc2_w 221, 3) := dk_20 0 221 (dk_at dksX8_asked_0 14 rfl rfl)
theorem dX8_asked_17 : decode cX8_asked 17 = .ok (.lcmp, 1) := dk_148 (dk_at dksX8_asked_0 17 rfl rfl)
theorem dX8_asked_18 : decode cX8_asked 18 = .ok (.ifCond .ne 5, 3) := dk_154 0 5 (dk_at dksX8_asked_0 18 rfl rfl)
theorem dX8_asked_21 : decode cX8_asked 21 = .ok (.iconst 0, 1) := dk_3 (dk_at dksX8_asked_0 21 rfl rfl)
theorem dX8_asked_22 : decode cX8_asked 22 = .ok (.ireturn, 1) := dk_172 (dk_at dksX8_asked_0 22 rfl rfl)
theorem dX8_asked_23 : decode cX8_asked 23 = .ok (.aload_n 0, 1) := dk_42 (dk_at dksX8_asked_0 23 rfl rfl)
theorem dX8_asked_24 : decode cX8_asked 24 = .ok (.getfield 174, 3) := dk_180 0 174 (dk_at dksX8_asked_1 0 rfl rfl)
theorem dX8_asked_27 : decode cX8_asked 27 = .ok (.ldc2_w 223, 3) := dk_20 0 223 (dk_at dksX8_asked_1 3 rfl rfl)
theorem dX8_asked_30 : decode cX8_asked 30 = .ok (.lcmp, 1) := dk_148 (dk_at dksX8_asked_1 6 rfl rfl)
theorem dX8_asked_31 : decode cX8_asked 31 = .ok (.ifCond .ne 5, 3) := dk_154 0 5 (dk_at dksX8_asked_1 7 rfl rfl)
theorem dX8_asked_34 : decode cX8_asked 34 = .ok (.iconst 1, 1) := dk_4 (dk_at dksX8_asked_1 10 rfl rfl)
theorem dX8_asked_35 : decode cX8_asked 35 = .ok (.ireturn, 1) := dk_172 (dk_at dksX8_asked_1 11 rfl rfl)
theorem dX8_asked_36 : decode cX8_asked 36 = .ok (.aload_n 0, 1) := dk_42 (dk_at dksX8_asked_1 12 rfl rfl)
theorem dX8_asked_37 : decode cX8_asked 37 = .ok (.getfield 174, 3) := dk_180 0 174 (dk_at dksX8_asked_1 13 rfl rfl)
theorem dX8_asked_40 : decode cX8_asked 40 = .ok (.ldc2_w 213, 3) := dk_20 0 213 (dk_at dksX8_asked_1 16 rfl rfl)
theorem dX8_asked_43 : decode cX8_asked 43 = .ok (.lcmp, 1) := dk_148 (dk_at dksX8_asked_1 19 rfl rfl)
theorem dX8_asked_44 : decode cX8_asked 44 = .ok (.ifCond .ne 5, 3) := dk_154 0 5 (dk_at dksX8_asked_1 20 rfl rfl)
theorem dX8_asked_47 : decode cX8_asked 47 = .ok (.iconst 2, 1) := dk_5 (dk_at dksX8_asked_1 23 rfl rfl)
theorem dX8_asked_48 : decode cX8_asked 48 = .ok (.ireturn, 1) := dk_172 (dk_at dksX8_asked_2 0 rfl rfl)
theorem dX8_asked_49 : decode cX8_asked 49 = .ok (.aload_n 0, 1) := dk_42 (dk_at dksX8_asked_2 1 rfl rfl)
theorem dX8_asked_50 : decode cX8_asked 50 = .ok (.getfield 174, 3) := dk_180 0 174 (dk_at dksX8_asked_2 2 rfl rfl)
theorem dX8_asked_53 : decode cX8_asked 53 = .ok (.ldc2_w 209, 3) := dk_20 0 209 (dk_at dksX8_asked_2 5 rfl rfl)
theorem dX8_asked_56 : decode cX8_asked 56 = .ok (.lcmp, 1) := dk_148 (dk_at dksX8_asked_2 8 rfl rfl)
theorem dX8_asked_57 : decode cX8_asked 57 = .ok (.ifCond .ne 5, 3) := dk_154 0 5 (dk_at dksX8_asked_2 9 rfl rfl)
theorem dX8_asked_60 : decode cX8_asked 60 = .ok (.iconst 3, 1) := dk_6 (dk_at dksX8_asked_2 12 rfl rfl)
theorem dX8_asked_61 : decode cX8_asked 61 = .ok (.ireturn, 1) := dk_172 (dk_at dksX8_asked_2 13 rfl rfl)
theorem dX8_asked_62 : decode cX8_asked 62 = .ok (.aload_n 0, 1) := dk_42 (dk_at dksX8_asked_2 14 rfl rfl)
theorem dX8_asked_63 : decode cX8_asked 63 = .ok (.getfield 174, 3) := dk_180 0 174 (dk_at dksX8_asked_2 15 rfl rfl)
theorem dX8_asked_66 : decode cX8_asked 66 = .ok (.ldc2_w 225, 3) := dk_20 0 225 (dk_at dksX8_asked_2 18 rfl rfl)
theorem dX8_asked_69 : decode cX8_asked 69 = .ok (.lcmp, 1) := dk_148 (dk_at dksX8_asked_2 21 rfl rfl)
theorem dX8_asked_70 : decode cX8_asked 70 = .ok (.ifCond .ne 5, 3) := dk_154 0 5 (dk_at dksX8_asked_3 0 rfl rfl)
theorem dX8_asked_73 : decode cX8_asked 73 = .ok (.iconst 4, 1) := dk_7 (dk_at dksX8_asked_3 3 rfl rfl)
theorem dX8_asked_74 : decode cX8_asked 74 = .ok (.ireturn, 1) := dk_172 (dk_at dksX8_asked_3 4 rfl rfl)
theorem dX8_asked_75 : decode cX8_asked 75 = .ok (.aload_n 0, 1) := dk_42 (dk_at dksX8_asked_3 5 rfl rfl)
theorem dX8_asked_76 : decode cX8_asked 76 = .ok (.getfield 174, 3) := dk_180 0 174 (dk_at dksX8_asked_3 6 rfl rfl)
theorem dX8_asked_79 : decode cX8_asked 79 = .ok (.ldc2_w 227, 3) := dk_20 0 227 (dk_at dksX8_asked_3 9 rfl rfl)
theorem dX8_asked_82 : decode cX8_asked 82 = .ok (.lcmp, 1) := dk_148 (dk_at dksX8_asked_3 12 rfl rfl)
theorem dX8_asked_83 : decode cX8_asked 83 = .ok (.ifCond .ne 7, 3) := dk_154 0 7 (dk_at dksX8_asked_3 13 rfl rfl)
theorem dX8_asked_86 : decode cX8_asked 86 = .ok (.iconst 5, 1) := dk_8 (dk_at dksX8_asked_3 16 rfl rfl)
theorem dX8_asked_87 : decode cX8_asked 87 = .ok (.goto 4, 3) := dk_167 0 4 (dk_at dksX8_asked_3 17 rfl rfl)
theorem dX8_asked_90 : decode cX8_asked 90 = .ok (.iconst (-1), 1) := dk_2 (dk_at dksX8_asked_3 20 rfl rfl)
theorem dX8_asked_91 : decode cX8_asked 91 = .ok (.ireturn, 1) := dk_172 (dk_at dksX8_asked_3 21 rfl rfl)
abbrev cX8_add : ByteArray := prog_20_method_18_code
def yX8_add : MethodName := ⟨RX8, "add", "(II)V"⟩
def dkwX8_add_1 : List UInt8 := [180, 1, 4, 4, 96, 181, 1, 4, 177]
abbrev dktX8_add_1 : List UInt8 := dkwX8_add_1 ++ []
def dkwX8_add_0 : List UInt8 := [42, 180, 0, 21, 42, 180, 1, 4, 27, 79, 42, 180, 0, 24, 42, 180, 1, 4, 28, 79, 42, 89]
abbrev dktX8_add_0 : List UInt8 := dkwX8_add_0 ++ dktX8_add_1
theorem dksX8_add_0 : cX8_add.data.toList.drop 0 = dktX8_add_0 := by decide +kernel
theorem dksX8_add_1 : cX8_add.data.toList.drop 22 = dktX8_add_1 := dk_seg dksX8_add_0 22 rfl rfl
theorem dX8_add_0 : decode cX8_add 0 = .ok (.aload_n 0, 1) := dk_42 (dk_at dksX8_add_0 0 rfl rfl)
theorem dX8_add_1 : decode cX8_add 1 = .ok (.getfield 21, 3) := dk_180 0 21 (dk_at dksX8_add_0 1 rfl rfl)
theorem dX8_add_4 : decode cX8_add 4 = .ok (.aload_n 0, 1) := dk_42 (dk_at dksX8_add_0 4 rfl rfl)
theorem dX8_add_5 : decode cX8_add 5 = .ok (.getfield 260, 3) := dk_180 1 4 (dk_at dksX8_add_0 5 rfl rfl)
theorem dX8_add_8 : decode cX8_add 8 = .ok (.iload_n 1, 1) := dk_27 (dk_at dksX8_add_0 8 rfl rfl)
theorem dX8_add_9 : decode cX8_add 9 = .ok (.iastore, 1) := dk_79 (dk_at dksX8_add_0 9 rfl rfl)
theorem dX8_add_10 : decode cX8_add 10 = .ok (.aload_n 0, 1) := dk_42 (dk_at dksX8_add_0 10 rfl rfl)
theorem dX8_add_11 : decode cX8_add 11 = .ok (.getfield 24, 3) := dk_180 0 24 (dk_at dksX8_add_0 11 rfl rfl)
theorem dX8_add_14 : decode cX8_add 14 = .ok (.aload_n 0, 1) := dk_42 (dk_at dksX8_add_0 14 rfl rfl)
theorem dX8_add_15 : decode cX8_add 15 = .ok (.getfield 260, 3) := dk_180 1 4 (dk_at dksX8_add_0 15 rfl rfl)
theorem dX8_add_18 : decode cX8_add 18 = .ok (.iload_n 2, 1) := dk_28 (dk_at dksX8_add_0 18 rfl rfl)
theorem dX8_add_19 : decode cX8_add 19 = .ok (.iastore, 1) := dk_79 (dk_at dksX8_add_0 19 rfl rfl)
theorem dX8_add_20 : decode cX8_add 20 = .ok (.aload_n 0, 1) := dk_42 (dk_at dksX8_add_0 20 rfl rfl)
theorem dX8_add_21 : decode cX8_add 21 = .ok (.dup, 1) := dk_89 (dk_at dksX8_add_0 21 rfl rfl)
theorem dX8_add_22 : decode cX8_add 22 = .ok (.getfield 260, 3) := dk_180 1 4 (dk_at dksX8_add_1 0 rfl rfl)
theorem dX8_add_25 : decode cX8_add 25 = .ok (.iconst 1, 1) := dk_4 (dk_at dksX8_add_1 3 rfl rfl)
theorem dX8_add_26 : decode cX8_add 26 = .ok (.iadd, 1) := dk_96 (dk_at dksX8_add_1 4 rfl rfl)
theorem dX8_add_27 : decode cX8_add 27 = .ok (.putfield 260, 3) := dk_181 1 4 (dk_at dksX8_add_1 5 rfl rfl)
theorem dX8_add_30 : decode cX8_add 30 = .ok (.return_, 1) := dk_177 (dk_at dksX8_add_1 8 rfl rfl)
abbrev cX8_sign : ByteArray := prog_20_method_28_code
def yX8_sign : MethodName := ⟨RX8, "sign", "()I"⟩
def dkwX8_sign_4 : List UInt8 := [180, 0, 181, 16, 37, 160, 0, 10, 42, 180, 0, 181, 167, 0, 4, 3, 172]
abbrev dktX8_sign_4 : List UInt8 := dkwX8_sign_4 ++ []
def dkwX8_sign_3 : List UInt8 := [159, 0, 30, 42, 180, 0, 181, 16, 42, 159, 0, 21, 42, 180, 0, 181, 16, 47, 159, 0, 12, 42]
abbrev dktX8_sign_3 : List UInt8 := dkwX8_sign_3 ++ dktX8_sign_4
def dkwX8_sign_2 : List UInt8 := [180, 0, 181, 16, 61, 159, 0, 48, 42, 180, 0, 181, 16, 43, 159, 0, 39, 42, 180, 0, 181, 16, 45]
abbrev dktX8_sign_2 : List UInt8 := dkwX8_sign_2 ++ dktX8_sign_3
def dkwX8_sign_1 : List UInt8 := [16, 124, 172, 42, 180, 0, 181, 16, 60, 159, 0, 66, 42, 180, 0, 181, 16, 62, 159, 0, 57, 42]
abbrev dktX8_sign_1 : List UInt8 := dkwX8_sign_1 ++ dktX8_sign_2
def dkwX8_sign_0 : List UInt8 := [42, 20, 0, 229, 182, 0, 239, 153, 0, 6, 16, 38, 172, 42, 20, 0, 231, 182, 0, 239, 153, 0, 6]
abbrev dktX8_sign_0 : List UInt8 := dkwX8_sign_0 ++ dktX8_sign_1
theorem dksX8_sign_0 : cX8_sign.data.toList.drop 0 = dktX8_sign_0 := by decide +kernel
theorem dksX8_sign_1 : cX8_sign.data.toList.drop 23 = dktX8_sign_1 := dk_seg dksX8_sign_0 23 rfl rfl
theorem dksX8_sign_2 : cX8_sign.data.toList.drop 45 = dktX8_sign_2 := dk_seg dksX8_sign_1 22 rfl rfl
theorem dksX8_sign_3 : cX8_sign.data.toList.drop 68 = dktX8_sign_3 := dk_seg dksX8_sign_2 23 rfl rfl
theorem dksX8_sign_4 : cX8_sign.data.toList.drop 90 = dktX8_sign_4 := dk_seg dksX8_sign_3 22 rfl rfl
theorem dX8_sign_0 : decode cX8_sign 0 = .ok (.aload_n 0, 1) := dk_42 (dk_at dksX8_sign_0 0 rfl rfl)
theorem dX8_sign_1 : decode cX8_sign 1 = .ok (.ldc2_w 229, 3) := dk_20 0 229 (dk_at dksX8_sign_0 1 rfl rfl)
theorem dX8_sign_4 : decode cX8_sign 4 = .ok (.invokevirtual 239, 3) := dk_182 0 239 (dk_at dksX8_sign_0 4 rfl rfl)
theorem dX8_sign_7 : decode cX8_sign 7 = .ok (.ifCond .eq 6, 3) := dk_153 0 6 (dk_at dksX8_sign_0 7 rfl rfl)
theorem dX8_sign_10 : decode cX8_sign 10 = .ok (.bipush 38, 2) := dk_16 38 (dk_at dksX8_sign_0 10 rfl rfl)
theorem dX8_sign_12 : decode cX8_sign 12 = .ok (.ireturn, 1) := dk_172 (dk_at dksX8_sign_0 12 rfl rfl)
theorem dX8_sign_13 : decode cX8_sign 13 = .ok (.aload_n 0, 1) := dk_42 (dk_at dksX8_sign_0 13 rfl rfl)
theorem dX8_sign_14 : decode cX8_sign 14 = .ok (.ldc2_w 231, 3) := dk_20 0 231 (dk_at dksX8_sign_0 14 rfl rfl)
theorem dX8_sign_17 : decode cX8_sign 17 = .ok (.invokevirtual 239, 3) := dk_182 0 239 (dk_at dksX8_sign_0 17 rfl rfl)
theorem dX8_sign_20 : decode cX8_sign 20 = .ok (.ifCond .eq 6, 3) := dk_153 0 6 (dk_at dksX8_sign_0 20 rfl rfl)
theorem dX8_sign_23 : decode cX8_sign 23 = .ok (.bipush 124, 2) := dk_16 124 (dk_at dksX8_sign_1 0 rfl rfl)
theorem dX8_sign_25 : decode cX8_sign 25 = .ok (.ireturn, 1) := dk_172 (dk_at dksX8_sign_1 2 rfl rfl)
theorem dX8_sign_26 : decode cX8_sign 26 = .ok (.aload_n 0, 1) := dk_42 (dk_at dksX8_sign_1 3 rfl rfl)
theorem dX8_sign_27 : decode cX8_sign 27 = .ok (.getfield 181, 3) := dk_180 0 181 (dk_at dksX8_sign_1 4 rfl rfl)
theorem dX8_sign_30 : decode cX8_sign 30 = .ok (.bipush 60, 2) := dk_16 60 (dk_at dksX8_sign_1 7 rfl rfl)
theorem dX8_sign_32 : decode cX8_sign 32 = .ok (.if_icmp .eq 66, 3) := dk_159 0 66 (dk_at dksX8_sign_1 9 rfl rfl)
theorem dX8_sign_35 : decode cX8_sign 35 = .ok (.aload_n 0, 1) := dk_42 (dk_at dksX8_sign_1 12 rfl rfl)
theorem dX8_sign_36 : decode cX8_sign 36 = .ok (.getfield 181, 3) := dk_180 0 181 (dk_at dksX8_sign_1 13 rfl rfl)
theorem dX8_sign_39 : decode cX8_sign 39 = .ok (.bipush 62, 2) := dk_16 62 (dk_at dksX8_sign_1 16 rfl rfl)
theorem dX8_sign_41 : decode cX8_sign 41 = .ok (.if_icmp .eq 57, 3) := dk_159 0 57 (dk_at dksX8_sign_1 18 rfl rfl)
theorem dX8_sign_44 : decode cX8_sign 44 = .ok (.aload_n 0, 1) := dk_42 (dk_at dksX8_sign_1 21 rfl rfl)
theorem dX8_sign_45 : decode cX8_sign 45 = .ok (.getfield 181, 3) := dk_180 0 181 (dk_at dksX8_sign_2 0 rfl rfl)
theorem dX8_sign_48 : decode cX8_sign 48 = .ok (.bipush 61, 2) := dk_16 61 (dk_at dksX8_sign_2 3 rfl rfl)
theorem dX8_sign_50 : decode cX8_sign 50 = .ok (.if_icmp .eq 48, 3) := dk_159 0 48 (dk_at dksX8_sign_2 5 rfl rfl)
theorem dX8_sign_53 : decode cX8_sign 53 = .ok (.aload_n 0, 1) := dk_42 (dk_at dksX8_sign_2 8 rfl rfl)
theorem dX8_sign_54 : decode cX8_sign 54 = .ok (.getfield 181, 3) := dk_180 0 181 (dk_at dksX8_sign_2 9 rfl rfl)
theorem dX8_sign_57 : decode cX8_sign 57 = .ok (.bipush 43, 2) := dk_16 43 (dk_at dksX8_sign_2 12 rfl rfl)
theorem dX8_sign_59 : decode cX8_sign 59 = .ok (.if_icmp .eq 39, 3) := dk_159 0 39 (dk_at dksX8_sign_2 14 rfl rfl)
theorem dX8_sign_62 : decode cX8_sign 62 = .ok (.aload_n 0, 1) := dk_42 (dk_at dksX8_sign_2 17 rfl rfl)
theorem dX8_sign_63 : decode cX8_sign 63 = .ok (.getfield 181, 3) := dk_180 0 181 (dk_at dksX8_sign_2 18 rfl rfl)
theorem dX8_sign_66 : decode cX8_sign 66 = .ok (.bipush 45, 2) := dk_16 45 (dk_at dksX8_sign_2 21 rfl rfl)
theorem dX8_sign_68 : decode cX8_sign 68 = .ok (.if_icmp .eq 30, 3) := dk_159 0 30 (dk_at dksX8_sign_3 0 rfl rfl)
theorem dX8_sign_71 : decode cX8_sign 71 = .ok (.aload_n 0, 1) := dk_42 (dk_at dksX8_sign_3 3 rfl rfl)
theorem dX8_sign_72 : decode cX8_sign 72 = .ok (.getfield 181, 3) := dk_180 0 181 (dk_at dksX8_sign_3 4 rfl rfl)
theorem dX8_sign_75 : decode cX8_sign 75 = .ok (.bipush 42, 2) := dk_16 42 (dk_at dksX8_sign_3 7 rfl rfl)
theorem dX8_sign_77 : decode cX8_sign 77 = .ok (.if_icmp .eq 21, 3) := dk_159 0 21 (dk_at dksX8_sign_3 9 rfl rfl)
theorem dX8_sign_80 : decode cX8_sign 80 = .ok (.aload_n 0, 1) := dk_42 (dk_at dksX8_sign_3 12 rfl rfl)
theorem dX8_sign_81 : decode cX8_sign 81 = .ok (.getfield 181, 3) := dk_180 0 181 (dk_at dksX8_sign_3 13 rfl rfl)
theorem dX8_sign_84 : decode cX8_sign 84 = .ok (.bipush 47, 2) := dk_16 47 (dk_at dksX8_sign_3 16 rfl rfl)
theorem dX8_sign_86 : decode cX8_sign 86 = .ok (.if_icmp .eq 12, 3) := dk_159 0 12 (dk_at dksX8_sign_3 18 rfl rfl)
theorem dX8_sign_89 : decode cX8_sign 89 = .ok (.aload_n 0, 1) := dk_42 (dk_at dksX8_sign_3 21 rfl rfl)
theorem dX8_sign_90 : decode cX8_sign 90 = .ok (.getfield 181, 3) := dk_180 0 181 (dk_at dksX8_sign_4 0 rfl rfl)
theorem dX8_sign_93 : decode cX8_sign 93 = .ok (.bipush 37, 2) := dk_16 37 (dk_at dksX8_sign_4 3 rfl rfl)
theorem dX8_sign_95 : decode cX8_sign 95 = .ok (.if_icmp .ne 10, 3) := dk_160 0 10 (dk_at dksX8_sign_4 5 rfl rfl)
theorem dX8_sign_98 : decode cX8_sign 98 = .ok (.aload_n 0, 1) := dk_42 (dk_at dksX8_sign_4 8 rfl rfl)
theorem dX8_sign_99 : decode cX8_sign 99 = .ok (.getfield 181, 3) := dk_180 0 181 (dk_at dksX8_sign_4 9 rfl rfl)
theorem dX8_sign_102 : decode cX8_sign 102 = .ok (.goto 4, 3) := dk_167 0 4 (dk_at dksX8_sign_4 12 rfl rfl)
theorem dX8_sign_105 : decode cX8_sign 105 = .ok (.iconst 0, 1) := dk_3 (dk_at dksX8_sign_4 15 rfl rfl)
theorem dX8_sign_106 : decode cX8_sign 106 = .ok (.ireturn, 1) := dk_172 (dk_at dksX8_sign_4 16 rfl rfl)
abbrev cX8_hasBracket : ByteArray := prog_20_method_29_code
def yX8_hasBracket : MethodName := ⟨RX8, "hasBracket", "()Z"⟩
def dkwX8_hasBracket_1 : List UInt8 := [160, 0, 7, 4, 167, 0, 4, 3, 60, 132, 2, 1, 167, 255, 224, 27, 172]
abbrev dktX8_hasBracket_1 : List UInt8 := dkwX8_hasBracket_1 ++ []
def dkwX8_hasBracket_0 : List UInt8 := [3, 60, 3, 61, 28, 42, 180, 1, 7, 162, 0, 30, 27, 154, 0, 14, 42, 180, 0, 33, 28, 46, 16, 20]
abbrev dktX8_hasBracket_0 : List UInt8 := dkwX8_hasBracket_0 ++ dktX8_hasBracket_1
theorem dksX8_hasBracket_0 : cX8_hasBracket.data.toList.drop 0 = dktX8_hasBracket_0 := by decide +kernel
theorem dksX8_hasBracket_1 : cX8_hasBracket.data.toList.drop 24 = dktX8_hasBracket_1 := dk_seg dksX8_hasBracket_0 24 rfl rfl
theorem dX8_hasBracket_0 : decode cX8_hasBracket 0 = .ok (.iconst 0, 1) := dk_3 (dk_at dksX8_hasBracket_0 0 rfl rfl)
theorem dX8_hasBracket_1 : decode cX8_hasBracket 1 = .ok (.istore_n 1, 1) := dk_60 (dk_at dksX8_hasBracket_0 1 rfl rfl)
theorem dX8_hasBracket_2 : decode cX8_hasBracket 2 = .ok (.iconst 0, 1) := dk_3 (dk_at dksX8_hasBracket_0 2 rfl rfl)
theorem dX8_hasBracket_3 : decode cX8_hasBracket 3 = .ok (.istore_n 2, 1) := dk_61 (dk_at dksX8_hasBracket_0 3 rfl rfl)
theorem dX8_hasBracket_4 : decode cX8_hasBracket 4 = .ok (.iload_n 2, 1) := dk_28 (dk_at dksX8_hasBracket_0 4 rfl rfl)
theorem dX8_hasBracket_5 : decode cX8_hasBracket 5 = .ok (.aload_n 0, 1) := dk_42 (dk_at dksX8_hasBracket_0 5 rfl rfl)
theorem dX8_hasBracket_6 : decode cX8_hasBracket 6 = .ok (.getfield 263, 3) := dk_180 1 7 (dk_at dksX8_hasBracket_0 6 rfl rfl)
theorem dX8_hasBracket_9 : decode cX8_hasBracket 9 = .ok (.if_icmp .ge 30, 3) := dk_162 0 30 (dk_at dksX8_hasBracket_0 9 rfl rfl)
theorem dX8_hasBracket_12 : decode cX8_hasBracket 12 = .ok (.iload_n 1, 1) := dk_27 (dk_at dksX8_hasBracket_0 12 rfl rfl)
theorem dX8_hasBracket_13 : decode cX8_hasBracket 13 = .ok (.ifCond .ne 14, 3) := dk_154 0 14 (dk_at dksX8_hasBracket_0 13 rfl rfl)
theorem dX8_hasBracket_16 : decode cX8_hasBracket 16 = .ok (.aload_n 0, 1) := dk_42 (dk_at dksX8_hasBracket_0 16 rfl rfl)
theorem dX8_hasBracket_17 : decode cX8_hasBracket 17 = .ok (.getfield 33, 3) := dk_180 0 33 (dk_at dksX8_hasBracket_0 17 rfl rfl)
theorem dX8_hasBracket_20 : decode cX8_hasBracket 20 = .ok (.iload_n 2, 1) := dk_28 (dk_at dksX8_hasBracket_0 20 rfl rfl)
theorem dX8_hasBracket_21 : decode cX8_hasBracket 21 = .ok (.iaload, 1) := dk_46 (dk_at dksX8_hasBracket_0 21 rfl rfl)
theorem dX8_hasBracket_22 : decode cX8_hasBracket 22 = .ok (.bipush 20, 2) := dk_16 20 (dk_at dksX8_hasBracket_0 22 rfl rfl)
theorem dX8_hasBracket_24 : decode cX8_hasBracket 24 = .ok (.if_icmp .ne 7, 3) := dk_160 0 7 (dk_at dksX8_hasBracket_1 0 rfl rfl)
theorem dX8_hasBracket_27 : decode cX8_hasBracket 27 = .ok (.iconst 1, 1) := dk_4 (dk_at dksX8_hasBracket_1 3 rfl rfl)
theorem dX8_hasBracket_28 : decode cX8_hasBracket 28 = .ok (.goto 4, 3) := dk_167 0 4 (dk_at dksX8_hasBracket_1 4 rfl rfl)
theorem dX8_hasBracket_31 : decode cX8_hasBracket 31 = .ok (.iconst 0, 1) := dk_3 (dk_at dksX8_hasBracket_1 7 rfl rfl)
theorem dX8_hasBracket_32 : decode cX8_hasBracket 32 = .ok (.istore_n 1, 1) := dk_60 (dk_at dksX8_hasBracket_1 8 rfl rfl)
theorem dX8_hasBracket_33 : decode cX8_hasBracket 33 = .ok (.iinc 2 1, 3) := dk_132 2 1 (dk_at dksX8_hasBracket_1 9 rfl rfl)
theorem dX8_hasBracket_36 : decode cX8_hasBracket 36 = .ok (.goto (-32), 3) := dk_167 255 224 (dk_at dksX8_hasBracket_1 12 rfl rfl)
theorem dX8_hasBracket_39 : decode cX8_hasBracket 39 = .ok (.iload_n 1, 1) := dk_27 (dk_at dksX8_hasBracket_1 15 rfl rfl)
theorem dX8_hasBracket_40 : decode cX8_hasBracket 40 = .ok (.ireturn, 1) := dk_172 (dk_at dksX8_hasBracket_1 16 rfl rfl)
abbrev cX8_close : ByteArray := prog_20_method_20_code
def yX8_close : MethodName := ⟨RX8, "close", "(I)V"⟩
def dkwX8_close_4 : List UInt8 := [182, 1, 13, 167, 255, 158, 177]
abbrev dktX8_close_4 : List UInt8 := dkwX8_close_4 ++ []
def dkwX8_close_3 : List UInt8 := [89, 180, 1, 17, 4, 100, 181, 1, 17, 167, 255, 175, 42, 6, 42, 180, 0, 33, 42, 180, 1, 7, 46]
abbrev dktX8_close_3 : List UInt8 := dkwX8_close_3 ++ dktX8_close_4
def dkwX8_close_2 : List UInt8 := [181, 1, 7, 42, 180, 0, 33, 42, 180, 1, 7, 46, 16, 21, 160, 0, 22, 42, 5, 3, 182, 1, 13, 42]
abbrev dktX8_close_2 : List UInt8 := dkwX8_close_2 ++ dktX8_close_3
def dkwX8_close_1 : List UInt8 := [180, 0, 33, 42, 180, 1, 7, 4, 100, 46, 184, 1, 10, 27, 161, 0, 63, 42, 89, 180, 1, 7, 4, 100]
abbrev dktX8_close_1 : List UInt8 := dkwX8_close_1 ++ dktX8_close_2
def dkwX8_close_0 : List UInt8 := [42, 180, 1, 7, 158, 0, 97, 42, 180, 0, 33, 42, 180, 1, 7, 4, 100, 46, 16, 20, 159, 0, 81, 42]
abbrev dktX8_close_0 : List UInt8 := dkwX8_close_0 ++ dktX8_close_1
theorem dksX8_close_0 : cX8_close.data.toList.drop 0 = dktX8_close_0 := by decide +kernel
theorem dksX8_close_1 : cX8_close.data.toList.drop 24 = dktX8_close_1 := dk_seg dksX8_close_0 24 rfl rfl
theorem dksX8_close_2 : cX8_close.data.toList.drop 48 = dktX8_close_2 := dk_seg dksX8_close_1 24 rfl rfl
theorem dksX8_close_3 : cX8_close.data.toList.drop 72 = dktX8_close_3 := dk_seg dksX8_close_2 24 rfl rfl
theorem dksX8_close_4 : cX8_close.data.toList.drop 95 = dktX8_close_4 := dk_seg dksX8_close_3 23 rfl rfl
theorem dX8_close_0 : decode cX8_close 0 = .ok (.aload_n 0, 1) := dk_42 (dk_at dksX8_close_0 0 rfl rfl)
theorem dX8_close_1 : decode cX8_close 1 = .ok (.getfield 263, 3) := dk_180 1 7 (dk_at dksX8_close_0 1 rfl rfl)
theorem dX8_close_4 : decode cX8_close 4 = .ok (.ifCond .le 97, 3) := dk_158 0 97 (dk_at dksX8_close_0 4 rfl rfl)
theorem dX8_close_7 : decode cX8_close 7 = .ok (.aload_n 0, 1) := dk_42 (dk_at dksX8_close_0 7 rfl rfl)
theorem dX8_close_8 : decode cX8_close 8 = .ok (.getfield 33, 3) := dk_180 0 33 (dk_at dksX8_close_0 8 rfl rfl)
theorem dX8_close_11 : decode cX8_close 11 = .ok (.aload_n 0, 1) := dk_42 (dk_at dksX8_close_0 11 rfl rfl)
theorem dX8_close_12 : decode cX8_close 12 = .ok (.getfield 263, 3) := dk_180 1 7 (dk_at dksX8_close_0 12 rfl rfl)
theorem dX8_close_15 : decode cX8_close 15 = .ok (.iconst 1, 1) := dk_4 (dk_at dksX8_close_0 15 rfl rfl)
theorem dX8_close_16 : decode cX8_close 16 = .ok (.isub, 1) := dk_100 (dk_at dksX8_close_0 16 rfl rfl)
theorem dX8_close_17 : decode cX8_close 17 = .ok (.iaload, 1) := dk_46 (dk_at dksX8_close_0 17 rfl rfl)
theorem dX8_close_18 : decode cX8_close 18 = .ok (.bipush 20, 2) := dk_16 20 (dk_at dksX8_close_0 18 rfl rfl)
theorem dX8_close_20 : decode cX8_close 20 = .ok (.if_icmp .eq 81, 3) := dk_159 0 81 (dk_at dksX8_close_0 20 rfl rfl)
theorem dX8_close_23 : decode cX8_close 23 = .ok (.aload_n 0, 1) := dk_42 (dk_at dksX8_close_0 23 rfl rfl)
theorem dX8_close_24 : decode cX8_close 24 = .ok (.getfield 33, 3) := dk_180 0 33 (dk_at dksX8_close_1 0 rfl rfl)
theorem dX8_close_27 : decode cX8_close 27 = .ok (.aload_n 0, 1) := dk_42 (dk_at dksX8_close_1 3 rfl rfl)
theorem dX8_close_28 : decode cX8_close 28 = .ok (.getfield 263, 3) := dk_180 1 7 (dk_at dksX8_close_1 4 rfl rfl)
theorem dX8_close_31 : decode cX8_close 31 = .ok (.iconst 1, 1) := dk_4 (dk_at dksX8_close_1 7 rfl rfl)
theorem dX8_close_32 : decode cX8_close 32 = .ok (.isub, 1) := dk_100 (dk_at dksX8_close_1 8 rfl rfl)
theorem dX8_close_33 : decode cX8_close 33 = .ok (.iaload, 1) := dk_46 (dk_at dksX8_close_1 9 rfl rfl)
theorem dX8_close_34 : decode cX8_close 34 = .ok (.invokestatic 266, 3) := dk_184 1 10 (dk_at dksX8_close_1 10 rfl rfl)
theorem dX8_close_37 : decode cX8_close 37 = .ok (.iload_n 1, 1) := dk_27 (dk_at dksX8_close_1 13 rfl rfl)
theorem dX8_close_38 : decode cX8_close 38 = .ok (.if_icmp .lt 63, 3) := dk_161 0 63 (dk_at dksX8_close_1 14 rfl rfl)
theorem dX8_close_41 : decode cX8_close 41 = .ok (.aload_n 0, 1) := dk_42 (dk_at dksX8_close_1 17 rfl rfl)
theorem dX8_close_42 : decode cX8_close 42 = .ok (.dup, 1) := dk_89 (dk_at dksX8_close_1 18 rfl rfl)
theorem dX8_close_43 : decode cX8_close 43 = .ok (.getfield 263, 3) := dk_180 1 7 (dk_at dksX8_close_1 19 rfl rfl)
theorem dX8_close_46 : decode cX8_close 46 = .ok (.iconst 1, 1) := dk_4 (dk_at dksX8_close_1 22 rfl rfl)
theorem dX8_close_47 : decode cX8_close 47 = .ok (.isub, 1) := dk_100 (dk_at dksX8_close_1 23 rfl rfl)
theorem dX8_close_48 : decode cX8_close 48 = .ok (.putfield 263, 3) := dk_181 1 7 (dk_at dksX8_close_2 0 rfl rfl)
theorem dX8_close_51 : decode cX8_close 51 = .ok (.aload_n 0, 1) := dk_42 (dk_at dksX8_close_2 3 rfl rfl)
theorem dX8_close_52 : decode cX8_close 52 = .ok (.getfield 33, 3) := dk_180 0 33 (dk_at dksX8_close_2 4 rfl rfl)
theorem dX8_close_55 : decode cX8_close 55 = .ok (.aload_n 0, 1) := dk_42 (dk_at dksX8_close_2 7 rfl rfl)
theorem dX8_close_56 : decode cX8_close 56 = .ok (.getfield 263, 3) := dk_180 1 7 (dk_at dksX8_close_2 8 rfl rfl)
theorem dX8_close_59 : decode cX8_close 59 = .ok (.iaload, 1) := dk_46 (dk_at dksX8_close_2 11 rfl rfl)
theorem dX8_close_60 : decode cX8_close 60 = .ok (.bipush 21, 2) := dk_16 21 (dk_at dksX8_close_2 12 rfl rfl)
theorem dX8_close_62 : decode cX8_close 62 = .ok (.if_icmp .ne 22, 3) := dk_160 0 22 (dk_at dksX8_close_2 14 rfl rfl)
theorem dX8_close_65 : decode cX8_close 65 = .ok (.aload_n 0, 1) := dk_42 (dk_at dksX8_close_2 17 rfl rfl)
theorem dX8_close_66 : decode cX8_close 66 = .ok (.iconst 2, 1) := dk_5 (dk_at dksX8_close_2 18 rfl rfl)
theorem dX8_close_67 : decode cX8_close 67 = .ok (.iconst 0, 1) := dk_3 (dk_at dksX8_close_2 19 rfl rfl)
theorem dX8_close_68 : decode cX8_close 68 = .ok (.invokevirtual 269, 3) := dk_182 1 13 (dk_at dksX8_close_2 20 rfl rfl)
theorem dX8_close_71 : decode cX8_close 71 = .ok (.aload_n 0, 1) := dk_42 (dk_at dksX8_close_2 23 rfl rfl)
theorem dX8_close_72 : decode cX8_close 72 = .ok (.dup, 1) := dk_89 (dk_at dksX8_close_3 0 rfl rfl)
theorem dX8_close_73 : decode cX8_close 73 = .ok (.getfield 273, 3) := dk_180 1 17 (dk_at dksX8_close_3 1 rfl rfl)
theorem dX8_close_76 : decode cX8_close 76 = .ok (.iconst 1, 1) := dk_4 (dk_at dksX8_close_3 4 rfl rfl)
theorem dX8_close_77 : decode cX8_close 77 = .ok (.isub, 1) := dk_100 (dk_at dksX8_close_3 5 rfl rfl)
theorem dX8_close_78 : decode cX8_close 78 = .ok (.putfield 273, 3) := dk_181 1 17 (dk_at dksX8_close_3 6 rfl rfl)
theorem dX8_close_81 : decode cX8_close 81 = .ok (.goto (-81), 3) := dk_167 255 175 (dk_at dksX8_close_3 9 rfl rfl)
theorem dX8_close_84 : decode cX8_close 84 = .ok (.aload_n 0, 1) := dk_42 (dk_at dksX8_close_3 12 rfl rfl)
theorem dX8_close_85 : decode cX8_close 85 = .ok (.iconst 3, 1) := dk_6 (dk_at dksX8_close_3 13 rfl rfl)
theorem dX8_close_86 : decode cX8_close 86 = .ok (.aload_n 0, 1) := dk_42 (dk_at dksX8_close_3 14 rfl rfl)
theorem dX8_close_87 : decode cX8_close 87 = .ok (.getfield 33, 3) := dk_180 0 33 (dk_at dksX8_close_3 15 rfl rfl)
theorem dX8_close_90 : decode cX8_close 90 = .ok (.aload_n 0, 1) := dk_42 (dk_at dksX8_close_3 18 rfl rfl)
theorem dX8_close_91 : decode cX8_close 91 = .ok (.getfield 263, 3) := dk_180 1 7 (dk_at dksX8_close_3 19 rfl rfl)
theorem dX8_close_94 : decode cX8_close 94 = .ok (.iaload, 1) := dk_46 (dk_at dksX8_close_3 22 rfl rfl)
theorem dX8_close_95 : decode cX8_close 95 = .ok (.invokevirtual 269, 3) := dk_182 1 13 (dk_at dksX8_close_4 0 rfl rfl)
theorem dX8_close_98 : decode cX8_close 98 = .ok (.goto (-98), 3) := dk_167 255 158 (dk_at dksX8_close_4 3 rfl rfl)
theorem dX8_close_101 : decode cX8_close 101 = .ok (.return_, 1) := dk_177 (dk_at dksX8_close_4 6 rfl rfl)
abbrev cX8_hasRelation : ByteArray := prog_20_method_21_code
def yX8_hasRelation : MethodName := ⟨RX8, "hasRelation", "()Z"⟩
def dkwX8_hasRelation_3 : List UInt8 := [167, 0, 4, 3, 172]
abbrev dktX8_hasRelation_3 : List UInt8 := dkwX8_hasRelation_3 ++ []
def dkwX8_hasRelation_2 : List UInt8 := [180, 0, 33, 27, 46, 16, 20, 159, 0, 20, 42, 180, 0, 33, 27, 46, 184, 1, 10, 7, 160, 0, 7, 4]
abbrev dktX8_hasRelation_2 : List UInt8 := dkwX8_hasRelation_2 ++ dktX8_hasRelation_3
def dkwX8_hasRelation_1 : List UInt8 := [180, 0, 33, 27, 46, 184, 1, 10, 7, 164, 0, 9, 132, 1, 255, 167, 255, 225, 27, 155, 0, 31, 42]
abbrev dktX8_hasRelation_1 : List UInt8 := dkwX8_hasRelation_1 ++ dktX8_hasRelation_2
def dkwX8_hasRelation_0 : List UInt8 := [42, 180, 1, 7, 4, 100, 60, 27, 155, 0, 33, 42, 180, 0, 33, 27, 46, 16, 20, 159, 0, 22, 42]
abbrev dktX8_hasRelation_0 : List UInt8 := dkwX8_hasRelation_0 ++ dktX8_hasRelation_1
theorem dksX8_hasRelation_0 : cX8_hasRelation.data.toList.drop 0 = dktX8_hasRelation_0 := by decide +kernel
theorem dksX8_hasRelation_1 : cX8_hasRelation.data.toList.drop 23 = dktX8_hasRelation_1 := dk_seg dksX8_hasRelation_0 23 rfl rfl
theorem dksX8_hasRelation_2 : cX8_hasRelation.data.toList.drop 46 = dktX8_hasRelation_2 := dk_seg dksX8_hasRelation_1 23 rfl rfl
theorem dksX8_hasRelation_3 : cX8_hasRelation.data.toList.drop 70 = dktX8_hasRelation_3 := dk_seg dksX8_hasRelation_2 24 rfl rfl
theorem dX8_hasRelation_0 : decode cX8_hasRelation 0 = .ok (.aload_n 0, 1) := dk_42 (dk_at dksX8_hasRelation_0 0 rfl rfl)
theorem dX8_hasRelation_1 : decode cX8_hasRelation 1 = .ok (.getfield 263, 3) := dk_180 1 7 (dk_at dksX8_hasRelation_0 1 rfl rfl)
theorem dX8_hasRelation_4 : decode cX8_hasRelation 4 = .ok (.iconst 1, 1) := dk_4 (dk_at dksX8_hasRelation_0 4 rfl rfl)
theorem dX8_hasRelation_5 : decode cX8_hasRelation 5 = .ok (.isub, 1) := dk_100 (dk_at dksX8_hasRelation_0 5 rfl rfl)
theorem dX8_hasRelation_6 : decode cX8_hasRelation 6 = .ok (.istore_n 1, 1) := dk_60 (dk_at dksX8_hasRelation_0 6 rfl rfl)
theorem dX8_hasRelation_7 : decode cX8_hasRelation 7 = .ok (.iload_n 1, 1) := dk_27 (dk_at dksX8_hasRelation_0 7 rfl rfl)
theorem dX8_hasRelation_8 : decode cX8_hasRelation 8 = .ok (.ifCond .lt 33, 3) := dk_155 0 33 (dk_at dksX8_hasRelation_0 8 rfl rfl)
theorem dX8_hasRelation_11 : decode cX8_hasRelation 11 = .ok (.aload_n 0, 1) := dk_42 (dk_at dksX8_hasRelation_0 11 rfl rfl)
theorem dX8_hasRelation_12 : decode cX8_hasRelation 12 = .ok (.getfield 33, 3) := dk_180 0 33 (dk_at dksX8_hasRelation_0 12 rfl rfl)
theorem dX8_hasRelation_15 : decode cX8_hasRelation 15 = .ok (.iload_n 1, 1) := dk_27 (dk_at dksX8_hasRelation_0 15 rfl rfl)
theorem dX8_hasRelation_16 : decode cX8_hasRelation 16 = .ok (.iaload, 1) := dk_46 (dk_at dksX8_hasRelation_0 16 rfl rfl)
theorem dX8_hasRelation_17 : decode cX8_hasRelation 17 = .ok (.bipush 20, 2) := dk_16 20 (dk_at dksX8_hasRelation_0 17 rfl rfl)
theorem dX8_hasRelation_19 : decode cX8_hasRelation 19 = .ok (.if_icmp .eq 22, 3) := dk_159 0 22 (dk_at dksX8_hasRelation_0 19 rfl rfl)
theorem dX8_hasRelation_22 : decode cX8_hasRelation 22 = .ok (.aload_n 0, 1) := dk_42 (dk_at dksX8_hasRelation_0 22 rfl rfl)
theorem dX8_hasRelation_23 : decode cX8_hasRelation 23 = .ok (.getfield 33, 3) := dk_180 0 33 (dk_at dksX8_hasRelation_1 0 rfl rfl)
theorem dX8_hasRelation_26 : decode cX8_hasRelation 26 = .ok (.iload_n 1, 1) := dk_27 (dk_at dksX8_hasRelation_1 3 rfl rfl)
theorem dX8_hasRelation_27 : decode cX8_hasRelation 27 = .ok (.iaload, 1) := dk_46 (dk_at dksX8_hasRelation_1 4 rfl rfl)
theorem dX8_hasRelation_28 : decode cX8_hasRelation 28 = .ok (.invokestatic 266, 3) := dk_184 1 10 (dk_at dksX8_hasRelation_1 5 rfl rfl)
theorem dX8_hasRelation_31 : decode cX8_hasRelation 31 = .ok (.iconst 4, 1) := dk_7 (dk_at dksX8_hasRelation_1 8 rfl rfl)
theorem dX8_hasRelation_32 : decode cX8_hasRelation 32 = .ok (.if_icmp .le 9, 3) := dk_164 0 9 (dk_at dksX8_hasRelation_1 9 rfl rfl)
theorem dX8_hasRelation_35 : decode cX8_hasRelation 35 = .ok (.iinc 1 (-1), 3) := dk_132 1 255 (dk_at dksX8_hasRelation_1 12 rfl rfl)
theorem dX8_hasRelation_38 : decode cX8_hasRelation 38 = .ok (.goto (-31), 3) := dk_167 255 225 (dk_at dksX8_hasRelation_1 15 rfl rfl)
theorem dX8_hasRelation_41 : decode cX8_hasRelation 41 = .ok (.iload_n 1, 1) := dk_27 (dk_at dksX8_hasRelation_1 18 rfl rfl)
theorem dX8_hasRelation_42 : decode cX8_hasRelation 42 = .ok (.ifCond .lt 31, 3) := dk_155 0 31 (dk_at dksX8_hasRelation_1 19 rfl rfl)
theorem dX8_hasRelation_45 : decode cX8_hasRelation 45 = .ok (.aload_n 0, 1) := dk_42 (dk_at dksX8_hasRelation_1 22 rfl rfl)
theorem dX8_hasRelation_46 : decode cX8_hasRelation 46 = .ok (.getfield 33, 3) := dk_180 0 33 (dk_at dksX8_hasRelation_2 0 rfl rfl)
theorem dX8_hasRelation_49 : decode cX8_hasRelation 49 = .ok (.iload_n 1, 1) := dk_27 (dk_at dksX8_hasRelation_2 3 rfl rfl)
theorem dX8_hasRelation_50 : decode cX8_hasRelation 50 = .ok (.iaload, 1) := dk_46 (dk_at dksX8_hasRelation_2 4 rfl rfl)
theorem dX8_hasRelation_51 : decode cX8_hasRelation 51 = .ok (.bipush 20, 2) := dk_16 20 (dk_at dksX8_hasRelation_2 5 rfl rfl)
theorem dX8_hasRelation_53 : decode cX8_hasRelation 53 = .ok (.if_icmp .eq 20, 3) := dk_159 0 20 (dk_at dksX8_hasRelation_2 7 rfl rfl)
theorem dX8_hasRelation_56 : decode cX8_hasRelation 56 = .ok (.aload_n 0, 1) := dk_42 (dk_at dksX8_hasRelation_2 10 rfl rfl)
theorem dX8_hasRelation_57 : decode cX8_hasRelation 57 = .ok (.getfield 33, 3) := dk_180 0 33 (dk_at dksX8_hasRelation_2 11 rfl rfl)
theorem dX8_hasRelation_60 : decode cX8_hasRelation 60 = .ok (.iload_n 1, 1) := dk_27 (dk_at dksX8_hasRelation_2 14 rfl rfl)
theorem dX8_hasRelation_61 : decode cX8_hasRelation 61 = .ok (.iaload, 1) := dk_46 (dk_at dksX8_hasRelation_2 15 rfl rfl)
theorem dX8_hasRelation_62 : decode cX8_hasRelation 62 = .ok (.invokestatic 266, 3) := dk_184 1 10 (dk_at dksX8_hasRelation_2 16 rfl rfl)
theorem dX8_hasRelation_65 : decode cX8_hasRelation 65 = .ok (.iconst 4, 1) := dk_7 (dk_at dksX8_hasRelation_2 19 rfl rfl)
theorem dX8_hasRelation_66 : decode cX8_hasRelation 66 = .ok (.if_icmp .ne 7, 3) := dk_160 0 7 (dk_at dksX8_hasRelation_2 20 rfl rfl)
theorem dX8_hasRelation_69 : decode cX8_hasRelation 69 = .ok (.iconst 1, 1) := dk_4 (dk_at dksX8_hasRelation_2 23 rfl rfl)
theorem dX8_hasRelation_70 : decode cX8_hasRelation 70 = .ok (.goto 4, 3) := dk_167 0 4 (dk_at dksX8_hasRelation_3 0 rfl rfl)
theorem dX8_hasRelation_73 : decode cX8_hasRelation 73 = .ok (.iconst 0, 1) := dk_3 (dk_at dksX8_hasRelation_3 3 rfl rfl)
theorem dX8_hasRelation_74 : decode cX8_hasRelation 74 = .ok (.ireturn, 1) := dk_172 (dk_at dksX8_hasRelation_3 4 rfl rfl)
abbrev cX8_fault : ByteArray := prog_20_method_46_code
def yX8_fault : MethodName := ⟨RX8, "fault", "(I)I"⟩
def dkwX8_fault_1 : List UInt8 := [172]
abbrev dktX8_fault_1 : List UInt8 := dkwX8_fault_1 ++ []
def dkwX8_fault_0 : List UInt8 := [27, 154, 0, 10, 42, 180, 0, 194, 167, 0, 16, 27, 4, 160, 0, 10, 42, 180, 0, 13, 167, 0, 4, 2]
abbrev dktX8_fault_0 : List UInt8 := dkwX8_fault_0 ++ dktX8_fault_1
theorem dksX8_fault_0 : cX8_fault.data.toList.drop 0 = dktX8_fault_0 := by decide +kernel
theorem dksX8_fault_1 : cX8_fault.data.toList.drop 24 = dktX8_fault_1 := dk_seg dksX8_fault_0 24 rfl rfl
theorem dX8_fault_0 : decode cX8_fault 0 = .ok (.iload_n 1, 1) := dk_27 (dk_at dksX8_fault_0 0 rfl rfl)
theorem dX8_fault_1 : decode cX8_fault 1 = .ok (.ifCond .ne 10, 3) := dk_154 0 10 (dk_at dksX8_fault_0 1 rfl rfl)
theorem dX8_fault_4 : decode cX8_fault 4 = .ok (.aload_n 0, 1) := dk_42 (dk_at dksX8_fault_0 4 rfl rfl)
theorem dX8_fault_5 : decode cX8_fault 5 = .ok (.getfield 194, 3) := dk_180 0 194 (dk_at dksX8_fault_0 5 rfl rfl)
theorem dX8_fault_8 : decode cX8_fault 8 = .ok (.goto 16, 3) := dk_167 0 16 (dk_at dksX8_fault_0 8 rfl rfl)
theorem dX8_fault_11 : decode cX8_fault 11 = .ok (.iload_n 1, 1) := dk_27 (dk_at dksX8_fault_0 11 rfl rfl)
theorem dX8_fault_12 : decode cX8_fault 12 = .ok (.iconst 1, 1) := dk_4 (dk_at dksX8_fault_0 12 rfl rfl)
theorem dX8_fault_13 : decode cX8_fault 13 = .ok (.if_icmp .ne 10, 3) := dk_160 0 10 (dk_at dksX8_fault_0 13 rfl rfl)
theorem dX8_fault_16 : decode cX8_fault 16 = .ok (.aload_n 0, 1) := dk_42 (dk_at dksX8_fault_0 16 rfl rfl)
theorem dX8_fault_17 : decode cX8_fault 17 = .ok (.getfield 13, 3) := dk_180 0 13 (dk_at dksX8_fault_0 17 rfl rfl)
theorem dX8_fault_20 : decode cX8_fault 20 = .ok (.goto 4, 3) := dk_167 0 4 (dk_at dksX8_fault_0 20 rfl rfl)
theorem dX8_fault_23 : decode cX8_fault 23 = .ok (.iconst (-1), 1) := dk_2 (dk_at dksX8_fault_0 23 rfl rfl)
theorem dX8_fault_24 : decode cX8_fault 24 = .ok (.ireturn, 1) := dk_172 (dk_at dksX8_fault_1 0 rfl rfl)
abbrev cX8_board : ByteArray := prog_20_method_58_code
def yX8_board : MethodName := ⟨RX8, "board", "(II)I"⟩
def dkwX8_board_5 : List UInt8 := [172, 2, 172]
abbrev dktX8_board_5 : List UInt8 := dkwX8_board_5 ++ []
def dkwX8_board_4 : List UInt8 := [180, 0, 66, 27, 46, 172, 42, 180, 0, 72, 27, 46, 172, 42, 27, 182, 1, 68, 172, 42, 27, 182, 1, 194]
abbrev dktX8_board_4 : List UInt8 := dkwX8_board_4 ++ dktX8_board_5
def dkwX8_board_3 : List UInt8 := [46, 172, 42, 180, 0, 87, 16, 12, 27, 96, 46, 172, 42, 180, 0, 87, 16, 16, 27, 96, 46, 172, 42]
abbrev dktX8_board_3 : List UInt8 := dkwX8_board_3 ++ dktX8_board_4
def dkwX8_board_2 : List UInt8 := [42, 180, 0, 87, 27, 46, 172, 42, 180, 0, 87, 7, 27, 96, 46, 172, 42, 180, 0, 87, 16, 8, 27, 96]
abbrev dktX8_board_2 : List UInt8 := dkwX8_board_2 ++ dktX8_board_3
def dkwX8_board_1 : List UInt8 := [170, 0, 0, 0, 121, 0, 0, 0, 0, 0, 0, 0, 8, 0, 0, 0, 49, 0, 0, 0, 56, 0, 0, 0, 65, 0, 0, 0, 75, 0, 0, 0, 85, 0, 0, 0, 95, 0, 0, 0, 102, 0, 0, 0, 109, 0, 0, 0, 115]
abbrev dktX8_board_1 : List UInt8 := dkwX8_board_1 ++ dktX8_board_2
def dkwX8_board_0 : List UInt8 := [42, 27, 182, 1, 188, 154, 0, 5, 2, 172, 42, 182, 1, 191, 28]
abbrev dktX8_board_0 : List UInt8 := dkwX8_board_0 ++ dktX8_board_1
theorem dksX8_board_0 : cX8_board.data.toList.drop 0 = dktX8_board_0 := by decide +kernel
theorem dksX8_board_1 : cX8_board.data.toList.drop 15 = dktX8_board_1 := dk_seg dksX8_board_0 15 rfl rfl
theorem dksX8_board_2 : cX8_board.data.toList.drop 64 = dktX8_board_2 := dk_seg dksX8_board_1 49 rfl rfl
theorem dksX8_board_3 : cX8_board.data.toList.drop 88 = dktX8_board_3 := dk_seg dksX8_board_2 24 rfl rfl
theorem dksX8_board_4 : cX8_board.data.toList.drop 111 = dktX8_board_4 := dk_seg dksX8_board_3 23 rfl rfl
theorem dksX8_board_5 : cX8_board.data.toList.drop 135 = dktX8_board_5 := dk_seg dksX8_board_4 24 rfl rfl
theorem dX8_board_0 : decode cX8_board 0 = .ok (.aload_n 0, 1) := dk_42 (dk_at dksX8_board_0 0 rfl rfl)
theorem dX8_board_1 : decode cX8_board 1 = .ok (.iload_n 1, 1) := dk_27 (dk_at dksX8_board_0 1 rfl rfl)
theorem dX8_board_2 : decode cX8_board 2 = .ok (.invokevirtual 444, 3) := dk_182 1 188 (dk_at dksX8_board_0 2 rfl rfl)
theorem dX8_board_5 : decode cX8_board 5 = .ok (.ifCond .ne 5, 3) := dk_154 0 5 (dk_at dksX8_board_0 5 rfl rfl)
theorem dX8_board_8 : decode cX8_board 8 = .ok (.iconst (-1), 1) := dk_2 (dk_at dksX8_board_0 8 rfl rfl)
theorem dX8_board_9 : decode cX8_board 9 = .ok (.ireturn, 1) := dk_172 (dk_at dksX8_board_0 9 rfl rfl)
theorem dX8_board_10 : decode cX8_board 10 = .ok (.aload_n 0, 1) := dk_42 (dk_at dksX8_board_0 10 rfl rfl)
theorem dX8_board_11 : decode cX8_board 11 = .ok (.invokevirtual 447, 3) := dk_182 1 191 (dk_at dksX8_board_0 11 rfl rfl)
theorem dX8_board_14 : decode cX8_board 14 = .ok (.iload_n 2, 1) := dk_28 (dk_at dksX8_board_0 14 rfl rfl)
theorem dX8_board_15 : decode cX8_board 15 = .ok (.tableswitch 121 0 8 #[49, 56, 65, 75, 85, 95, 102, 109, 115], 49) := by decide +kernel
theorem dX8_board_64 : decode cX8_board 64 = .ok (.aload_n 0, 1) := dk_42 (dk_at dksX8_board_2 0 rfl rfl)
theorem dX8_board_65 : decode cX8_board 65 = .ok (.getfield 87, 3) := dk_180 0 87 (dk_at dksX8_board_2 1 rfl rfl)
theorem dX8_board_68 : decode cX8_board 68 = .ok (.iload_n 1, 1) := dk_27 (dk_at dksX8_board_2 4 rfl rfl)
theorem dX8_board_69 : decode cX8_board 69 = .ok (.iaload, 1) := dk_46 (dk_at dksX8_board_2 5 rfl rfl)
theorem dX8_board_70 : decode cX8_board 70 = .ok (.ireturn, 1) := dk_172 (dk_at dksX8_board_2 6 rfl rfl)
theorem dX8_board_71 : decode cX8_board 71 = .ok (.aload_n 0, 1) := dk_42 (dk_at dksX8_board_2 7 rfl rfl)
theorem dX8_board_72 : decode cX8_board 72 = .ok (.getfield 87, 3) := dk_180 0 87 (dk_at dksX8_board_2 8 rfl rfl)
theorem dX8_board_75 : decode cX8_board 75 = .ok (.iconst 4, 1) := dk_7 (dk_at dksX8_board_2 11 rfl rfl)
theorem dX8_board_76 : decode cX8_board 76 = .ok (.iload_n 1, 1) := dk_27 (dk_at dksX8_board_2 12 rfl rfl)
theorem dX8_board_77 : decode cX8_board 77 = .ok (.iadd, 1) := dk_96 (dk_at dksX8_board_2 13 rfl rfl)
theorem dX8_board_78 : decode cX8_board 78 = .ok (.iaload, 1) := dk_46 (dk_at dksX8_board_2 14 rfl rfl)
theorem dX8_board_79 : decode cX8_board 79 = .ok (.ireturn, 1) := dk_172 (dk_at dksX8_board_2 15 rfl rfl)
theorem dX8_board_80 : decode cX8_board 80 = .ok (.aload_n 0, 1) := dk_42 (dk_at dksX8_board_2 16 rfl rfl)
theorem dX8_board_81 : decode cX8_board 81 = .ok (.getfield 87, 3) := dk_180 0 87 (dk_at dksX8_board_2 17 rfl rfl)
theorem dX8_board_84 : decode cX8_board 84 = .ok (.bipush 8, 2) := dk_16 8 (dk_at dksX8_board_2 20 rfl rfl)
theorem dX8_board_86 : decode cX8_board 86 = .ok (.iload_n 1, 1) := dk_27 (dk_at dksX8_board_2 22 rfl rfl)
theorem dX8_board_87 : decode cX8_board 87 = .ok (.iadd, 1) := dk_96 (dk_at dksX8_board_2 23 rfl rfl)
theorem dX8_board_88 : decode cX8_board 88 = .ok (.iaload, 1) := dk_46 (dk_at dksX8_board_3 0 rfl rfl)
theorem dX8_board_89 : decode cX8_board 89 = .ok (.ireturn, 1) := dk_172 (dk_at dksX8_board_3 1 rfl rfl)
theorem dX8_board_90 : decode cX8_board 90 = .ok (.aload_n 0, 1) := dk_42 (dk_at dksX8_board_3 2 rfl rfl)
theorem dX8_board_91 : decode cX8_board 91 = .ok (.getfield 87, 3) := dk_180 0 87 (dk_at dksX8_board_3 3 rfl rfl)
theorem dX8_board_94 : decode cX8_board 94 = .ok (.bipush 12, 2) := dk_16 12 (dk_at dksX8_board_3 6 rfl rfl)
theorem dX8_board_96 : decode cX8_board 96 = .ok (.iload_n 1, 1) := dk_27 (dk_at dksX8_board_3 8 rfl rfl)
theorem dX8_board_97 : decode cX8_board 97 = .ok (.iadd, 1) := dk_96 (dk_at dksX8_board_3 9 rfl rfl)
theorem dX8_board_98 : decode cX8_board 98 = .ok (.iaload, 1) := dk_46 (dk_at dksX8_board_3 10 rfl rfl)
theorem dX8_board_99 : decode cX8_board 99 = .ok (.ireturn, 1) := dk_172 (dk_at dksX8_board_3 11 rfl rfl)
theorem dX8_board_100 : decode cX8_board 100 = .ok (.aload_n 0, 1) := dk_42 (dk_at dksX8_board_3 12 rfl rfl)
theorem dX8_board_101 : decode cX8_board 101 = .ok (.getfield 87, 3) := dk_180 0 87 (dk_at dksX8_board_3 13 rfl rfl)
theorem dX8_board_104 : decode cX8_board 104 = .ok (.bipush 16, 2) := dk_16 16 (dk_at dksX8_board_3 16 rfl rfl)
theorem dX8_board_106 : decode cX8_board 106 = .ok (.iload_n 1, 1) := dk_27 (dk_at dksX8_board_3 18 rfl rfl)
theorem dX8_board_107 : decode cX8_board 107 = .ok (.iadd, 1) := dk_96 (dk_at dksX8_board_3 19 rfl rfl)
theorem dX8_board_108 : decode cX8_board 108 = .ok (.iaload, 1) := dk_46 (dk_at dksX8_board_3 20 rfl rfl)
theorem dX8_board_109 : decode cX8_board 109 = .ok (.ireturn, 1) := dk_172 (dk_at dksX8_board_3 21 rfl rfl)
theorem dX8_board_110 : decode cX8_board 110 = .ok (.aload_n 0, 1) := dk_42 (dk_at dksX8_board_3 22 rfl rfl)
theorem dX8_board_111 : decode cX8_board 111 = .ok (.getfield 66, 3) := dk_180 0 66 (dk_at dksX8_board_4 0 rfl rfl)
theorem dX8_board_114 : decode cX8_board 114 = .ok (.iload_n 1, 1) := dk_27 (dk_at dksX8_board_4 3 rfl rfl)
theorem dX8_board_115 : decode cX8_board 115 = .ok (.iaload, 1) := dk_46 (dk_at dksX8_board_4 4 rfl rfl)
theorem dX8_board_116 : decode cX8_board 116 = .ok (.ireturn, 1) := dk_172 (dk_at dksX8_board_4 5 rfl rfl)
theorem dX8_board_117 : decode cX8_board 117 = .ok (.aload_n 0, 1) := dk_42 (dk_at dksX8_board_4 6 rfl rfl)
theorem dX8_board_118 : decode cX8_board 118 = .ok (.getfield 72, 3) := dk_180 0 72 (dk_at dksX8_board_4 7 rfl rfl)
theorem dX8_board_121 : decode cX8_board 121 = .ok (.iload_n 1, 1) := dk_27 (dk_at dksX8_board_4 10 rfl rfl)
theorem dX8_board_122 : decode cX8_board 122 = .ok (.iaload, 1) := dk_46 (dk_at dksX8_board_4 11 rfl rfl)
theorem dX8_board_123 : decode cX8_board 123 = .ok (.ireturn, 1) := dk_172 (dk_at dksX8_board_4 12 rfl rfl)
theorem dX8_board_124 : decode cX8_board 124 = .ok (.aload_n 0, 1) := dk_42 (dk_at dksX8_board_4 13 rfl rfl)
theorem dX8_board_125 : decode cX8_board 125 = .ok (.iload_n 1, 1) := dk_27 (dk_at dksX8_board_4 14 rfl rfl)
theorem dX8_board_126 : decode cX8_board 126 = .ok (.invokevirtual 324, 3) := dk_182 1 68 (dk_at dksX8_board_4 15 rfl rfl)
theorem dX8_board_129 : decode cX8_board 129 = .ok (.ireturn, 1) := dk_172 (dk_at dksX8_board_4 18 rfl rfl)
theorem dX8_board_130 : decode cX8_board 130 = .ok (.aload_n 0, 1) := dk_42 (dk_at dksX8_board_4 19 rfl rfl)
theorem dX8_board_131 : decode cX8_board 131 = .ok (.iload_n 1, 1) := dk_27 (dk_at dksX8_board_4 20 rfl rfl)
theorem dX8_board_132 : decode cX8_board 132 = .ok (.invokevirtual 450, 3) := dk_182 1 194 (dk_at dksX8_board_4 21 rfl rfl)
theorem dX8_board_135 : decode cX8_board 135 = .ok (.ireturn, 1) := dk_172 (dk_at dksX8_board_5 0 rfl rfl)
theorem dX8_board_136 : decode cX8_board 136 = .ok (.iconst (-1), 1) := dk_2 (dk_at dksX8_board_5 1 rfl rfl)
theorem dX8_board_137 : decode cX8_board 137 = .ok (.ireturn, 1) := dk_172 (dk_at dksX8_board_5 2 rfl rfl)
abbrev cX8_isBoard : ByteArray := prog_20_method_48_code
def yX8_isBoard : MethodName := ⟨RX8, "isBoard", "(I)Z"⟩
def dkwX8_isBoard_0 : List UInt8 := [27, 3, 42, 180, 1, 149, 4, 100, 184, 1, 170, 172]
abbrev dktX8_isBoard_0 : List UInt8 := dkwX8_isBoard_0 ++ []
theorem dksX8_isBoard_0 : cX8_isBoard.data.toList.drop 0 = dktX8_isBoard_0 := by decide +kernel
theorem dX8_isBoard_0 : decode cX8_isBoard 0 = .ok (.iload_n 1, 1) := dk_27 (dk_at dksX8_isBoard_0 0 rfl rfl)
theorem dX8_isBoard_1 : decode cX8_isBoard 1 = .ok (.iconst 0, 1) := dk_3 (dk_at dksX8_isBoard_0 1 rfl rfl)
theorem dX8_isBoard_2 : decode cX8_isBoard 2 = .ok (.aload_n 0, 1) := dk_42 (dk_at dksX8_isBoard_0 2 rfl rfl)
theorem dX8_isBoard_3 : decode cX8_isBoard 3 = .ok (.getfield 405, 3) := dk_180 1 149 (dk_at dksX8_isBoard_0 3 rfl rfl)
theorem dX8_isBoard_6 : decode cX8_isBoard 6 = .ok (.iconst 1, 1) := dk_4 (dk_at dksX8_isBoard_0 6 rfl rfl)
theorem dX8_isBoard_7 : decode cX8_isBoard 7 = .ok (.isub, 1) := dk_100 (dk_at dksX8_isBoard_0 7 rfl rfl)
theorem dX8_isBoard_8 : decode cX8_isBoard 8 = .ok (.invokestatic 426, 3) := dk_184 1 170 (dk_at dksX8_isBoard_0 8 rfl rfl)
theorem dX8_isBoard_11 : decode cX8_isBoard 11 = .ok (.ireturn, 1) := dk_172 (dk_at dksX8_isBoard_0 11 rfl rfl)
abbrev cX8_isIn : ByteArray := prog_20_method_47_code
def yX8_isIn : MethodName := ⟨RX8, "isIn", "(III)Z"⟩
def dkwX8_isIn_0 : List UInt8 := [26, 27, 161, 0, 12, 26, 28, 163, 0, 7, 4, 167, 0, 4, 3, 172]
abbrev dktX8_isIn_0 : List UInt8 := dkwX8_isIn_0 ++ []
theorem dksX8_isIn_0 : cX8_isIn.data.toList.drop 0 = dktX8_isIn_0 := by decide +kernel
theorem dX8_isIn_0 : decode cX8_isIn 0 = .ok (.iload_n 0, 1) := dk_26 (dk_at dksX8_isIn_0 0 rfl rfl)
theorem dX8_isIn_1 : decode cX8_isIn 1 = .ok (.iload_n 1, 1) := dk_27 (dk_at dksX8_isIn_0 1 rfl rfl)
theorem dX8_isIn_2 : decode cX8_isIn 2 = .ok (.if_icmp .lt 12, 3) := dk_161 0 12 (dk_at dksX8_isIn_0 2 rfl rfl)
theorem dX8_isIn_5 : decode cX8_isIn 5 = .ok (.iload_n 0, 1) := dk_26 (dk_at dksX8_isIn_0 5 rfl rfl)
theorem dX8_isIn_6 : decode cX8_isIn 6 = .ok (.iload_n 2, 1) := dk_28 (dk_at dksX8_isIn_0 6 rfl rfl)
theorem dX8_isIn_7 : decode cX8_isIn 7 = .ok (.if_icmp .gt 7, 3) := dk_163 0 7 (dk_at dksX8_isIn_0 7 rfl rfl)
theorem dX8_isIn_10 : decode cX8_isIn 10 = .ok (.iconst 1, 1) := dk_4 (dk_at dksX8_isIn_0 10 rfl rfl)
theorem dX8_isIn_11 : decode cX8_isIn 11 = .ok (.goto 4, 3) := dk_167 0 4 (dk_at dksX8_isIn_0 11 rfl rfl)
theorem dX8_isIn_14 : decode cX8_isIn 14 = .ok (.iconst 0, 1) := dk_3 (dk_at dksX8_isIn_0 14 rfl rfl)
theorem dX8_isIn_15 : decode cX8_isIn 15 = .ok (.ireturn, 1) := dk_172 (dk_at dksX8_isIn_0 15 rfl rfl)
abbrev cX8_fill : ByteArray := prog_20_method_51_code
def yX8_fill : MethodName := ⟨RX8, "fill", "()V"⟩
def dkwX8_fill_1 : List UInt8 := [167, 255, 235, 177]
abbrev dktX8_fill_1 : List UInt8 := dkwX8_fill_1 ++ []
def dkwX8_fill_0 : List UInt8 := [3, 60, 27, 16, 28, 162, 0, 21, 42, 180, 0, 87, 27, 42, 180, 0, 84, 27, 46, 79, 132, 1, 1]
abbrev dktX8_fill_0 : List UInt8 := dkwX8_fill_0 ++ dktX8_fill_1
theorem dksX8_fill_0 : cX8_fill.data.toList.drop 0 = dktX8_fill_0 := by decide +kernel
theorem dksX8_fill_1 : cX8_fill.data.toList.drop 23 = dktX8_fill_1 := dk_seg dksX8_fill_0 23 rfl rfl
theorem dX8_fill_0 : decode cX8_fill 0 = .ok (.iconst 0, 1) := dk_3 (dk_at dksX8_fill_0 0 rfl rfl)
theorem dX8_fill_1 : decode cX8_fill 1 = .ok (.istore_n 1, 1) := dk_60 (dk_at dksX8_fill_0 1 rfl rfl)
theorem dX8_fill_2 : decode cX8_fill 2 = .ok (.iload_n 1, 1) := dk_27 (dk_at dksX8_fill_0 2 rfl rfl)
theorem dX8_fill_3 : decode cX8_fill 3 = .ok (.bipush 28, 2) := dk_16 28 (dk_at dksX8_fill_0 3 rfl rfl)
theorem dX8_fill_5 : decode cX8_fill 5 = .ok (.if_icmp .ge 21, 3) := dk_162 0 21 (dk_at dksX8_fill_0 5 rfl rfl)
theorem dX8_fill_8 : decode cX8_fill 8 = .ok (.aload_n 0, 1) := dk_42 (dk_at dksX8_fill_0 8 rfl rfl)
theorem dX8_fill_9 : decode cX8_fill 9 = .ok (.getfield 87, 3) := dk_180 0 87 (dk_at dksX8_fill_0 9 rfl rfl)
theorem dX8_fill_12 : decode cX8_fill 12 = .ok (.iload_n 1, 1) := dk_27 (dk_at dksX8_fill_0 12 rfl rfl)
theorem dX8_fill_13 : decode cX8_fill 13 = .ok (.aload_n 0, 1) := dk_42 (dk_at dksX8_fill_0 13 rfl rfl)
theorem dX8_fill_14 : decode cX8_fill 14 = .ok (.getfield 84, 3) := dk_180 0 84 (dk_at dksX8_fill_0 14 rfl rfl)
theorem dX8_fill_17 : decode cX8_fill 17 = .ok (.iload_n 1, 1) := dk_27 (dk_at dksX8_fill_0 17 rfl rfl)
theorem dX8_fill_18 : decode cX8_fill 18 = .ok (.iaload, 1) := dk_46 (dk_at dksX8_fill_0 18 rfl rfl)
theorem dX8_fill_19 : decode cX8_fill 19 = .ok (.iastore, 1) := dk_79 (dk_at dksX8_fill_0 19 rfl rfl)
theorem dX8_fill_20 : decode cX8_fill 20 = .ok (.iinc 1 1, 3) := dk_132 1 1 (dk_at dksX8_fill_0 20 rfl rfl)
theorem dX8_fill_23 : decode cX8_fill 23 = .ok (.goto (-21), 3) := dk_167 255 235 (dk_at dksX8_fill_1 0 rfl rfl)
theorem dX8_fill_26 : decode cX8_fill 26 = .ok (.return_, 1) := dk_177 (dk_at dksX8_fill_1 3 rfl rfl)
abbrev cX8_burdenOf : ByteArray := prog_20_method_35_code
def yX8_burdenOf : MethodName := ⟨RX8, "burdenOf", "(I)I"⟩
def dkwX8_burdenOf_1 : List UInt8 := [160, 0, 12, 42, 180, 0, 75, 29, 46, 167, 0, 4, 3, 96, 61, 132, 3, 1, 167, 255, 219, 28, 172]
abbrev dktX8_burdenOf_1 : List UInt8 := dkwX8_burdenOf_1 ++ []
def dkwX8_burdenOf_0 : List UInt8 := [3, 61, 3, 62, 29, 42, 180, 1, 65, 162, 0, 35, 28, 42, 180, 0, 87, 16, 20, 29, 96, 46, 27]
abbrev dktX8_burdenOf_0 : List UInt8 := dkwX8_burdenOf_0 ++ dktX8_burdenOf_1
theorem dksX8_burdenOf_0 : cX8_burdenOf.data.toList.drop 0 = dktX8_burdenOf_0 := by decide +kernel
theorem dksX8_burdenOf_1 : cX8_burdenOf.data.toList.drop 23 = dktX8_burdenOf_1 := dk_seg dksX8_burdenOf_0 23 rfl rfl
theorem dX8_burdenOf_0 : decode cX8_burdenOf 0 = .ok (.iconst 0, 1) := dk_3 (dk_at dksX8_burdenOf_0 0 rfl rfl)
theorem dX8_burdenOf_1 : decode cX8_burdenOf 1 = .ok (.istore_n 2, 1) := dk_61 (dk_at dksX8_burdenOf_0 1 rfl rfl)
theorem dX8_burdenOf_2 : decode cX8_burdenOf 2 = .ok (.iconst 0, 1) := dk_3 (dk_at dksX8_burdenOf_0 2 rfl rfl)
theorem dX8_burdenOf_3 : decode cX8_burdenOf 3 = .ok (.istore_n 3, 1) := dk_62 (dk_at dksX8_burdenOf_0 3 rfl rfl)
theorem dX8_burdenOf_4 : decode cX8_burdenOf 4 = .ok (.iload_n 3, 1) := dk_29 (dk_at dksX8_burdenOf_0 4 rfl rfl)
theorem dX8_burdenOf_5 : decode cX8_burdenOf 5 = .ok (.aload_n 0, 1) := dk_42 (dk_at dksX8_burdenOf_0 5 rfl rfl)
theorem dX8_burdenOf_6 : decode cX8_burdenOf 6 = .ok (.getfield 321, 3) := dk_180 1 65 (dk_at dksX8_burdenOf_0 6 rfl rfl)
theorem dX8_burdenOf_9 : decode cX8_burdenOf 9 = .ok (.if_icmp .ge 35, 3) := dk_162 0 35 (dk_at dksX8_burdenOf_0 9 rfl rfl)
theorem dX8_burdenOf_12 : decode cX8_burdenOf 12 = .ok (.iload_n 2, 1) := dk_28 (dk_at dksX8_burdenOf_0 12 rfl rfl)
theorem dX8_burdenOf_13 : decode cX8_burdenOf 13 = .ok (.aload_n 0, 1) := dk_42 (dk_at dksX8_burdenOf_0 13 rfl rfl)
theorem dX8_burdenOf_14 : decode cX8_burdenOf 14 = .ok (.getfield 87, 3) := dk_180 0 87 (dk_at dksX8_burdenOf_0 14 rfl rfl)
theorem dX8_burdenOf_17 : decode cX8_burdenOf 17 = .ok (.bipush 20, 2) := dk_16 20 (dk_at dksX8_burdenOf_0 17 rfl rfl)
theorem dX8_burdenOf_19 : decode cX8_burdenOf 19 = .ok (.iload_n 3, 1) := dk_29 (dk_at dksX8_burdenOf_0 19 rfl rfl)
theorem dX8_burdenOf_20 : decode cX8_burdenOf 20 = .ok (.iadd, 1) := dk_96 (dk_at dksX8_burdenOf_0 20 rfl rfl)
theorem dX8_burdenOf_21 : decode cX8_burdenOf 21 = .ok (.iaload, 1) := dk_46 (dk_at dksX8_burdenOf_0 21 rfl rfl)
theorem dX8_burdenOf_22 : decode cX8_burdenOf 22 = .ok (.iload_n 1, 1) := dk_27 (dk_at dksX8_burdenOf_0 22 rfl rfl)
theorem dX8_burdenOf_23 : decode cX8_burdenOf 23 = .ok (.if_icmp .ne 12, 3) := dk_160 0 12 (dk_at dksX8_burdenOf_1 0 rfl rfl)
theorem dX8_burdenOf_26 : decode cX8_burdenOf 26 = .ok (.aload_n 0, 1) := dk_42 (dk_at dksX8_burdenOf_1 3 rfl rfl)
theorem dX8_burdenOf_27 : decode cX8_burdenOf 27 = .ok (.getfield 75, 3) := dk_180 0 75 (dk_at dksX8_burdenOf_1 4 rfl rfl)
theorem dX8_burdenOf_30 : decode cX8_burdenOf 30 = .ok (.iload_n 3, 1) := dk_29 (dk_at dksX8_burdenOf_1 7 rfl rfl)
theorem dX8_burdenOf_31 : decode cX8_burdenOf 31 = .ok (.iaload, 1) := dk_46 (dk_at dksX8_burdenOf_1 8 rfl rfl)
theorem dX8_burdenOf_32 : decode cX8_burdenOf 32 = .ok (.goto 4, 3) := dk_167 0 4 (dk_at dksX8_burdenOf_1 9 rfl rfl)
theorem dX8_burdenOf_35 : decode cX8_burdenOf 35 = .ok (.iconst 0, 1) := dk_3 (dk_at dksX8_burdenOf_1 12 rfl rfl)
theorem dX8_burdenOf_36 : decode cX8_burdenOf 36 = .ok (.iadd, 1) := dk_96 (dk_at dksX8_burdenOf_1 13 rfl rfl)
theorem dX8_burdenOf_37 : decode cX8_burdenOf 37 = .ok (.istore_n 2, 1) := dk_61 (dk_at dksX8_burdenOf_1 14 rfl rfl)
theorem dX8_burdenOf_38 : decode cX8_burdenOf 38 = .ok (.iinc 3 1, 3) := dk_132 3 1 (dk_at dksX8_burdenOf_1 15 rfl rfl)
theorem dX8_burdenOf_41 : decode cX8_burdenOf 41 = .ok (.goto (-37), 3) := dk_167 255 219 (dk_at dksX8_burdenOf_1 18 rfl rfl)
theorem dX8_burdenOf_44 : decode cX8_burdenOf 44 = .ok (.iload_n 2, 1) := dk_28 (dk_at dksX8_burdenOf_1 21 rfl rfl)
theorem dX8_burdenOf_45 : decode cX8_burdenOf 45 = .ok (.ireturn, 1) := dk_172 (dk_at dksX8_burdenOf_1 22 rfl rfl)
abbrev cX8_loadsAt : ByteArray := prog_20_method_57_code
def yX8_loadsAt : MethodName := ⟨RX8, "loadsAt", "(I)I"⟩
def dkwX8_loadsAt_1 : List UInt8 := [160, 0, 7, 4, 167, 0, 4, 3, 184, 1, 61, 29, 120, 128, 61, 132, 3, 1, 167, 255, 219, 28, 172]
abbrev dktX8_loadsAt_1 : List UInt8 := dkwX8_loadsAt_1 ++ []
def dkwX8_loadsAt_0 : List UInt8 := [3, 61, 3, 62, 29, 42, 180, 1, 65, 162, 0, 35, 28, 42, 180, 0, 87, 16, 20, 29, 96, 46, 27]
abbrev dktX8_loadsAt_0 : List UInt8 := dkwX8_loadsAt_0 ++ dktX8_loadsAt_1
theorem dksX8_loadsAt_0 : cX8_loadsAt.data.toList.drop 0 = dktX8_loadsAt_0 := by decide +kernel
theorem dksX8_loadsAt_1 : cX8_loadsAt.data.toList.drop 23 = dktX8_loadsAt_1 := dk_seg dksX8_loadsAt_0 23 rfl rfl
theorem dX8_loadsAt_0 : decode cX8_loadsAt 0 = .ok (.iconst 0, 1) := dk_3 (dk_at dksX8_loadsAt_0 0 rfl rfl)
theorem dX8_loadsAt_1 : decode cX8_loadsAt 1 = .ok (.istore_n 2, 1) := dk_61 (dk_at dksX8_loadsAt_0 1 rfl rfl)
theorem dX8_loadsAt_2 : decode cX8_loadsAt 2 = .ok (.iconst 0, 1) := dk_3 (dk_at dksX8_loadsAt_0 2 rfl rfl)
theorem dX8_loadsAt_3 : decode cX8_loadsAt 3 = .ok (.istore_n 3, 1) := dk_62 (dk_at dksX8_loadsAt_0 3 rfl rfl)
theorem dX8_loadsAt_4 : decode cX8_loadsAt 4 = .ok (.iload_n 3, 1) := dk_29 (dk_at dksX8_loadsAt_0 4 rfl rfl)
theorem dX8_loadsAt_5 : decode cX8_loadsAt 5 = .ok (.aload_n 0, 1) := dk_42 (dk_at dksX8_loadsAt_0 5 rfl rfl)
theorem dX8_loadsAt_6 : decode cX8_loadsAt 6 = .ok (.getfield 321, 3) := dk_180 1 65 (dk_at dksX8_loadsAt_0 6 rfl rfl)
theorem dX8_loadsAt_9 : decode cX8_loadsAt 9 = .ok (.if_icmp .ge 35, 3) := dk_162 0 35 (dk_at dksX8_loadsAt_0 9 rfl rfl)
theorem dX8_loadsAt_12 : decode cX8_loadsAt 12 = .ok (.iload_n 2, 1) := dk_28 (dk_at dksX8_loadsAt_0 12 rfl rfl)
theorem dX8_loadsAt_13 : decode cX8_loadsAt 13 = .ok (.aload_n 0, 1) := dk_42 (dk_at dksX8_loadsAt_0 13 rfl rfl)
theorem dX8_loadsAt_14 : decode cX8_loadsAt 14 = .ok (.getfield 87, 3) := dk_180 0 87 (dk_at dksX8_loadsAt_0 14 rfl rfl)
theorem dX8_loadsAt_17 : decode cX8_loadsAt 17 = .ok (.bipush 20, 2) := dk_16 20 (dk_at dksX8_loadsAt_0 17 rfl rfl)
theorem dX8_loadsAt_19 : decode cX8_loadsAt 19 = .ok (.iload_n 3, 1) := dk_29 (dk_at dksX8_loadsAt_0 19 rfl rfl)
theorem dX8_loadsAt_20 : decode cX8_loadsAt 20 = .ok (.iadd, 1) := dk_96 (dk_at dksX8_loadsAt_0 20 rfl rfl)
theorem dX8_loadsAt_21 : decode cX8_loadsAt 21 = .ok (.iaload, 1) := dk_46 (dk_at dksX8_loadsAt_0 21 rfl rfl)
theorem dX8_loadsAt_22 : decode cX8_loadsAt 22 = .ok (.iload_n 1, 1) := dk_27 (dk_at dksX8_loadsAt_0 22 rfl rfl)
theorem dX8_loadsAt_23 : decode cX8_loadsAt 23 = .ok (.if_icmp .ne 7, 3) := dk_160 0 7 (dk_at dksX8_loadsAt_1 0 rfl rfl)
theorem dX8_loadsAt_26 : decode cX8_loadsAt 26 = .ok (.iconst 1, 1) := dk_4 (dk_at dksX8_loadsAt_1 3 rfl rfl)
theorem dX8_loadsAt_27 : decode cX8_loadsAt 27 = .ok (.goto 4, 3) := dk_167 0 4 (dk_at dksX8_loadsAt_1 4 rfl rfl)
theorem dX8_loadsAt_30 : decode cX8_loadsAt 30 = .ok (.iconst 0, 1) := dk_3 (dk_at dksX8_loadsAt_1 7 rfl rfl)
theorem dX8_loadsAt_31 : decode cX8_loadsAt 31 = .ok (.invokestatic 317, 3) := dk_184 1 61 (dk_at dksX8_loadsAt_1 8 rfl rfl)
theorem dX8_loadsAt_34 : decode cX8_loadsAt 34 = .ok (.iload_n 3, 1) := dk_29 (dk_at dksX8_loadsAt_1 11 rfl rfl)
theorem dX8_loadsAt_35 : decode cX8_loadsAt 35 = .ok (.ishl, 1) := dk_120 (dk_at dksX8_loadsAt_1 12 rfl rfl)
theorem dX8_loadsAt_36 : decode cX8_loadsAt 36 = .ok (.ior, 1) := dk_128 (dk_at dksX8_loadsAt_1 13 rfl rfl)
theorem dX8_loadsAt_37 : decode cX8_loadsAt 37 = .ok (.istore_n 2, 1) := dk_61 (dk_at dksX8_loadsAt_1 14 rfl rfl)
theorem dX8_loadsAt_38 : decode cX8_loadsAt 38 = .ok (.iinc 3 1, 3) := dk_132 3 1 (dk_at dksX8_loadsAt_1 15 rfl rfl)
theorem dX8_loadsAt_41 : decode cX8_loadsAt 41 = .ok (.goto (-37), 3) := dk_167 255 219 (dk_at dksX8_loadsAt_1 18 rfl rfl)
theorem dX8_loadsAt_44 : decode cX8_loadsAt 44 = .ok (.iload_n 2, 1) := dk_28 (dk_at dksX8_loadsAt_1 21 rfl rfl)
theorem dX8_loadsAt_45 : decode cX8_loadsAt 45 = .ok (.ireturn, 1) := dk_172 (dk_at dksX8_loadsAt_1 22 rfl rfl)
abbrev cX8_truth : ByteArray := prog_20_method_31_code
def yX8_truth : MethodName := ⟨RX8, "truth", "(Z)I"⟩
def dkwX8_truth_0 : List UInt8 := [26, 153, 0, 7, 4, 167, 0, 4, 3, 172]
abbrev dktX8_truth_0 : List UInt8 := dkwX8_truth_0 ++ []
theorem dksX8_truth_0 : cX8_truth.data.toList.drop 0 = dktX8_truth_0 := by decide +kernel
theorem dX8_truth_0 : decode cX8_truth 0 = .ok (.iload_n 0, 1) := dk_26 (dk_at dksX8_truth_0 0 rfl rfl)
theorem dX8_truth_1 : decode cX8_truth 1 = .ok (.ifCond .eq 7, 3) := dk_153 0 7 (dk_at dksX8_truth_0 1 rfl rfl)
theorem dX8_truth_4 : decode cX8_truth 4 = .ok (.iconst 1, 1) := dk_4 (dk_at dksX8_truth_0 4 rfl rfl)
theorem dX8_truth_5 : decode cX8_truth 5 = .ok (.goto 4, 3) := dk_167 0 4 (dk_at dksX8_truth_0 5 rfl rfl)
theorem dX8_truth_8 : decode cX8_truth 8 = .ok (.iconst 0, 1) := dk_3 (dk_at dksX8_truth_0 8 rfl rfl)
theorem dX8_truth_9 : decode cX8_truth 9 = .ok (.ireturn, 1) := dk_172 (dk_at dksX8_truth_0 9 rfl rfl)
abbrev cX8_load : ByteArray := prog_20_method_59_code
def yX8_load : MethodName := ⟨RX8, "load", "(II)I"⟩
def dkwX8_load_1 : List UInt8 := [154, 0, 12, 42, 180, 0, 75, 27, 46, 167, 0, 12, 42, 180, 0, 84, 16, 20, 27, 96, 46, 172]
abbrev dktX8_load_1 : List UInt8 := dkwX8_load_1 ++ []
def dkwX8_load_0 : List UInt8 := [42, 27, 182, 1, 197, 153, 0, 12, 28, 3, 4, 184, 1, 170, 154, 0, 8, 16, 253, 167, 0, 25, 28]
abbrev dktX8_load_0 : List UInt8 := dkwX8_load_0 ++ dktX8_load_1
theorem dksX8_load_0 : cX8_load.data.toList.drop 0 = dktX8_load_0 := by decide +kernel
theorem dksX8_load_1 : cX8_load.data.toList.drop 23 = dktX8_load_1 := dk_seg dksX8_load_0 23 rfl rfl
theorem dX8_load_0 : decode cX8_load 0 = .ok (.aload_n 0, 1) := dk_42 (dk_at dksX8_load_0 0 rfl rfl)
theorem dX8_load_1 : decode cX8_load 1 = .ok (.iload_n 1, 1) := dk_27 (dk_at dksX8_load_0 1 rfl rfl)
theorem dX8_load_2 : decode cX8_load 2 = .ok (.invokevirtual 453, 3) := dk_182 1 197 (dk_at dksX8_load_0 2 rfl rfl)
theorem dX8_load_5 : decode cX8_load 5 = .ok (.ifCond .eq 12, 3) := dk_153 0 12 (dk_at dksX8_load_0 5 rfl rfl)
theorem dX8_load_8 : decode cX8_load 8 = .ok (.iload_n 2, 1) := dk_28 (dk_at dksX8_load_0 8 rfl rfl)
theorem dX8_load_9 : decode cX8_load 9 = .ok (.iconst 0, 1) := dk_3 (dk_at dksX8_load_0 9 rfl rfl)
theorem dX8_load_10 : decode cX8_load 10 = .ok (.iconst 1, 1) := dk_4 (dk_at dksX8_load_0 10 rfl rfl)
theorem dX8_load_11 : decode cX8_load 11 = .ok (.invokestatic 426, 3) := dk_184 1 170 (dk_at dksX8_load_0 11 rfl rfl)
theorem dX8_load_14 : decode cX8_load 14 = .ok (.ifCond .ne 8, 3) := dk_154 0 8 (dk_at dksX8_load_0 14 rfl rfl)
theorem dX8_load_17 : decode cX8_load 17 = .ok (.bipush (-3), 2) := dk_16 253 (dk_at dksX8_load_0 17 rfl rfl)
theorem dX8_load_19 : decode cX8_load 19 = .ok (.goto 25, 3) := dk_167 0 25 (dk_at dksX8_load_0 19 rfl rfl)
theorem dX8_load_22 : decode cX8_load 22 = .ok (.iload_n 2, 1) := dk_28 (dk_at dksX8_load_0 22 rfl rfl)
theorem dX8_load_23 : decode cX8_load 23 = .ok (.ifCond .ne 12, 3) := dk_154 0 12 (dk_at dksX8_load_1 0 rfl rfl)
theorem dX8_load_26 : decode cX8_load 26 = .ok (.aload_n 0, 1) := dk_42 (dk_at dksX8_load_1 3 rfl rfl)
theorem dX8_load_27 : decode cX8_load 27 = .ok (.getfield 75, 3) := dk_180 0 75 (dk_at dksX8_load_1 4 rfl rfl)
theorem dX8_load_30 : decode cX8_load 30 = .ok (.iload_n 1, 1) := dk_27 (dk_at dksX8_load_1 7 rfl rfl)
theorem dX8_load_31 : decode cX8_load 31 = .ok (.iaload, 1) := dk_46 (dk_at dksX8_load_1 8 rfl rfl)
theorem dX8_load_32 : decode cX8_load 32 = .ok (.goto 12, 3) := dk_167 0 12 (dk_at dksX8_load_1 9 rfl rfl)
theorem dX8_load_35 : decode cX8_load 35 = .ok (.aload_n 0, 1) := dk_42 (dk_at dksX8_load_1 12 rfl rfl)
theorem dX8_load_36 : decode cX8_load 36 = .ok (.getfield 84, 3) := dk_180 0 84 (dk_at dksX8_load_1 13 rfl rfl)
theorem dX8_load_39 : decode cX8_load 39 = .ok (.bipush 20, 2) := dk_16 20 (dk_at dksX8_load_1 16 rfl rfl)
theorem dX8_load_41 : decode cX8_load 41 = .ok (.iload_n 1, 1) := dk_27 (dk_at dksX8_load_1 18 rfl rfl)
theorem dX8_load_42 : decode cX8_load 42 = .ok (.iadd, 1) := dk_96 (dk_at dksX8_load_1 19 rfl rfl)
theorem dX8_load_43 : decode cX8_load 43 = .ok (.iaload, 1) := dk_46 (dk_at dksX8_load_1 20 rfl rfl)
theorem dX8_load_44 : decode cX8_load 44 = .ok (.ireturn, 1) := dk_172 (dk_at dksX8_load_1 21 rfl rfl)
abbrev cX8_isLoad : ByteArray := prog_20_method_49_code
def yX8_isLoad : MethodName := ⟨RX8, "isLoad", "(I)Z"⟩
def dkwX8_isLoad_0 : List UInt8 := [27, 3, 42, 180, 1, 65, 4, 100, 184, 1, 170, 172]
abbrev dktX8_isLoad_0 : List UInt8 := dkwX8_isLoad_0 ++ []
theorem dksX8_isLoad_0 : cX8_isLoad.data.toList.drop 0 = dktX8_isLoad_0 := by decide +kernel
theorem dX8_isLoad_0 : decode cX8_isLoad 0 = .ok (.iload_n 1, 1) := dk_27 (dk_at dksX8_isLoad_0 0 rfl rfl)
theorem dX8_isLoad_1 : decode cX8_isLoad 1 = .ok (.iconst 0, 1) := dk_3 (dk_at dksX8_isLoad_0 1 rfl rfl)
theorem dX8_isLoad_2 : decode cX8_isLoad 2 = .ok (.aload_n 0, 1) := dk_42 (dk_at dksX8_isLoad_0 2 rfl rfl)
theorem dX8_isLoad_3 : decode cX8_isLoad 3 = .ok (.getfield 321, 3) := dk_180 1 65 (dk_at dksX8_isLoad_0 3 rfl rfl)
theorem dX8_isLoad_6 : decode cX8_isLoad 6 = .ok (.iconst 1, 1) := dk_4 (dk_at dksX8_isLoad_0 6 rfl rfl)
theorem dX8_isLoad_7 : decode cX8_isLoad 7 = .ok (.isub, 1) := dk_100 (dk_at dksX8_isLoad_0 7 rfl rfl)
theorem dX8_isLoad_8 : decode cX8_isLoad 8 = .ok (.invokestatic 426, 3) := dk_184 1 170 (dk_at dksX8_isLoad_0 8 rfl rfl)
theorem dX8_isLoad_11 : decode cX8_isLoad 11 = .ok (.ireturn, 1) := dk_172 (dk_at dksX8_isLoad_0 11 rfl rfl)
abbrev cX8_spot : ByteArray := prog_20_method_60_code
def yX8_spot : MethodName := ⟨RX8, "spot", "(III)I"⟩
def dkwX8_spot_2 : List UInt8 := [167, 0, 12, 42, 27, 28, 182, 1, 184, 184, 1, 61, 172]
abbrev dktX8_spot_2 : List UInt8 := dkwX8_spot_2 ++ []
def dkwX8_spot_1 : List UInt8 := [153, 0, 12, 29, 3, 4, 184, 1, 170, 154, 0, 5, 2, 172, 29, 154, 0, 12, 42, 27, 28, 182, 1, 174]
abbrev dktX8_spot_1 : List UInt8 := dkwX8_spot_1 ++ dktX8_spot_2
def dkwX8_spot_0 : List UInt8 := [27, 3, 42, 180, 0, 78, 4, 100, 184, 1, 170, 153, 0, 24, 28, 3, 42, 180, 0, 81, 184, 1, 170]
abbrev dktX8_spot_0 : List UInt8 := dkwX8_spot_0 ++ dktX8_spot_1
theorem dksX8_spot_0 : cX8_spot.data.toList.drop 0 = dktX8_spot_0 := by decide +kernel
theorem dksX8_spot_1 : cX8_spot.data.toList.drop 23 = dktX8_spot_1 := dk_seg dksX8_spot_0 23 rfl rfl
theorem dksX8_spot_2 : cX8_spot.data.toList.drop 47 = dktX8_spot_2 := dk_seg dksX8_spot_1 24 rfl rfl
theorem dX8_spot_0 : decode cX8_spot 0 = .ok (.iload_n 1, 1) := dk_27 (dk_at dksX8_spot_0 0 rfl rfl)
theorem dX8_spot_1 : decode cX8_spot 1 = .ok (.iconst 0, 1) := dk_3 (dk_at dksX8_spot_0 1 rfl rfl)
theorem dX8_spot_2 : decode cX8_spot 2 = .ok (.aload_n 0, 1) := dk_42 (dk_at dksX8_spot_0 2 rfl rfl)
theorem dX8_spot_3 : decode cX8_spot 3 = .ok (.getfield 78, 3) := dk_180 0 78 (dk_at dksX8_spot_0 3 rfl rfl)
theorem dX8_spot_6 : decode cX8_spot 6 = .ok (.iconst 1, 1) := dk_4 (dk_at dksX8_spot_0 6 rfl rfl)
theorem dX8_spot_7 : decode cX8_spot 7 = .ok (.isub, 1) := dk_100 (dk_at dksX8_spot_0 7 rfl rfl)
theorem dX8_spot_8 : decode cX8_spot 8 = .ok (.invokestatic 426, 3) := dk_184 1 170 (dk_at dksX8_spot_0 8 rfl rfl)
theorem dX8_spot_11 : decode cX8_spot 11 = .ok (.ifCond .eq 24, 3) := dk_153 0 24 (dk_at dksX8_spot_0 11 rfl rfl)
theorem dX8_spot_14 : decode cX8_spot 14 = .ok (.iload_n 2, 1) := dk_28 (dk_at dksX8_spot_0 14 rfl rfl)
theorem dX8_spot_15 : decode cX8_spot 15 = .ok (.iconst 0, 1) := dk_3 (dk_at dksX8_spot_0 15 rfl rfl)
theorem dX8_spot_16 : decode cX8_spot 16 = .ok (.aload_n 0, 1) := dk_42 (dk_at dksX8_spot_0 16 rfl rfl)
theorem dX8_spot_17 : decode cX8_spot 17 = .ok (.getfield 81, 3) := dk_180 0 81 (dk_at dksX8_spot_0 17 rfl rfl)
theorem dX8_spot_20 : decode cX8_spot 20 = .ok (.invokestatic 426, 3) := dk_184 1 170 (dk_at dksX8_spot_0 20 rfl rfl)
theorem dX8_spot_23 : decode cX8_spot 23 = .ok (.ifCond .eq 12, 3) := dk_153 0 12 (dk_at dksX8_spot_1 0 rfl rfl)
theorem dX8_spot_26 : decode cX8_spot 26 = .ok (.iload_n 3, 1) := dk_29 (dk_at dksX8_spot_1 3 rfl rfl)
theorem dX8_spot_27 : decode cX8_spot 27 = .ok (.iconst 0, 1) := dk_3 (dk_at dksX8_spot_1 4 rfl rfl)
theorem dX8_spot_28 : decode cX8_spot 28 = .ok (.iconst 1, 1) := dk_4 (dk_at dksX8_spot_1 5 rfl rfl)
theorem dX8_spot_29 : decode cX8_spot 29 = .ok (.invokestatic 426, 3) := dk_184 1 170 (dk_at dksX8_spot_1 6 rfl rfl)
theorem dX8_spot_32 : decode cX8_spot 32 = .ok (.ifCond .ne 5, 3) := dk_154 0 5 (dk_at dksX8_spot_1 9 rfl rfl)
theorem dX8_spot_35 : decode cX8_spot 35 = .ok (.iconst (-1), 1) := dk_2 (dk_at dksX8_spot_1 12 rfl rfl)
theorem dX8_spot_36 : decode cX8_spot 36 = .ok (.ireturn, 1) := dk_172 (dk_at dksX8_spot_1 13 rfl rfl)
theorem dX8_spot_37 : decode cX8_spot 37 = .ok (.iload_n 3, 1) := dk_29 (dk_at dksX8_spot_1 14 rfl rfl)
theorem dX8_spot_38 : decode cX8_spot 38 = .ok (.ifCond .ne 12, 3) := dk_154 0 12 (dk_at dksX8_spot_1 15 rfl rfl)
theorem dX8_spot_41 : decode cX8_spot 41 = .ok (.aload_n 0, 1) := dk_42 (dk_at dksX8_spot_1 18 rfl rfl)
theorem dX8_spot_42 : decode cX8_spot 42 = .ok (.iload_n 1, 1) := dk_27 (dk_at dksX8_spot_1 19 rfl rfl)
theorem dX8_spot_43 : decode cX8_spot 43 = .ok (.iload_n 2, 1) := dk_28 (dk_at dksX8_spot_1 20 rfl rfl)
theorem dX8_spot_44 : decode cX8_spot 44 = .ok (.invokevirtual 430, 3) := dk_182 1 174 (dk_at dksX8_spot_1 21 rfl rfl)
theorem dX8_spot_47 : decode cX8_spot 47 = .ok (.goto 12, 3) := dk_167 0 12 (dk_at dksX8_spot_2 0 rfl rfl)
theorem dX8_spot_50 : decode cX8_spot 50 = .ok (.aload_n 0, 1) := dk_42 (dk_at dksX8_spot_2 3 rfl rfl)
theorem dX8_spot_51 : decode cX8_spot 51 = .ok (.iload_n 1, 1) := dk_27 (dk_at dksX8_spot_2 4 rfl rfl)
theorem dX8_spot_52 : decode cX8_spot 52 = .ok (.iload_n 2, 1) := dk_28 (dk_at dksX8_spot_2 5 rfl rfl)
theorem dX8_spot_53 : decode cX8_spot 53 = .ok (.invokevirtual 440, 3) := dk_182 1 184 (dk_at dksX8_spot_2 6 rfl rfl)
theorem dX8_spot_56 : decode cX8_spot 56 = .ok (.invokestatic 317, 3) := dk_184 1 61 (dk_at dksX8_spot_2 9 rfl rfl)
theorem dX8_spot_59 : decode cX8_spot 59 = .ok (.ireturn, 1) := dk_172 (dk_at dksX8_spot_2 12 rfl rfl)
abbrev cX8_currentAt : ByteArray := prog_20_method_53_code
def yX8_currentAt : MethodName := ⟨RX8, "currentAt", "(II)I"⟩
def dkwX8_currentAt_0 : List UInt8 := [42, 180, 0, 60, 16, 8, 28, 104, 27, 96, 46, 172]
abbrev dktX8_currentAt_0 : List UInt8 := dkwX8_currentAt_0 ++ []
theorem dksX8_currentAt_0 : cX8_currentAt.data.toList.drop 0 = dktX8_currentAt_0 := by decide +kernel
theorem dX8_currentAt_0 : decode cX8_currentAt 0 = .ok (.aload_n 0, 1) := dk_42 (dk_at dksX8_currentAt_0 0 rfl rfl)
theorem dX8_currentAt_1 : decode cX8_currentAt 1 = .ok (.getfield 60, 3) := dk_180 0 60 (dk_at dksX8_currentAt_0 1 rfl rfl)
theorem dX8_currentAt_4 : decode cX8_currentAt 4 = .ok (.bipush 8, 2) := dk_16 8 (dk_at dksX8_currentAt_0 4 rfl rfl)
theorem dX8_currentAt_6 : decode cX8_currentAt 6 = .ok (.iload_n 2, 1) := dk_28 (dk_at dksX8_currentAt_0 6 rfl rfl)
theorem dX8_currentAt_7 : decode cX8_currentAt 7 = .ok (.imul, 1) := dk_104 (dk_at dksX8_currentAt_0 7 rfl rfl)
theorem dX8_currentAt_8 : decode cX8_currentAt 8 = .ok (.iload_n 1, 1) := dk_27 (dk_at dksX8_currentAt_0 8 rfl rfl)
theorem dX8_currentAt_9 : decode cX8_currentAt 9 = .ok (.iadd, 1) := dk_96 (dk_at dksX8_currentAt_0 9 rfl rfl)
theorem dX8_currentAt_10 : decode cX8_currentAt 10 = .ok (.iaload, 1) := dk_46 (dk_at dksX8_currentAt_0 10 rfl rfl)
theorem dX8_currentAt_11 : decode cX8_currentAt 11 = .ok (.ireturn, 1) := dk_172 (dk_at dksX8_currentAt_0 11 rfl rfl)
abbrev cX8_isIron : ByteArray := prog_20_method_55_code
def yX8_isIron : MethodName := ⟨RX8, "isIron", "(II)Z"⟩
def dkwX8_isIron_0 : List UInt8 := [42, 180, 0, 63, 16, 8, 28, 104, 27, 96, 46, 4, 160, 0, 7, 4, 167, 0, 4, 3, 172]
abbrev dktX8_isIron_0 : List UInt8 := dkwX8_isIron_0 ++ []
theorem dksX8_isIron_0 : cX8_isIron.data.toList.drop 0 = dktX8_isIron_0 := by decide +kernel
theorem dX8_isIron_0 : decode cX8_isIron 0 = .ok (.aload_n 0, 1) := dk_42 (dk_at dksX8_isIron_0 0 rfl rfl)
theorem dX8_isIron_1 : decode cX8_isIron 1 = .ok (.getfield 63, 3) := dk_180 0 63 (dk_at dksX8_isIron_0 1 rfl rfl)
theorem dX8_isIron_4 : decode cX8_isIron 4 = .ok (.bipush 8, 2) := dk_16 8 (dk_at dksX8_isIron_0 4 rfl rfl)
theorem dX8_isIron_6 : decode cX8_isIron 6 = .ok (.iload_n 2, 1) := dk_28 (dk_at dksX8_isIron_0 6 rfl rfl)
theorem dX8_isIron_7 : decode cX8_isIron 7 = .ok (.imul, 1) := dk_104 (dk_at dksX8_isIron_0 7 rfl rfl)
theorem dX8_isIron_8 : decode cX8_isIron 8 = .ok (.iload_n 1, 1) := dk_27 (dk_at dksX8_isIron_0 8 rfl rfl)
theorem dX8_isIron_9 : decode cX8_isIron 9 = .ok (.iadd, 1) := dk_96 (dk_at dksX8_isIron_0 9 rfl rfl)
theorem dX8_isIron_10 : decode cX8_isIron 10 = .ok (.iaload, 1) := dk_46 (dk_at dksX8_isIron_0 10 rfl rfl)
theorem dX8_isIron_11 : decode cX8_isIron 11 = .ok (.iconst 1, 1) := dk_4 (dk_at dksX8_isIron_0 11 rfl rfl)
theorem dX8_isIron_12 : decode cX8_isIron 12 = .ok (.if_icmp .ne 7, 3) := dk_160 0 7 (dk_at dksX8_isIron_0 12 rfl rfl)
theorem dX8_isIron_15 : decode cX8_isIron 15 = .ok (.iconst 1, 1) := dk_4 (dk_at dksX8_isIron_0 15 rfl rfl)
theorem dX8_isIron_16 : decode cX8_isIron 16 = .ok (.goto 4, 3) := dk_167 0 4 (dk_at dksX8_isIron_0 16 rfl rfl)
theorem dX8_isIron_19 : decode cX8_isIron 19 = .ok (.iconst 0, 1) := dk_3 (dk_at dksX8_isIron_0 19 rfl rfl)
theorem dX8_isIron_20 : decode cX8_isIron 20 = .ok (.ireturn, 1) := dk_172 (dk_at dksX8_isIron_0 20 rfl rfl)
abbrev cX8_hotter : ByteArray := prog_20_method_61_code
def yX8_hotter : MethodName := ⟨RX8, "hotte\x72", "(I)I"⟩
def dkwX8_hotter_0 : List UInt8 := [42, 182, 1, 191, 42, 27, 182, 1, 188, 153, 0, 11, 42, 27, 182, 1, 181, 167, 0, 4, 2, 172]
abbrev dktX8_hotter_0 : List UInt8 := dkwX8_hotter_0 ++ []
theorem dksX8_hotter_0 : cX8_hotter.data.toList.drop 0 = dktX8_hotter_0 := by decide +kernel
theorem dX8_hotter_0 : decode cX8_hotter 0 = .ok (.aload_n 0, 1) := dk_42 (dk_at dksX8_hotter_0 0 rfl rfl)
theorem dX8_hotter_1 : decode cX8_hotter 1 = .ok (.invokevirtual 447, 3) := dk_182 1 191 (dk_at dksX8_hotter_0 1 rfl rfl)
theorem dX8_hotter_4 : decode cX8_hotter 4 = .ok (.aload_n 0, 1) := dk_42 (dk_at dksX8_hotter_0 4 rfl rfl)
theorem dX8_hotter_5 : decode cX8_hotter 5 = .ok (.iload_n 1, 1) := dk_27 (dk_at dksX8_hotter_0 5 rfl rfl)
theorem dX8_hotter_6 : decode cX8_hotter 6 = .ok (.invokevirtual 444, 3) := dk_182 1 188 (dk_at dksX8_hotter_0 6 rfl rfl)
theorem dX8_hotter_9 : decode cX8_hotter 9 = .ok (.ifCond .eq 11, 3) := dk_153 0 11 (dk_at dksX8_hotter_0 9 rfl rfl)
theorem dX8_hotter_12 : decode cX8_hotter 12 = .ok (.aload_n 0, 1) := dk_42 (dk_at dksX8_hotter_0 12 rfl rfl)
theorem dX8_hotter_13 : decode cX8_hotter 13 = .ok (.iload_n 1, 1) := dk_27 (dk_at dksX8_hotter_0 13 rfl rfl)
theorem dX8_hotter_14 : decode cX8_hotter 14 = .ok (.invokevirtual 437, 3) := dk_182 1 181 (dk_at dksX8_hotter_0 14 rfl rfl)
theorem dX8_hotter_17 : decode cX8_hotter 17 = .ok (.goto 4, 3) := dk_167 0 4 (dk_at dksX8_hotter_0 17 rfl rfl)
theorem dX8_hotter_20 : decode cX8_hotter 20 = .ok (.iconst (-1), 1) := dk_2 (dk_at dksX8_hotter_0 20 rfl rfl)
theorem dX8_hotter_21 : decode cX8_hotter 21 = .ok (.ireturn, 1) := dk_172 (dk_at dksX8_hotter_0 21 rfl rfl)
abbrev cX8_hotterOf : ByteArray := prog_20_method_36_code
def yX8_hotterOf : MethodName := ⟨RX8, "hotterOf", "(I)I"⟩
def dkwX8_hotterOf_10 : List UInt8 := [79, 132, 3, 1, 167, 255, 111, 42, 180, 0, 36, 3, 46, 16, 99, 184, 1, 78, 172]
abbrev dktX8_hotterOf_10 : List UInt8 := dkwX8_hotterOf_10 ++ []
def dkwX8_hotterOf_9 : List UInt8 := [100, 42, 180, 0, 30, 29, 46, 42, 180, 0, 36, 28, 4, 100, 46, 42, 180, 0, 36, 28, 46, 184, 1, 74]
abbrev dktX8_hotterOf_9 : List UInt8 := dkwX8_hotterOf_9 ++ dktX8_hotterOf_10
def dkwX8_hotterOf_8 : List UInt8 := [154, 0, 7, 4, 167, 0, 4, 3, 184, 1, 61, 79, 167, 0, 37, 132, 2, 255, 42, 180, 0, 36, 28, 4]
abbrev dktX8_hotterOf_8 : List UInt8 := dkwX8_hotterOf_8 ++ dktX8_hotterOf_9
def dkwX8_hotterOf_7 : List UInt8 := [180, 0, 27, 29, 46, 5, 160, 0, 33, 42, 180, 0, 36, 28, 4, 100, 42, 180, 0, 36, 28, 4, 100, 46]
abbrev dktX8_hotterOf_7 : List UInt8 := dkwX8_hotterOf_7 ++ dktX8_hotterOf_8
def dkwX8_hotterOf_6 : List UInt8 := [167, 0, 14, 42, 180, 0, 39, 42, 180, 0, 30, 29, 46, 46, 79, 132, 2, 1, 167, 0, 77, 42]
abbrev dktX8_hotterOf_6 : List UInt8 := dkwX8_hotterOf_6 ++ dktX8_hotterOf_7
def dkwX8_hotterOf_5 : List UInt8 := [160, 0, 44, 42, 180, 0, 36, 28, 42, 180, 0, 27, 29, 46, 154, 0, 12, 42, 180, 0, 30, 29, 46]
abbrev dktX8_hotterOf_5 : List UInt8 := dkwX8_hotterOf_5 ++ dktX8_hotterOf_6
def dkwX8_hotterOf_4 : List UInt8 := [180, 1, 71, 162, 0, 143, 42, 180, 0, 27, 29, 46, 153, 0, 13, 42, 180, 0, 27, 29, 46, 4]
abbrev dktX8_hotterOf_4 : List UInt8 := dkwX8_hotterOf_4 ++ dktX8_hotterOf_5
def dkwX8_hotterOf_3 : List UInt8 := [180, 0, 87, 16, 8, 27, 96, 46, 79, 3, 61, 42, 180, 0, 36, 3, 4, 79, 3, 62, 29, 42]
abbrev dktX8_hotterOf_3 : List UInt8 := dkwX8_hotterOf_3 ++ dktX8_hotterOf_4
def dkwX8_hotterOf_2 : List UInt8 := [79, 42, 180, 0, 39, 7, 42, 180, 0, 87, 16, 16, 27, 96, 46, 79, 42, 180, 0, 39, 8, 42]
abbrev dktX8_hotterOf_2 : List UInt8 := dkwX8_hotterOf_2 ++ dktX8_hotterOf_3
def dkwX8_hotterOf_1 : List UInt8 := [46, 79, 42, 180, 0, 39, 5, 42, 27, 182, 1, 68, 79, 42, 180, 0, 39, 6, 42, 180, 0, 66, 27, 46]
abbrev dktX8_hotterOf_1 : List UInt8 := dkwX8_hotterOf_1 ++ dktX8_hotterOf_2
def dkwX8_hotterOf_0 : List UInt8 := [42, 180, 0, 39, 3, 42, 180, 0, 87, 7, 27, 96, 46, 79, 42, 180, 0, 39, 4, 42, 180, 0, 87, 27]
abbrev dktX8_hotterOf_0 : List UInt8 := dkwX8_hotterOf_0 ++ dktX8_hotterOf_1
theorem dksX8_hotterOf_0 : cX8_hotterOf.data.toList.drop 0 = dktX8_hotterOf_0 := by decide +kernel
theorem dksX8_hotterOf_1 : cX8_hotterOf.data.toList.drop 24 = dktX8_hotterOf_1 := dk_seg dksX8_hotterOf_0 24 rfl rfl
theorem dksX8_hotterOf_2 : cX8_hotterOf.data.toList.drop 48 = dktX8_hotterOf_2 := dk_seg dksX8_hotterOf_1 24 rfl rfl
theorem dksX8_hotterOf_3 : cX8_hotterOf.data.toList.drop 70 = dktX8_hotterOf_3 := dk_seg dksX8_hotterOf_2 22 rfl rfl
theorem dksX8_hotterOf_4 : cX8_hotterOf.data.toList.drop 92 = dktX8_hotterOf_4 := dk_seg dksX8_hotterOf_3 22 rfl rfl
theorem dksX8_hotterOf_5 : cX8_hotterOf.data.toList.drop 114 = dktX8_hotterOf_5 := dk_seg dksX8_hotterOf_4 22 rfl rfl
theorem dksX8_hotterOf_6 : cX8_hotterOf.data.toList.drop 137 = dktX8_hotterOf_6 := dk_seg dksX8_hotterOf_5 23 rfl rfl
theorem dksX8_hotterOf_7 : cX8_hotterOf.data.toList.drop 159 = dktX8_hotterOf_7 := dk_seg dksX8_hotterOf_6 22 rfl rfl
theorem dksX8_hotterOf_8 : cX8_hotterOf.data.toList.drop 183 = dktX8_hotterOf_8 := dk_seg dksX8_hotterOf_7 24 rfl rfl
theorem dksX8_hotterOf_9 : cX8_hotterOf.data.toList.drop 207 = dktX8_hotterOf_9 := dk_seg dksX8_hotterOf_8 24 rfl rfl
theorem dksX8_hotterOf_10 : cX8_hotterOf.data.toList.drop 231 = dktX8_hotterOf_10 := dk_seg dksX8_hotterOf_9 24 rfl rfl
theorem dX8_hotterOf_0 : decode cX8_hotterOf 0 = .ok (.aload_n 0, 1) := dk_42 (dk_at dksX8_hotterOf_0 0 rfl rfl)
theorem dX8_hotterOf_1 : decode cX8_hotterOf 1 = .ok (.getfield 39, 3) := dk_180 0 39 (dk_at dksX8_hotterOf_0 1 rfl rfl)
theorem dX8_hotterOf_4 : decode cX8_hotterOf 4 = .ok (.iconst 0, 1) := dk_3 (dk_at dksX8_hotterOf_0 4 rfl rfl)
theorem dX8_hotterOf_5 : decode cX8_hotterOf 5 = .ok (.aload_n 0, 1) := dk_42 (dk_at dksX8_hotterOf_0 5 rfl rfl)
theorem dX8_hotterOf_6 : decode cX8_hotterOf 6 = .ok (.getfield 87, 3) := dk_180 0 87 (dk_at dksX8_hotterOf_0 6 rfl rfl)
theorem dX8_hotterOf_9 : decode cX8_hotterOf 9 = .ok (.iconst 4, 1) := dk_7 (dk_at dksX8_hotterOf_0 9 rfl rfl)
theorem dX8_hotterOf_10 : decode cX8_hotterOf 10 = .ok (.iload_n 1, 1) := dk_27 (dk_at dksX8_hotterOf_0 10 rfl rfl)
theorem dX8_hotterOf_11 : decode cX8_hotterOf 11 = .ok (.iadd, 1) := dk_96 (dk_at dksX8_hotterOf_0 11 rfl rfl)
theorem dX8_hotterOf_12 : decode cX8_hotterOf 12 = .ok (.iaload, 1) := dk_46 (dk_at dksX8_hotterOf_0 12 rfl rfl)
theorem dX8_hotterOf_13 : decode cX8_hotterOf 13 = .ok (.iastore, 1) := dk_79 (dk_at dksX8_hotterOf_0 13 rfl rfl)
theorem dX8_hotterOf_14 : decode cX8_hotterOf 14 = .ok (.aload_n 0, 1) := dk_42 (dk_at dksX8_hotterOf_0 14 rfl rfl)
theorem dX8_hotterOf_15 : decode cX8_hotterOf 15 = .ok (.getfield 39, 3) := dk_180 0 39 (dk_at dksX8_hotterOf_0 15 rfl rfl)
theorem dX8_hotterOf_18 : decode cX8_hotterOf 18 = .ok (.iconst 1, 1) := dk_4 (dk_at dksX8_hotterOf_0 18 rfl rfl)
theorem dX8_hotterOf_19 : decode cX8_hotterOf 19 = .ok (.aload_n 0, 1) := dk_42 (dk_at dksX8_hotterOf_0 19 rfl rfl)
theorem dX8_hotterOf_20 : decode cX8_hotterOf 20 = .ok (.getfield 87, 3) := dk_180 0 87 (dk_at dksX8_hotterOf_0 20 rfl rfl)
theorem dX8_hotterOf_23 : decode cX8_hotterOf 23 = .ok (.iload_n 1, 1) := dk_27 (dk_at dksX8_hotterOf_0 23 rfl rfl)
theorem dX8_hotterOf_24 : decode cX8_hotterOf 24 = .ok (.iaload, 1) := dk_46 (dk_at dksX8_hotterOf_1 0 rfl rfl)
theorem dX8_hotterOf_25 : decode cX8_hotterOf 25 = .ok (.iastore, 1) := dk_79 (dk_at dksX8_hotterOf_1 1 rfl rfl)
theorem dX8_hotterOf_26 : decode cX8_hotterOf 26 = .ok (.aload_n 0, 1) := dk_42 (dk_at dksX8_hotterOf_1 2 rfl rfl)
theorem dX8_hotterOf_27 : decode cX8_hotterOf 27 = .ok (.getfield 39, 3) := dk_180 0 39 (dk_at dksX8_hotterOf_1 3 rfl rfl)
theorem dX8_hotterOf_30 : decode cX8_hotterOf 30 = .ok (.iconst 2, 1) := dk_5 (dk_at dksX8_hotterOf_1 6 rfl rfl)
theorem dX8_hotterOf_31 : decode cX8_hotterOf 31 = .ok (.aload_n 0, 1) := dk_42 (dk_at dksX8_hotterOf_1 7 rfl rfl)
theorem dX8_hotterOf_32 : decode cX8_hotterOf 32 = .ok (.iload_n 1, 1) := dk_27 (dk_at dksX8_hotterOf_1 8 rfl rfl)
theorem dX8_hotterOf_33 : decode cX8_hotterOf 33 = .ok (.invokevirtual 324, 3) := dk_182 1 68 (dk_at dksX8_hotterOf_1 9 rfl rfl)
theorem dX8_hotterOf_36 : decode cX8_hotterOf 36 = .ok (.iastore, 1) := dk_79 (dk_at dksX8_hotterOf_1 12 rfl rfl)
theorem dX8_hotterOf_37 : decode cX8_hotterOf 37 = .ok (.aload_n 0, 1) := dk_42 (dk_at dksX8_hotterOf_1 13 rfl rfl)
theorem dX8_hotterOf_38 : decode cX8_hotterOf 38 = .ok (.getfield 39, 3) := dk_180 0 39 (dk_at dksX8_hotterOf_1 14 rfl rfl)
theorem dX8_hotterOf_41 : decode cX8_hotterOf 41 = .ok (.iconst 3, 1) := dk_6 (dk_at dksX8_hotterOf_1 17 rfl rfl)
theorem dX8_hotterOf_42 : decode cX8_hotterOf 42 = .ok (.aload_n 0, 1) := dk_42 (dk_at dksX8_hotterOf_1 18 rfl rfl)
theorem dX8_hotterOf_43 : decode cX8_hotterOf 43 = .ok (.getfield 66, 3) := dk_180 0 66 (dk_at dksX8_hotterOf_1 19 rfl rfl)
theorem dX8_hotterOf_46 : decode cX8_hotterOf 46 = .ok (.iload_n 1, 1) := dk_27 (dk_at dksX8_hotterOf_1 22 rfl rfl)
theorem dX8_hotterOf_47 : decode cX8_hotterOf 47 = .ok (.iaload, 1) := dk_46 (dk_at dksX8_hotterOf_1 23 rfl rfl)
theorem dX8_hotterOf_48 : decode cX8_hotterOf 48 = .ok (.iastore, 1) := dk_79 (dk_at dksX8_hotterOf_2 0 rfl rfl)
theorem dX8_hotterOf_49 : decode cX8_hotterOf 49 = .ok (.aload_n 0, 1) := dk_42 (dk_at dksX8_hotterOf_2 1 rfl rfl)
theorem dX8_hotterOf_50 : decode cX8_hotterOf 50 = .ok (.getfield 39, 3) := dk_180 0 39 (dk_at dksX8_hotterOf_2 2 rfl rfl)
theorem dX8_hotterOf_53 : decode cX8_hotterOf 53 = .ok (.iconst 4, 1) := dk_7 (dk_at dksX8_hotterOf_2 5 rfl rfl)
theorem dX8_hotterOf_54 : decode cX8_hotterOf 54 = .ok (.aload_n 0, 1) := dk_42 (dk_at dksX8_hotterOf_2 6 rfl rfl)
theorem dX8_hotterOf_55 : decode cX8_hotterOf 55 = .ok (.getfield 87, 3) := dk_180 0 87 (dk_at dksX8_hotterOf_2 7 rfl rfl)
theorem dX8_hotterOf_58 : decode cX8_hotterOf 58 = .ok (.bipush 16, 2) := dk_16 16 (dk_at dksX8_hotterOf_2 10 rfl rfl)
theorem dX8_hotterOf_60 : decode cX8_hotterOf 60 = .ok (.iload_n 1, 1) := dk_27 (dk_at dksX8_hotterOf_2 12 rfl rfl)
theorem dX8_hotterOf_61 : decode cX8_hotterOf 61 = .ok (.iadd, 1) := dk_96 (dk_at dksX8_hotterOf_2 13 rfl rfl)
theorem dX8_hotterOf_62 : decode cX8_hotterOf 62 = .ok (.iaload, 1) := dk_46 (dk_at dksX8_hotterOf_2 14 rfl rfl)
theorem dX8_hotterOf_63 : decode cX8_hotterOf 63 = .ok (.iastore, 1) := dk_79 (dk_at dksX8_hotterOf_2 15 rfl rfl)
theorem dX8_hotterOf_64 : decode cX8_hotterOf 64 = .ok (.aload_n 0, 1) := dk_42 (dk_at dksX8_hotterOf_2 16 rfl rfl)
theorem dX8_hotterOf_65 : decode cX8_hotterOf 65 = .ok (.getfield 39, 3) := dk_180 0 39 (dk_at dksX8_hotterOf_2 17 rfl rfl)
theorem dX8_hotterOf_68 : decode cX8_hotterOf 68 = .ok (.iconst 5, 1) := dk_8 (dk_at dksX8_hotterOf_2 20 rfl rfl)
theorem dX8_hotterOf_69 : decode cX8_hotterOf 69 = .ok (.aload_n 0, 1) := dk_42 (dk_at dksX8_hotterOf_2 21 rfl rfl)
theorem dX8_hotterOf_70 : decode cX8_hotterOf 70 = .ok (.getfield 87, 3) := dk_180 0 87 (dk_at dksX8_hotterOf_3 0 rfl rfl)
theorem dX8_hotterOf_73 : decode cX8_hotterOf 73 = .ok (.bipush 8, 2) := dk_16 8 (dk_at dksX8_hotterOf_3 3 rfl rfl)
theorem dX8_hotterOf_75 : decode cX8_hotterOf 75 = .ok (.iload_n 1, 1) := dk_27 (dk_at dksX8_hotterOf_3 5 rfl rfl)
theorem dX8_hotterOf_76 : decode cX8_hotterOf 76 = .ok (.iadd, 1) := dk_96 (dk_at dksX8_hotterOf_3 6 rfl rfl)
theorem dX8_hotterOf_77 : decode cX8_hotterOf 77 = .ok (.iaload, 1) := dk_46 (dk_at dksX8_hotterOf_3 7 rfl rfl)
theorem dX8_hotterOf_78 : decode cX8_hotterOf 78 = .ok (.iastore, 1) := dk_79 (dk_at dksX8_hotterOf_3 8 rfl rfl)
theorem dX8_hotterOf_79 : decode cX8_hotterOf 79 = .ok (.iconst 0, 1) := dk_3 (dk_at dksX8_hotterOf_3 9 rfl rfl)
theorem dX8_hotterOf_80 : decode cX8_hotterOf 80 = .ok (.istore_n 2, 1) := dk_61 (dk_at dksX8_hotterOf_3 10 rfl rfl)
theorem dX8_hotterOf_81 : decode cX8_hotterOf 81 = .ok (.aload_n 0, 1) := dk_42 (dk_at dksX8_hotterOf_3 11 rfl rfl)
theorem dX8_hotterOf_82 : decode cX8_hotterOf 82 = .ok (.getfield 36, 3) := dk_180 0 36 (dk_at dksX8_hotterOf_3 12 rfl rfl)
theorem dX8_hotterOf_85 : decode cX8_hotterOf 85 = .ok (.iconst 0, 1) := dk_3 (dk_at dksX8_hotterOf_3 15 rfl rfl)
theorem dX8_hotterOf_86 : decode cX8_hotterOf 86 = .ok (.iconst 1, 1) := dk_4 (dk_at dksX8_hotterOf_3 16 rfl rfl)
theorem dX8_hotterOf_87 : decode cX8_hotterOf 87 = .ok (.iastore, 1) := dk_79 (dk_at dksX8_hotterOf_3 17 rfl rfl)
theorem dX8_hotterOf_88 : decode cX8_hotterOf 88 = .ok (.iconst 0, 1) := dk_3 (dk_at dksX8_hotterOf_3 18 rfl rfl)
theorem dX8_hotterOf_89 : decode cX8_hotterOf 89 = .ok (.istore_n 3, 1) := dk_62 (dk_at dksX8_hotterOf_3 19 rfl rfl)
theorem dX8_hotterOf_90 : decode cX8_hotterOf 90 = .ok (.iload_n 3, 1) := dk_29 (dk_at dksX8_hotterOf_3 20 rfl rfl)
theorem dX8_hotterOf_91 : decode cX8_hotterOf 91 = .ok (.aload_n 0, 1) := dk_42 (dk_at dksX8_hotterOf_3 21 rfl rfl)
theorem dX8_hotterOf_92 : decode cX8_hotterOf 92 = .ok (.getfield 327, 3) := dk_180 1 71 (dk_at dksX8_hotterOf_4 0 rfl rfl)
theorem dX8_hotterOf_95 : decode cX8_hotterOf 95 = .ok (.if_icmp .ge 143, 3) := dk_162 0 143 (dk_at dksX8_hotterOf_4 3 rfl rfl)
theorem dX8_hotterOf_98 : decode cX8_hotterOf 98 = .ok (.aload_n 0, 1) := dk_42 (dk_at dksX8_hotterOf_4 6 rfl rfl)
theorem dX8_hotterOf_99 : decode cX8_hotterOf 99 = .ok (.getfield 27, 3) := dk_180 0 27 (dk_at dksX8_hotterOf_4 7 rfl rfl)
theorem dX8_hotterOf_102 : decode cX8_hotterOf 102 = .ok (.iload_n 3, 1) := dk_29 (dk_at dksX8_hotterOf_4 10 rfl rfl)
theorem dX8_hotterOf_103 : decode cX8_hotterOf 103 = .ok (.iaload, 1) := dk_46 (dk_at dksX8_hotterOf_4 11 rfl rfl)
theorem dX8_hotterOf_104 : decode cX8_hotterOf 104 = .ok (.ifCond .eq 13, 3) := dk_153 0 13 (dk_at dksX8_hotterOf_4 12 rfl rfl)
theorem dX8_hotterOf_107 : decode cX8_hotterOf 107 = .ok (.aload_n 0, 1) := dk_42 (dk_at dksX8_hotterOf_4 15 rfl rfl)
theorem dX8_hotterOf_108 : decode cX8_hotterOf 108 = .ok (.getfield 27, 3) := dk_180 0 27 (dk_at dksX8_hotterOf_4 16 rfl rfl)
theorem dX8_hotterOf_111 : decode cX8_hotterOf 111 = .ok (.iload_n 3, 1) := dk_29 (dk_at dksX8_hotterOf_4 19 rfl rfl)
theorem dX8_hotterOf_112 : decode cX8_hotterOf 112 = .ok (.iaload, 1) := dk_46 (dk_at dksX8_hotterOf_4 20 rfl rfl)
theorem dX8_hotterOf_113 : decode cX8_hotterOf 113 = .ok (.iconst 1, 1) := dk_4 (dk_at dksX8_hotterOf_4 21 rfl rfl)
theorem dX8_hotterOf_114 : decode cX8_hotterOf 114 = .ok (.if_icmp .ne 44, 3) := dk_160 0 44 (dk_at dksX8_hotterOf_5 0 rfl rfl)
theorem dX8_hotterOf_117 : decode cX8_hotterOf 117 = .ok (.aload_n 0, 1) := dk_42 (dk_at dksX8_hotterOf_5 3 rfl rfl)
theorem dX8_hotterOf_118 : decode cX8_hotterOf 118 = .ok (.getfield 36, 3) := dk_180 0 36 (dk_at dksX8_hotterOf_5 4 rfl rfl)
theorem dX8_hotterOf_121 : decode cX8_hotterOf 121 = .ok (.iload_n 2, 1) := dk_28 (dk_at dksX8_hotterOf_5 7 rfl rfl)
theorem dX8_hotterOf_122 : decode cX8_hotterOf 122 = .ok (.aload_n 0, 1) := dk_42 (dk_at dksX8_hotterOf_5 8 rfl rfl)
theorem dX8_hotterOf_123 : decode cX8_hotterOf 123 = .ok (.getfield 27, 3) := dk_180 0 27 (dk_at dksX8_hotterOf_5 9 rfl rfl)
theorem dX8_hotterOf_126 : decode cX8_hotterOf 126 = .ok (.iload_n 3, 1) := dk_29 (dk_at dksX8_hotterOf_5 12 rfl rfl)
theorem dX8_hotterOf_127 : decode cX8_hotterOf 127 = .ok (.iaload, 1) := dk_46 (dk_at dksX8_hotterOf_5 13 rfl rfl)
theorem dX8_hotterOf_128 : decode cX8_hotterOf 128 = .ok (.ifCond .ne 12, 3) := dk_154 0 12 (dk_at dksX8_hotterOf_5 14 rfl rfl)
theorem dX8_hotterOf_131 : decode cX8_hotterOf 131 = .ok (.aload_n 0, 1) := dk_42 (dk_at dksX8_hotterOf_5 17 rfl rfl)
theorem dX8_hotterOf_132 : decode cX8_hotterOf 132 = .ok (.getfield 30, 3) := dk_180 0 30 (dk_at dksX8_hotterOf_5 18 rfl rfl)
theorem dX8_hotterOf_135 : decode cX8_hotterOf 135 = .ok (.iload_n 3, 1) := dk_29 (dk_at dksX8_hotterOf_5 21 rfl rfl)
theorem dX8_hotterOf_136 : decode cX8_hotterOf 136 = .ok (.iaload, 1) := dk_46 (dk_at dksX8_hotterOf_5 22 rfl rfl)
theorem dX8_hotterOf_137 : decode cX8_hotterOf 137 = .ok (.goto 14, 3) := dk_167 0 14 (dk_at dksX8_hotterOf_6 0 rfl rfl)
theorem dX8_hotterOf_140 : decode cX8_hotterOf 140 = .ok (.aload_n 0, 1) := dk_42 (dk_at dksX8_hotterOf_6 3 rfl rfl)
theorem dX8_hotterOf_141 : decode cX8_hotterOf 141 = .ok (.getfield 39, 3) := dk_180 0 39 (dk_at dksX8_hotterOf_6 4 rfl rfl)
theorem dX8_hotterOf_144 : decode cX8_hotterOf 144 = .ok (.aload_n 0, 1) := dk_42 (dk_at dksX8_hotterOf_6 7 rfl rfl)
theorem dX8_hotterOf_145 : decode cX8_hotterOf 145 = .ok (.getfield 30, 3) := dk_180 0 30 (dk_at dksX8_hotterOf_6 8 rfl rfl)
theorem dX8_hotterOf_148 : decode cX8_hotterOf 148 = .ok (.iload_n 3, 1) := dk_29 (dk_at dksX8_hotterOf_6 11 rfl rfl)
theorem dX8_hotterOf_149 : decode cX8_hotterOf 149 = .ok (.iaload, 1) := dk_46 (dk_at dksX8_hotterOf_6 12 rfl rfl)
theorem dX8_hotterOf_150 : decode cX8_hotterOf 150 = .ok (.iaload, 1) := dk_46 (dk_at dksX8_hotterOf_6 13 rfl rfl)
theorem dX8_hotterOf_151 : decode cX8_hotterOf 151 = .ok (.iastore, 1) := dk_79 (dk_at dksX8_hotterOf_6 14 rfl rfl)
theorem dX8_hotterOf_152 : decode cX8_hotterOf 152 = .ok (.iinc 2 1, 3) := dk_132 2 1 (dk_at dksX8_hotterOf_6 15 rfl rfl)
theorem dX8_hotterOf_155 : decode cX8_hotterOf 155 = .ok (.goto 77, 3) := dk_167 0 77 (dk_at dksX8_hotterOf_6 18 rfl rfl)
theorem dX8_hotterOf_158 : decode cX8_hotterOf 158 = .ok (.aload_n 0, 1) := dk_42 (dk_at dksX8_hotterOf_6 21 rfl rfl)
theorem dX8_hotterOf_159 : decode cX8_hotterOf 159 = .ok (.getfield 27, 3) := dk_180 0 27 (dk_at dksX8_hotterOf_7 0 rfl rfl)
theorem dX8_hotterOf_162 : decode cX8_hotterOf 162 = .ok (.iload_n 3, 1) := dk_29 (dk_at dksX8_hotterOf_7 3 rfl rfl)
theorem dX8_hotterOf_163 : decode cX8_hotterOf 163 = .ok (.iaload, 1) := dk_46 (dk_at dksX8_hotterOf_7 4 rfl rfl)
theorem dX8_hotterOf_164 : decode cX8_hotterOf 164 = .ok (.iconst 2, 1) := dk_5 (dk_at dksX8_hotterOf_7 5 rfl rfl)
theorem dX8_hotterOf_165 : decode cX8_hotterOf 165 = .ok (.if_icmp .ne 33, 3) := dk_160 0 33 (dk_at dksX8_hotterOf_7 6 rfl rfl)
theorem dX8_hotterOf_168 : decode cX8_hotterOf 168 = .ok (.aload_n 0, 1) := dk_42 (dk_at dksX8_hotterOf_7 9 rfl rfl)
theorem dX8_hotterOf_169 : decode cX8_hotterOf 169 = .ok (.getfield 36, 3) := dk_180 0 36 (dk_at dksX8_hotterOf_7 10 rfl rfl)
theorem dX8_hotterOf_172 : decode cX8_hotterOf 172 = .ok (.iload_n 2, 1) := dk_28 (dk_at dksX8_hotterOf_7 13 rfl rfl)
theorem dX8_hotterOf_173 : decode cX8_hotterOf 173 = .ok (.iconst 1, 1) := dk_4 (dk_at dksX8_hotterOf_7 14 rfl rfl)
theorem dX8_hotterOf_174 : decode cX8_hotterOf 174 = .ok (.isub, 1) := dk_100 (dk_at dksX8_hotterOf_7 15 rfl rfl)
theorem dX8_hotterOf_175 : decode cX8_hotterOf 175 = .ok (.aload_n 0, 1) := dk_42 (dk_at dksX8_hotterOf_7 16 rfl rfl)
theorem dX8_hotterOf_176 : decode cX8_hotterOf 176 = .ok (.getfield 36, 3) := dk_180 0 36 (dk_at dksX8_hotterOf_7 17 rfl rfl)
theorem dX8_hotterOf_179 : decode cX8_hotterOf 179 = .ok (.iload_n 2, 1) := dk_28 (dk_at dksX8_hotterOf_7 20 rfl rfl)
theorem dX8_hotterOf_180 : decode cX8_hotterOf 180 = .ok (.iconst 1, 1) := dk_4 (dk_at dksX8_hotterOf_7 21 rfl rfl)
theorem dX8_hotterOf_181 : decode cX8_hotterOf 181 = .ok (.isub, 1) := dk_100 (dk_at dksX8_hotterOf_7 22 rfl rfl)
theorem dX8_hotterOf_182 : decode cX8_hotterOf 182 = .ok (.iaload, 1) := dk_46 (dk_at dksX8_hotterOf_7 23 rfl rfl)
theorem dX8_hotterOf_183 : decode cX8_hotterOf 183 = .ok (.ifCond .ne 7, 3) := dk_154 0 7 (dk_at dksX8_hotterOf_8 0 rfl rfl)
theorem dX8_hotterOf_186 : decode cX8_hotterOf 186 = .ok (.iconst 1, 1) := dk_4 (dk_at dksX8_hotterOf_8 3 rfl rfl)
theorem dX8_hotterOf_187 : decode cX8_hotterOf 187 = .ok (.goto 4, 3) := dk_167 0 4 (dk_at dksX8_hotterOf_8 4 rfl rfl)
theorem dX8_hotterOf_190 : decode cX8_hotterOf 190 = .ok (.iconst 0, 1) := dk_3 (dk_at dksX8_hotterOf_8 7 rfl rfl)
theorem dX8_hotterOf_191 : decode cX8_hotterOf 191 = .ok (.invokestatic 317, 3) := dk_184 1 61 (dk_at dksX8_hotterOf_8 8 rfl rfl)
theorem dX8_hotterOf_194 : decode cX8_hotterOf 194 = .ok (.iastore, 1) := dk_79 (dk_at dksX8_hotterOf_8 11 rfl rfl)
theorem dX8_hotterOf_195 : decode cX8_hotterOf 195 = .ok (.goto 37, 3) := dk_167 0 37 (dk_at dksX8_hotterOf_8 12 rfl rfl)
theorem dX8_hotterOf_198 : decode cX8_hotterOf 198 = .ok (.iinc 2 (-1), 3) := dk_132 2 255 (dk_at dksX8_hotterOf_8 15 rfl rfl)
theorem dX8_hotterOf_201 : decode cX8_hotterOf 201 = .ok (.aload_n 0, 1) := dk_42 (dk_at dksX8_hotterOf_8 18 rfl rfl)
theorem dX8_hotterOf_202 : decode cX8_hotterOf 202 = .ok (.getfield 36, 3) := dk_180 0 36 (dk_at dksX8_hotterOf_8 19 rfl rfl)
theorem dX8_hotterOf_205 : decode cX8_hotterOf 205 = .ok (.iload_n 2, 1) := dk_28 (dk_at dksX8_hotterOf_8 22 rfl rfl)
theorem dX8_hotterOf_206 : decode cX8_hotterOf 206 = .ok (.iconst 1, 1) := dk_4 (dk_at dksX8_hotterOf_8 23 rfl rfl)
theorem dX8_hotterOf_207 : decode cX8_hotterOf 207 = .ok (.isub, 1) := dk_100 (dk_at dksX8_hotterOf_9 0 rfl rfl)
theorem dX8_hotterOf_208 : decode cX8_hotterOf 208 = .ok (.aload_n 0, 1) := dk_42 (dk_at dksX8_hotterOf_9 1 rfl rfl)
theorem dX8_hotterOf_209 : decode cX8_hotterOf 209 = .ok (.getfield 30, 3) := dk_180 0 30 (dk_at dksX8_hotterOf_9 2 rfl rfl)
theorem dX8_hotterOf_212 : decode cX8_hotterOf 212 = .ok (.iload_n 3, 1) := dk_29 (dk_at dksX8_hotterOf_9 5 rfl rfl)
theorem dX8_hotterOf_213 : decode cX8_hotterOf 213 = .ok (.iaload, 1) := dk_46 (dk_at dksX8_hotterOf_9 6 rfl rfl)
theorem dX8_hotterOf_214 : decode cX8_hotterOf 214 = .ok (.aload_n 0, 1) := dk_42 (dk_at dksX8_hotterOf_9 7 rfl rfl)
theorem dX8_hotterOf_215 : decode cX8_hotterOf 215 = .ok (.getfield 36, 3) := dk_180 0 36 (dk_at dksX8_hotterOf_9 8 rfl rfl)
theorem dX8_hotterOf_218 : decode cX8_hotterOf 218 = .ok (.iload_n 2, 1) := dk_28 (dk_at dksX8_hotterOf_9 11 rfl rfl)
theorem dX8_hotterOf_219 : decode cX8_hotterOf 219 = .ok (.iconst 1, 1) := dk_4 (dk_at dksX8_hotterOf_9 12 rfl rfl)
theorem dX8_hotterOf_220 : decode cX8_hotterOf 220 = .ok (.isub, 1) := dk_100 (dk_at dksX8_hotterOf_9 13 rfl rfl)
theorem dX8_hotterOf_221 : decode cX8_hotterOf 221 = .ok (.iaload, 1) := dk_46 (dk_at dksX8_hotterOf_9 14 rfl rfl)
theorem dX8_hotterOf_222 : decode cX8_hotterOf 222 = .ok (.aload_n 0, 1) := dk_42 (dk_at dksX8_hotterOf_9 15 rfl rfl)
theorem dX8_hotterOf_223 : decode cX8_hotterOf 223 = .ok (.getfield 36, 3) := dk_180 0 36 (dk_at dksX8_hotterOf_9 16 rfl rfl)
theorem dX8_hotterOf_226 : decode cX8_hotterOf 226 = .ok (.iload_n 2, 1) := dk_28 (dk_at dksX8_hotterOf_9 19 rfl rfl)
theorem dX8_hotterOf_227 : decode cX8_hotterOf 227 = .ok (.iaload, 1) := dk_46 (dk_at dksX8_hotterOf_9 20 rfl rfl)
theorem dX8_hotterOf_228 : decode cX8_hotterOf 228 = .ok (.invokestatic 330, 3) := dk_184 1 74 (dk_at dksX8_hotterOf_9 21 rfl rfl)
theorem dX8_hotterOf_231 : decode cX8_hotterOf 231 = .ok (.iastore, 1) := dk_79 (dk_at dksX8_hotterOf_10 0 rfl rfl)
theorem dX8_hotterOf_232 : decode cX8_hotterOf 232 = .ok (.iinc 3 1, 3) := dk_132 3 1 (dk_at dksX8_hotterOf_10 1 rfl rfl)
theorem dX8_hotterOf_235 : decode cX8_hotterOf 235 = .ok (.goto (-145), 3) := dk_167 255 111 (dk_at dksX8_hotterOf_10 4 rfl rfl)
theorem dX8_hotterOf_238 : decode cX8_hotterOf 238 = .ok (.aload_n 0, 1) := dk_42 (dk_at dksX8_hotterOf_10 7 rfl rfl)
theorem dX8_hotterOf_239 : decode cX8_hotterOf 239 = .ok (.getfield 36, 3) := dk_180 0 36 (dk_at dksX8_hotterOf_10 8 rfl rfl)
theorem dX8_hotterOf_242 : decode cX8_hotterOf 242 = .ok (.iconst 0, 1) := dk_3 (dk_at dksX8_hotterOf_10 11 rfl rfl)
theorem dX8_hotterOf_243 : decode cX8_hotterOf 243 = .ok (.iaload, 1) := dk_46 (dk_at dksX8_hotterOf_10 12 rfl rfl)
theorem dX8_hotterOf_244 : decode cX8_hotterOf 244 = .ok (.bipush 99, 2) := dk_16 99 (dk_at dksX8_hotterOf_10 13 rfl rfl)
theorem dX8_hotterOf_246 : decode cX8_hotterOf 246 = .ok (.invokestatic 334, 3) := dk_184 1 78 (dk_at dksX8_hotterOf_10 15 rfl rfl)
theorem dX8_hotterOf_249 : decode cX8_hotterOf 249 = .ok (.ireturn, 1) := dk_172 (dk_at dksX8_hotterOf_10 18 rfl rfl)
abbrev cX8_done : ByteArray := prog_20_method_32_code
def yX8_done : MethodName := ⟨RX8, "done", "(III)I"⟩
def dkwX8_done_6 : List UInt8 := [172, 27, 154, 0, 7, 28, 153, 0, 7, 4, 167, 0, 4, 3, 184, 1, 61, 172]
abbrev dktX8_done_6 : List UInt8 := dkwX8_done_6 ++ []
def dkwX8_done_5 : List UInt8 := [167, 0, 4, 3, 184, 1, 61, 172, 27, 153, 0, 11, 28, 153, 0, 7, 4, 167, 0, 4, 3, 184, 1, 61]
abbrev dktX8_done_5 : List UInt8 := dkwX8_done_5 ++ dktX8_done_6
def dkwX8_done_4 : List UInt8 := [184, 1, 61, 172, 27, 28, 164, 0, 7, 4, 167, 0, 4, 3, 184, 1, 61, 172, 27, 28, 160, 0, 7, 4]
abbrev dktX8_done_4 : List UInt8 := dkwX8_done_4 ++ dktX8_done_5
def dkwX8_done_3 : List UInt8 := [28, 154, 0, 7, 3, 167, 0, 6, 27, 28, 112, 172, 27, 28, 162, 0, 7, 4, 167, 0, 4, 3]
abbrev dktX8_done_3 : List UInt8 := dkwX8_done_3 ++ dktX8_done_4
def dkwX8_done_2 : List UInt8 := [27, 28, 96, 172, 27, 28, 100, 172, 27, 28, 104, 172, 28, 154, 0, 7, 3, 167, 0, 6, 27, 28, 108, 172]
abbrev dktX8_done_2 : List UInt8 := dkwX8_done_2 ++ dktX8_done_3
def dkwX8_done_1 : List UInt8 := [170, 0, 0, 0, 0, 0, 214, 0, 0, 0, 37, 0, 0, 0, 62, 0, 0, 0, 143, 0, 0, 0, 197, 0, 0, 0, 214, 0, 0, 0, 214, 0, 0, 0, 214, 0, 0, 0, 127, 0, 0, 0, 119, 0, 0, 0, 214, 0, 0, 0, 123, 0, 0, 0, 214, 0, 0, 0, 131, 0, 0, 0, 214, 0, 0, 0, 214, 0, 0, 0, 214, 0, 0, 0, 214, 0, 0, 0, 214, 0, 0, 0, 214, 0, 0, 0, 214, 0, 0, 0, 214, 0, 0, 0, 214, 0, 0, 0, 214, 0, 0, 0, 214, 0, 0, 0, 214, 0, 0, 0, 155, 0, 0, 0, 183, 0, 0, 0, 169]
abbrev dktX8_done_1 : List UInt8 := dkwX8_done_1 ++ dktX8_done_2
def dkwX8_done_0 : List UInt8 := [26]
abbrev dktX8_done_0 : List UInt8 := dkwX8_done_0 ++ dktX8_done_1
theorem dksX8_done_0 : cX8_done.data.toList.drop 0 = dktX8_done_0 := by decide +kernel
theorem dksX8_done_1 : cX8_done.data.toList.drop 1 = dktX8_done_1 := dk_seg dksX8_done_0 1 rfl rfl
theorem dksX8_done_2 : cX8_done.data.toList.drop 120 = dktX8_done_2 := dk_seg dksX8_done_1 119 rfl rfl
theorem dksX8_done_3 : cX8_done.data.toList.drop 144 = dktX8_done_3 := dk_seg dksX8_done_2 24 rfl rfl
theorem dksX8_done_4 : cX8_done.data.toList.drop 166 = dktX8_done_4 := dk_seg dksX8_done_3 22 rfl rfl
theorem dksX8_done_5 : cX8_done.data.toList.drop 190 = dktX8_done_5 := dk_seg dksX8_done_4 24 rfl rfl
theorem dksX8_done_6 : cX8_done.data.toList.drop 214 = dktX8_done_6 := dk_seg dksX8_done_5 24 rfl rfl
theorem dX8_done_0 : decode cX8_done 0 = .ok (.iload_n 0, 1) := dk_26 (dk_at dksX8_done_0 0 rfl rfl)
theorem dX8_done_1 : decode cX8_done 1 = .ok (.tableswitch 214 37 62 #[143, 197, 214, 214, 214, 127, 119, 214, 123, 214, 131, 214, 214, 214, 214, 214, 214, 214, 214, 214, 214, 214, 214, 155, 183, 169], 119) := by decide +kernel
theorem dX8_done_120 : decode cX8_done 120 = .ok (.iload_n 1, 1) := dk_27 (dk_at dksX8_done_2 0 rfl rfl)
theorem dX8_done_121 : decode cX8_done 121 = .ok (.iload_n 2, 1) := dk_28 (dk_at dksX8_done_2 1 rfl rfl)
theorem dX8_done_122 : decode cX8_done 122 = .ok (.iadd, 1) := dk_96 (dk_at dksX8_done_2 2 rfl rfl)
theorem dX8_done_123 : decode cX8_done 123 = .ok (.ireturn, 1) := dk_172 (dk_at dksX8_done_2 3 rfl rfl)
theorem dX8_done_124 : decode cX8_done 124 = .ok (.iload_n 1, 1) := dk_27 (dk_at dksX8_done_2 4 rfl rfl)
theorem dX8_done_125 : decode cX8_done 125 = .ok (.iload_n 2, 1) := dk_28 (dk_at dksX8_done_2 5 rfl rfl)
theorem dX8_done_126 : decode cX8_done 126 = .ok (.isub, 1) := dk_100 (dk_at dksX8_done_2 6 rfl rfl)
theorem dX8_done_127 : decode cX8_done 127 = .ok (.ireturn, 1) := dk_172 (dk_at dksX8_done_2 7 rfl rfl)
theorem dX8_done_128 : decode cX8_done 128 = .ok (.iload_n 1, 1) := dk_27 (dk_at dksX8_done_2 8 rfl rfl)
theorem dX8_done_129 : decode cX8_done 129 = .ok (.iload_n 2, 1) := dk_28 (dk_at dksX8_done_2 9 rfl rfl)
theorem dX8_done_130 : decode cX8_done 130 = .ok (.imul, 1) := dk_104 (dk_at dksX8_done_2 10 rfl rfl)
theorem dX8_done_131 : decode cX8_done 131 = .ok (.ireturn, 1) := dk_172 (dk_at dksX8_done_2 11 rfl rfl)
theorem dX8_done_132 : decode cX8_done 132 = .ok (.iload_n 2, 1) := dk_28 (dk_at dksX8_done_2 12 rfl rfl)
theorem dX8_done_133 : decode cX8_done 133 = .ok (.ifCond .ne 7, 3) := dk_154 0 7 (dk_at dksX8_done_2 13 rfl rfl)
theorem dX8_done_136 : decode cX8_done 136 = .ok (.iconst 0, 1) := dk_3 (dk_at dksX8_done_2 16 rfl rfl)
theorem dX8_done_137 : decode cX8_done 137 = .ok (.goto 6, 3) := dk_167 0 6 (dk_at dksX8_done_2 17 rfl rfl)
theorem dX8_done_140 : decode cX8_done 140 = .ok (.iload_n 1, 1) := dk_27 (dk_at dksX8_done_2 20 rfl rfl)
theorem dX8_done_141 : decode cX8_done 141 = .ok (.iload_n 2, 1) := dk_28 (dk_at dksX8_done_2 21 rfl rfl)
theorem dX8_done_142 : decode cX8_done 142 = .ok (.idiv, 1) := dk_108 (dk_at dksX8_done_2 22 rfl rfl)
theorem dX8_done_143 : decode cX8_done 143 = .ok (.ireturn, 1) := dk_172 (dk_at dksX8_done_2 23 rfl rfl)
theorem dX8_done_144 : decode cX8_done 144 = .ok (.iload_n 2, 1) := dk_28 (dk_at dksX8_done_3 0 rfl rfl)
theorem dX8_done_145 : decode cX8_done 145 = .ok (.ifCond .ne 7, 3) := dk_154 0 7 (dk_at dksX8_done_3 1 rfl rfl)
theorem dX8_done_148 : decode cX8_done 148 = .ok (.iconst 0, 1) := dk_3 (dk_at dksX8_done_3 4 rfl rfl)
theorem dX8_done_149 : decode cX8_done 149 = .ok (.goto 6, 3) := dk_167 0 6 (dk_at dksX8_done_3 5 rfl rfl)
theorem dX8_done_152 : decode cX8_done 152 = .ok (.iload_n 1, 1) := dk_27 (dk_at dksX8_done_3 8 rfl rfl)
theorem dX8_done_153 : decode cX8_done 153 = .ok (.iload_n 2, 1) := dk_28 (dk_at dksX8_done_3 9 rfl rfl)
theorem dX8_done_154 : decode cX8_done 154 = .ok (.irem, 1) := dk_112 (dk_at dksX8_done_3 10 rfl rfl)
theorem dX8_done_155 : decode cX8_done 155 = .ok (.ireturn, 1) := dk_172 (dk_at dksX8_done_3 11 rfl rfl)
theorem dX8_done_156 : decode cX8_done 156 = .ok (.iload_n 1, 1) := dk_27 (dk_at dksX8_done_3 12 rfl rfl)
theorem dX8_done_157 : decode cX8_done 157 = .ok (.iload_n 2, 1) := dk_28 (dk_at dksX8_done_3 13 rfl rfl)
theorem dX8_done_158 : decode cX8_done 158 = .ok (.if_icmp .ge 7, 3) := dk_162 0 7 (dk_at dksX8_done_3 14 rfl rfl)
theorem dX8_done_161 : decode cX8_done 161 = .ok (.iconst 1, 1) := dk_4 (dk_at dksX8_done_3 17 rfl rfl)
theorem dX8_done_162 : decode cX8_done 162 = .ok (.goto 4, 3) := dk_167 0 4 (dk_at dksX8_done_3 18 rfl rfl)
theorem dX8_done_165 : decode cX8_done 165 = .ok (.iconst 0, 1) := dk_3 (dk_at dksX8_done_3 21 rfl rfl)
theorem dX8_done_166 : decode cX8_done 166 = .ok (.invokestatic 317, 3) := dk_184 1 61 (dk_at dksX8_done_4 0 rfl rfl)
theorem dX8_done_169 : decode cX8_done 169 = .ok (.ireturn, 1) := dk_172 (dk_at dksX8_done_4 3 rfl rfl)
theorem dX8_done_170 : decode cX8_done 170 = .ok (.iload_n 1, 1) := dk_27 (dk_at dksX8_done_4 4 rfl rfl)
theorem dX8_done_171 : decode cX8_done 171 = .ok (.iload_n 2, 1) := dk_28 (dk_at dksX8_done_4 5 rfl rfl)
theorem dX8_done_172 : decode cX8_done 172 = .ok (.if_icmp .le 7, 3) := dk_164 0 7 (dk_at dksX8_done_4 6 rfl rfl)
theorem dX8_done_175 : decode cX8_done 175 = .ok (.iconst 1, 1) := dk_4 (dk_at dksX8_done_4 9 rfl rfl)
theorem dX8_done_176 : decode cX8_done 176 = .ok (.goto 4, 3) := dk_167 0 4 (dk_at dksX8_done_4 10 rfl rfl)
theorem dX8_done_179 : decode cX8_done 179 = .ok (.iconst 0, 1) := dk_3 (dk_at dksX8_done_4 13 rfl rfl)
theorem dX8_done_180 : decode cX8_done 180 = .ok (.invokestatic 317, 3) := dk_184 1 61 (dk_at dksX8_done_4 14 rfl rfl)
theorem dX8_done_183 : decode cX8_done 183 = .ok (.ireturn, 1) := dk_172 (dk_at dksX8_done_4 17 rfl rfl)
theorem dX8_done_184 : decode cX8_done 184 = .ok (.iload_n 1, 1) := dk_27 (dk_at dksX8_done_4 18 rfl rfl)
theorem dX8_done_185 : decode cX8_done 185 = .ok (.iload_n 2, 1) := dk_28 (dk_at dksX8_done_4 19 rfl rfl)
theorem dX8_done_186 : decode cX8_done 186 = .ok (.if_icmp .ne 7, 3) := dk_160 0 7 (dk_at dksX8_done_4 20 rfl rfl)
theorem dX8_done_189 : decode cX8_done 189 = .ok (.iconst 1, 1) := dk_4 (dk_at dksX8_done_4 23 rfl rfl)
theorem dX8_done_190 : decode cX8_done 190 = .ok (.goto 4, 3) := dk_167 0 4 (dk_at dksX8_done_5 0 rfl rfl)
theorem dX8_done_193 : decode cX8_done 193 = .ok (.iconst 0, 1) := dk_3 (dk_at dksX8_done_5 3 rfl rfl)
theorem dX8_done_194 : decode cX8_done 194 = .ok (.invokestatic 317, 3) := dk_184 1 61 (dk_at dksX8_done_5 4 rfl rfl)
theorem dX8_done_197 : decode cX8_done 197 = .ok (.ireturn, 1) := dk_172 (dk_at dksX8_done_5 7 rfl rfl)
theorem dX8_done_198 : decode cX8_done 198 = .ok (.iload_n 1, 1) := dk_27 (dk_at dksX8_done_5 8 rfl rfl)
theorem dX8_done_199 : decode cX8_done 199 = .ok (.ifCond .eq 11, 3) := dk_153 0 11 (dk_at dksX8_done_5 9 rfl rfl)
theorem dX8_done_202 : decode cX8_done 202 = .ok (.iload_n 2, 1) := dk_28 (dk_at dksX8_done_5 12 rfl rfl)
theorem dX8_done_203 : decode cX8_done 203 = .ok (.ifCond .eq 7, 3) := dk_153 0 7 (dk_at dksX8_done_5 13 rfl rfl)
theorem dX8_done_206 : decode cX8_done 206 = .ok (.iconst 1, 1) := dk_4 (dk_at dksX8_done_5 16 rfl rfl)
theorem dX8_done_207 : decode cX8_done 207 = .ok (.goto 4, 3) := dk_167 0 4 (dk_at dksX8_done_5 17 rfl rfl)
theorem dX8_done_210 : decode cX8_done 210 = .ok (.iconst 0, 1) := dk_3 (dk_at dksX8_done_5 20 rfl rfl)
theorem dX8_done_211 : decode cX8_done 211 = .ok (.invokestatic 317, 3) := dk_184 1 61 (dk_at dksX8_done_5 21 rfl rfl)
theorem dX8_done_214 : decode cX8_done 214 = .ok (.ireturn, 1) := dk_172 (dk_at dksX8_done_6 0 rfl rfl)
theorem dX8_done_215 : decode cX8_done 215 = .ok (.iload_n 1, 1) := dk_27 (dk_at dksX8_done_6 1 rfl rfl)
theorem dX8_done_216 : decode cX8_done 216 = .ok (.ifCond .ne 7, 3) := dk_154 0 7 (dk_at dksX8_done_6 2 rfl rfl)
theorem dX8_done_219 : decode cX8_done 219 = .ok (.iload_n 2, 1) := dk_28 (dk_at dksX8_done_6 5 rfl rfl)
theorem dX8_done_220 : decode cX8_done 220 = .ok (.ifCond .eq 7, 3) := dk_153 0 7 (dk_at dksX8_done_6 6 rfl rfl)
theorem dX8_done_223 : decode cX8_done 223 = .ok (.iconst 1, 1) := dk_4 (dk_at dksX8_done_6 9 rfl rfl)
theorem dX8_done_224 : decode cX8_done 224 = .ok (.goto 4, 3) := dk_167 0 4 (dk_at dksX8_done_6 10 rfl rfl)
theorem dX8_done_227 : decode cX8_done 227 = .ok (.iconst 0, 1) := dk_3 (dk_at dksX8_done_6 13 rfl rfl)
theorem dX8_done_228 : decode cX8_done 228 = .ok (.invokestatic 317, 3) := dk_184 1 61 (dk_at dksX8_done_6 14 rfl rfl)
theorem dX8_done_231 : decode cX8_done 231 = .ok (.ireturn, 1) := dk_172 (dk_at dksX8_done_6 17 rfl rfl)
abbrev cX8_within : ByteArray := prog_20_method_33_code
def yX8_within : MethodName := ⟨RX8, "within", "(II)I"⟩
def dkwX8_within_0 : List UInt8 := [26, 156, 0, 7, 3, 167, 0, 13, 26, 27, 164, 0, 7, 27, 167, 0, 4, 26, 172]
abbrev dktX8_within_0 : List UInt8 := dkwX8_within_0 ++ []
theorem dksX8_within_0 : cX8_within.data.toList.drop 0 = dktX8_within_0 := by decide +kernel
theorem dX8_within_0 : decode cX8_within 0 = .ok (.iload_n 0, 1) := dk_26 (dk_at dksX8_within_0 0 rfl rfl)
theorem dX8_within_1 : decode cX8_within 1 = .ok (.ifCond .ge 7, 3) := dk_156 0 7 (dk_at dksX8_within_0 1 rfl rfl)
theorem dX8_within_4 : decode cX8_within 4 = .ok (.iconst 0, 1) := dk_3 (dk_at dksX8_within_0 4 rfl rfl)
theorem dX8_within_5 : decode cX8_within 5 = .ok (.goto 13, 3) := dk_167 0 13 (dk_at dksX8_within_0 5 rfl rfl)
theorem dX8_within_8 : decode cX8_within 8 = .ok (.iload_n 0, 1) := dk_26 (dk_at dksX8_within_0 8 rfl rfl)
theorem dX8_within_9 : decode cX8_within 9 = .ok (.iload_n 1, 1) := dk_27 (dk_at dksX8_within_0 9 rfl rfl)
theorem dX8_within_10 : decode cX8_within 10 = .ok (.if_icmp .le 7, 3) := dk_164 0 7 (dk_at dksX8_within_0 10 rfl rfl)
theorem dX8_within_13 : decode cX8_within 13 = .ok (.iload_n 1, 1) := dk_27 (dk_at dksX8_within_0 13 rfl rfl)
theorem dX8_within_14 : decode cX8_within 14 = .ok (.goto 4, 3) := dk_167 0 4 (dk_at dksX8_within_0 14 rfl rfl)
theorem dX8_within_17 : decode cX8_within 17 = .ok (.iload_n 0, 1) := dk_26 (dk_at dksX8_within_0 17 rfl rfl)
theorem dX8_within_18 : decode cX8_within 18 = .ok (.ireturn, 1) := dk_172 (dk_at dksX8_within_0 18 rfl rfl)
abbrev cX8_stroke : ByteArray := prog_20_method_64_code
def yX8_stroke : MethodName := ⟨RX8, "stroke", "(IIZ)I"⟩
def dkwX8_stroke_4 : List UInt8 := [180, 1, 152, 162, 0, 7, 5, 167, 0, 4, 4, 182, 1, 203, 54, 4, 42, 182, 1, 206, 21, 4, 172]
abbrev dktX8_stroke_4 : List UInt8 := dkwX8_stroke_4 ++ []
def dkwX8_stroke_3 : List UInt8 := [42, 27, 28, 29, 153, 0, 7, 4, 167, 0, 4, 2, 42, 180, 0, 87, 16, 27, 46, 16, 100, 112, 42]
abbrev dktX8_stroke_3 : List UInt8 := dkwX8_stroke_3 ++ dktX8_stroke_4
def dkwX8_stroke_2 : List UInt8 := [180, 0, 87, 16, 27, 42, 180, 0, 87, 16, 27, 46, 17, 0, 137, 104, 16, 71, 96, 17, 3, 232, 112, 79]
abbrev dktX8_stroke_2 : List UInt8 := dkwX8_stroke_2 ++ dktX8_stroke_3
def dkwX8_stroke_1 : List UInt8 := [46, 29, 153, 0, 10, 42, 180, 0, 81, 167, 0, 4, 3, 160, 0, 5, 2, 172, 42, 182, 1, 200, 42]
abbrev dktX8_stroke_1 : List UInt8 := dkwX8_stroke_1 ++ dktX8_stroke_2
def dkwX8_stroke_0 : List UInt8 := [42, 27, 182, 1, 188, 153, 0, 35, 28, 2, 4, 184, 1, 170, 153, 0, 26, 42, 180, 0, 84, 7, 27, 96]
abbrev dktX8_stroke_0 : List UInt8 := dkwX8_stroke_0 ++ dktX8_stroke_1
theorem dksX8_stroke_0 : cX8_stroke.data.toList.drop 0 = dktX8_stroke_0 := by decide +kernel
theorem dksX8_stroke_1 : cX8_stroke.data.toList.drop 24 = dktX8_stroke_1 := dk_seg dksX8_stroke_0 24 rfl rfl
theorem dksX8_stroke_2 : cX8_stroke.data.toList.drop 47 = dktX8_stroke_2 := dk_seg dksX8_stroke_1 23 rfl rfl
theorem dksX8_stroke_3 : cX8_stroke.data.toList.drop 71 = dktX8_stroke_3 := dk_seg dksX8_stroke_2 24 rfl rfl
theorem dksX8_stroke_4 : cX8_stroke.data.toList.drop 94 = dktX8_stroke_4 := dk_seg dksX8_stroke_3 23 rfl rfl
theorem dX8_stroke_0 : decode cX8_stroke 0 = .ok (.aload_n 0, 1) := dk_42 (dk_at dksX8_stroke_0 0 rfl rfl)
theorem dX8_stroke_1 : decode cX8_stroke 1 = .ok (.iload_n 1, 1) := dk_27 (dk_at dksX8_stroke_0 1 rfl rfl)
theorem dX8_stroke_2 : decode cX8_stroke 2 = .ok (.invokevirtual 444, 3) := dk_182 1 188 (dk_at dksX8_stroke_0 2 rfl rfl)
theorem dX8_stroke_5 : decode cX8_stroke 5 = .ok (.ifCond .eq 35, 3) := dk_153 0 35 (dk_at dksX8_stroke_0 5 rfl rfl)
theorem dX8_stroke_8 : decode cX8_stroke 8 = .ok (.iload_n 2, 1) := dk_28 (dk_at dksX8_stroke_0 8 rfl rfl)
theorem dX8_stroke_9 : decode cX8_stroke 9 = .ok (.iconst (-1), 1) := dk_2 (dk_at dksX8_stroke_0 9 rfl rfl)
theorem dX8_stroke_10 : decode cX8_stroke 10 = .ok (.iconst 1, 1) := dk_4 (dk_at dksX8_stroke_0 10 rfl rfl)
theorem dX8_stroke_11 : decode cX8_stroke 11 = .ok (.invokestatic 426, 3) := dk_184 1 170 (dk_at dksX8_stroke_0 11 rfl rfl)
theorem dX8_stroke_14 : decode cX8_stroke 14 = .ok (.ifCond .eq 26, 3) := dk_153 0 26 (dk_at dksX8_stroke_0 14 rfl rfl)
theorem dX8_stroke_17 : decode cX8_stroke 17 = .ok (.aload_n 0, 1) := dk_42 (dk_at dksX8_stroke_0 17 rfl rfl)
theorem dX8_stroke_18 : decode cX8_stroke 18 = .ok (.getfield 84, 3) := dk_180 0 84 (dk_at dksX8_stroke_0 18 rfl rfl)
theorem dX8_stroke_21 : decode cX8_stroke 21 = .ok (.iconst 4, 1) := dk_7 (dk_at dksX8_stroke_0 21 rfl rfl)
theorem dX8_stroke_22 : decode cX8_stroke 22 = .ok (.iload_n 1, 1) := dk_27 (dk_at dksX8_stroke_0 22 rfl rfl)
theorem dX8_stroke_23 : decode cX8_stroke 23 = .ok (.iadd, 1) := dk_96 (dk_at dksX8_stroke_0 23 rfl rfl)
theorem dX8_stroke_24 : decode cX8_stroke 24 = .ok (.iaload, 1) := dk_46 (dk_at dksX8_stroke_1 0 rfl rfl)
theorem dX8_stroke_25 : decode cX8_stroke 25 = .ok (.iload_n 3, 1) := dk_29 (dk_at dksX8_stroke_1 1 rfl rfl)
theorem dX8_stroke_26 : decode cX8_stroke 26 = .ok (.ifCond .eq 10, 3) := dk_153 0 10 (dk_at dksX8_stroke_1 2 rfl rfl)
theorem dX8_stroke_29 : decode cX8_stroke 29 = .ok (.aload_n 0, 1) := dk_42 (dk_at dksX8_stroke_1 5 rfl rfl)
theorem dX8_stroke_30 : decode cX8_stroke 30 = .ok (.getfield 81, 3) := dk_180 0 81 (dk_at dksX8_stroke_1 6 rfl rfl)
theorem dX8_stroke_33 : decode cX8_stroke 33 = .ok (.goto 4, 3) := dk_167 0 4 (dk_at dksX8_stroke_1 9 rfl rfl)
theorem dX8_stroke_36 : decode cX8_stroke 36 = .ok (.iconst 0, 1) := dk_3 (dk_at dksX8_stroke_1 12 rfl rfl)
theorem dX8_stroke_37 : decode cX8_stroke 37 = .ok (.if_icmp .ne 5, 3) := dk_160 0 5 (dk_at dksX8_stroke_1 13 rfl rfl)
theorem dX8_stroke_40 : decode cX8_stroke 40 = .ok (.iconst (-1), 1) := dk_2 (dk_at dksX8_stroke_1 16 rfl rfl)
theorem dX8_stroke_41 : decode cX8_stroke 41 = .ok (.ireturn, 1) := dk_172 (dk_at dksX8_stroke_1 17 rfl rfl)
theorem dX8_stroke_42 : decode cX8_stroke 42 = .ok (.aload_n 0, 1) := dk_42 (dk_at dksX8_stroke_1 18 rfl rfl)
theorem dX8_stroke_43 : decode cX8_stroke 43 = .ok (.invokevirtual 456, 3) := dk_182 1 200 (dk_at dksX8_stroke_1 19 rfl rfl)
theorem dX8_stroke_46 : decode cX8_stroke 46 = .ok (.aload_n 0, 1) := dk_42 (dk_at dksX8_stroke_1 22 rfl rfl)
theorem dX8_stroke_47 : decode cX8_stroke 47 = .ok (.getfield 87, 3) := dk_180 0 87 (dk_at dksX8_stroke_2 0 rfl rfl)
theorem dX8_stroke_50 : decode cX8_stroke 50 = .ok (.bipush 27, 2) := dk_16 27 (dk_at dksX8_stroke_2 3 rfl rfl)
theorem dX8_stroke_52 : decode cX8_stroke 52 = .ok (.aload_n 0, 1) := dk_42 (dk_at dksX8_stroke_2 5 rfl rfl)
theorem dX8_stroke_53 : decode cX8_stroke 53 = .ok (.getfield 87, 3) := dk_180 0 87 (dk_at dksX8_stroke_2 6 rfl rfl)
theorem dX8_stroke_56 : decode cX8_stroke 56 = .ok (.bipush 27, 2) := dk_16 27 (dk_at dksX8_stroke_2 9 rfl rfl)
theorem dX8_stroke_58 : decode cX8_stroke 58 = .ok (.iaload, 1) := dk_46 (dk_at dksX8_stroke_2 11 rfl rfl)
theorem dX8_stroke_59 : decode cX8_stroke 59 = .ok (.sipush 137, 3) := dk_17 0 137 (dk_at dksX8_stroke_2 12 rfl rfl)
theorem dX8_stroke_62 : decode cX8_stroke 62 = .ok (.imul, 1) := dk_104 (dk_at dksX8_stroke_2 15 rfl rfl)
theorem dX8_stroke_63 : decode cX8_stroke 63 = .ok (.bipush 71, 2) := dk_16 71 (dk_at dksX8_stroke_2 16 rfl rfl)
theorem dX8_stroke_65 : decode cX8_stroke 65 = .ok (.iadd, 1) := dk_96 (dk_at dksX8_stroke_2 18 rfl rfl)
theorem dX8_stroke_66 : decode cX8_stroke 66 = .ok (.sipush 1000, 3) := dk_17 3 232 (dk_at dksX8_stroke_2 19 rfl rfl)
theorem dX8_stroke_69 : decode cX8_stroke 69 = .ok (.irem, 1) := dk_112 (dk_at dksX8_stroke_2 22 rfl rfl)
theorem dX8_stroke_70 : decode cX8_stroke 70 = .ok (.iastore, 1) := dk_79 (dk_at dksX8_stroke_2 23 rfl rfl)
theorem dX8_stroke_71 : decode cX8_stroke 71 = .ok (.aload_n 0, 1) := dk_42 (dk_at dksX8_stroke_3 0 rfl rfl)
theorem dX8_stroke_72 : decode cX8_stroke 72 = .ok (.iload_n 1, 1) := dk_27 (dk_at dksX8_stroke_3 1 rfl rfl)
theorem dX8_stroke_73 : decode cX8_stroke 73 = .ok (.iload_n 2, 1) := dk_28 (dk_at dksX8_stroke_3 2 rfl rfl)
theorem dX8_stroke_74 : decode cX8_stroke 74 = .ok (.iload_n 3, 1) := dk_29 (dk_at dksX8_stroke_3 3 rfl rfl)
theorem dX8_stroke_75 : decode cX8_stroke 75 = .ok (.ifCond .eq 7, 3) := dk_153 0 7 (dk_at dksX8_stroke_3 4 rfl rfl)
theorem dX8_stroke_78 : decode cX8_stroke 78 = .ok (.iconst 1, 1) := dk_4 (dk_at dksX8_stroke_3 7 rfl rfl)
theorem dX8_stroke_79 : decode cX8_stroke 79 = .ok (.goto 4, 3) := dk_167 0 4 (dk_at dksX8_stroke_3 8 rfl rfl)
theorem dX8_stroke_82 : decode cX8_stroke 82 = .ok (.iconst (-1), 1) := dk_2 (dk_at dksX8_stroke_3 11 rfl rfl)
theorem dX8_stroke_83 : decode cX8_stroke 83 = .ok (.aload_n 0, 1) := dk_42 (dk_at dksX8_stroke_3 12 rfl rfl)
theorem dX8_stroke_84 : decode cX8_stroke 84 = .ok (.getfield 87, 3) := dk_180 0 87 (dk_at dksX8_stroke_3 13 rfl rfl)
theorem dX8_stroke_87 : decode cX8_stroke 87 = .ok (.bipush 27, 2) := dk_16 27 (dk_at dksX8_stroke_3 16 rfl rfl)
theorem dX8_stroke_89 : decode cX8_stroke 89 = .ok (.iaload, 1) := dk_46 (dk_at dksX8_stroke_3 18 rfl rfl)
theorem dX8_stroke_90 : decode cX8_stroke 90 = .ok (.bipush 100, 2) := dk_16 100 (dk_at dksX8_stroke_3 19 rfl rfl)
theorem dX8_stroke_92 : decode cX8_stroke 92 = .ok (.irem, 1) := dk_112 (dk_at dksX8_stroke_3 21 rfl rfl)
theorem dX8_stroke_93 : decode cX8_stroke 93 = .ok (.aload_n 0, 1) := dk_42 (dk_at dksX8_stroke_3 22 rfl rfl)
theorem dX8_stroke_94 : decode cX8_stroke 94 = .ok (.getfield 408, 3) := dk_180 1 152 (dk_at dksX8_stroke_4 0 rfl rfl)
theorem dX8_stroke_97 : decode cX8_stroke 97 = .ok (.if_icmp .ge 7, 3) := dk_162 0 7 (dk_at dksX8_stroke_4 3 rfl rfl)
theorem dX8_stroke_100 : decode cX8_stroke 100 = .ok (.iconst 2, 1) := dk_5 (dk_at dksX8_stroke_4 6 rfl rfl)
theorem dX8_stroke_101 : decode cX8_stroke 101 = .ok (.goto 4, 3) := dk_167 0 4 (dk_at dksX8_stroke_4 7 rfl rfl)
theorem dX8_stroke_104 : decode cX8_stroke 104 = .ok (.iconst 1, 1) := dk_4 (dk_at dksX8_stroke_4 10 rfl rfl)
theorem dX8_stroke_105 : decode cX8_stroke 105 = .ok (.invokevirtual 459, 3) := dk_182 1 203 (dk_at dksX8_stroke_4 11 rfl rfl)
theorem dX8_stroke_108 : decode cX8_stroke 108 = .ok (.istore 4, 2) := dk_54 4 (dk_at dksX8_stroke_4 14 rfl rfl)
theorem dX8_stroke_110 : decode cX8_stroke 110 = .ok (.aload_n 0, 1) := dk_42 (dk_at dksX8_stroke_4 16 rfl rfl)
theorem dX8_stroke_111 : decode cX8_stroke 111 = .ok (.invokevirtual 462, 3) := dk_182 1 206 (dk_at dksX8_stroke_4 17 rfl rfl)
theorem dX8_stroke_114 : decode cX8_stroke 114 = .ok (.iload 4, 2) := dk_21 4 (dk_at dksX8_stroke_4 20 rfl rfl)
theorem dX8_stroke_116 : decode cX8_stroke 116 = .ok (.ireturn, 1) := dk_172 (dk_at dksX8_stroke_4 22 rfl rfl)
abbrev cX8_act : ByteArray := prog_20_method_62_code
def yX8_act : MethodName := ⟨RX8, "act", "()V"⟩
def dkwX8_act_4 : List UInt8 := [3, 181, 1, 161, 42, 182, 1, 191, 177]
abbrev dktX8_act_4 : List UInt8 := dkwX8_act_4 ++ []
def dkwX8_act_3 : List UInt8 := [42, 180, 0, 84, 27, 46, 79, 132, 1, 1, 167, 255, 227, 42, 89, 180, 1, 158, 4, 96, 181, 1, 158, 42]
abbrev dktX8_act_3 : List UInt8 := dkwX8_act_3 ++ dktX8_act_4
def dkwX8_act_2 : List UInt8 := [181, 1, 158, 3, 60, 27, 16, 28, 162, 0, 29, 42, 180, 0, 90, 16, 28, 42, 180, 1, 158, 104, 27, 96]
abbrev dktX8_act_2 : List UInt8 := dkwX8_act_2 ++ dktX8_act_3
def dkwX8_act_1 : List UInt8 := [180, 0, 90, 16, 28, 27, 96, 46, 79, 132, 1, 1, 167, 255, 231, 42, 89, 180, 1, 158, 4, 100]
abbrev dktX8_act_1 : List UInt8 := dkwX8_act_1 ++ dktX8_act_2
def dkwX8_act_0 : List UInt8 := [42, 180, 1, 158, 16, 40, 160, 0, 43, 3, 60, 27, 17, 4, 68, 162, 0, 24, 42, 180, 0, 90, 27, 42]
abbrev dktX8_act_0 : List UInt8 := dkwX8_act_0 ++ dktX8_act_1
theorem dksX8_act_0 : cX8_act.data.toList.drop 0 = dktX8_act_0 := by decide +kernel
theorem dksX8_act_1 : cX8_act.data.toList.drop 24 = dktX8_act_1 := dk_seg dksX8_act_0 24 rfl rfl
theorem dksX8_act_2 : cX8_act.data.toList.drop 46 = dktX8_act_2 := dk_seg dksX8_act_1 22 rfl rfl
theorem dksX8_act_3 : cX8_act.data.toList.drop 70 = dktX8_act_3 := dk_seg dksX8_act_2 24 rfl rfl
theorem dksX8_act_4 : cX8_act.data.toList.drop 94 = dktX8_act_4 := dk_seg dksX8_act_3 24 rfl rfl
theorem dX8_act_0 : decode cX8_act 0 = .ok (.aload_n 0, 1) := dk_42 (dk_at dksX8_act_0 0 rfl rfl)
theorem dX8_act_1 : decode cX8_act 1 = .ok (.getfield 414, 3) := dk_180 1 158 (dk_at dksX8_act_0 1 rfl rfl)
theorem dX8_act_4 : decode cX8_act 4 = .ok (.bipush 40, 2) := dk_16 40 (dk_at dksX8_act_0 4 rfl rfl)
theorem dX8_act_6 : decode cX8_act 6 = .ok (.if_icmp .ne 43, 3) := dk_160 0 43 (dk_at dksX8_act_0 6 rfl rfl)
theorem dX8_act_9 : decode cX8_act 9 = .ok (.iconst 0, 1) := dk_3 (dk_at dksX8_act_0 9 rfl rfl)
theorem dX8_act_10 : decode cX8_act 10 = .ok (.istore_n 1, 1) := dk_60 (dk_at dksX8_act_0 10 rfl rfl)
theorem dX8_act_11 : decode cX8_act 11 = .ok (.iload_n 1, 1) := dk_27 (dk_at dksX8_act_0 11 rfl rfl)
theorem dX8_act_12 : decode cX8_act 12 = .ok (.sipush 1092, 3) := dk_17 4 68 (dk_at dksX8_act_0 12 rfl rfl)
theorem dX8_act_15 : decode cX8_act 15 = .ok (.if_icmp .ge 24, 3) := dk_162 0 24 (dk_at dksX8_act_0 15 rfl rfl)
theorem dX8_act_18 : decode cX8_act 18 = .ok (.aload_n 0, 1) := dk_42 (dk_at dksX8_act_0 18 rfl rfl)
theorem dX8_act_19 : decode cX8_act 19 = .ok (.getfield 90, 3) := dk_180 0 90 (dk_at dksX8_act_0 19 rfl rfl)
theorem dX8_act_22 : decode cX8_act 22 = .ok (.iload_n 1, 1) := dk_27 (dk_at dksX8_act_0 22 rfl rfl)
theorem dX8_act_23 : decode cX8_act 23 = .ok (.aload_n 0, 1) := dk_42 (dk_at dksX8_act_0 23 rfl rfl)
theorem dX8_act_24 : decode cX8_act 24 = .ok (.getfield 90, 3) := dk_180 0 90 (dk_at dksX8_act_1 0 rfl rfl)
theorem dX8_act_27 : decode cX8_act 27 = .ok (.bipush 28, 2) := dk_16 28 (dk_at dksX8_act_1 3 rfl rfl)
theorem dX8_act_29 : decode cX8_act 29 = .ok (.iload_n 1, 1) := dk_27 (dk_at dksX8_act_1 5 rfl rfl)
theorem dX8_act_30 : decode cX8_act 30 = .ok (.iadd, 1) := dk_96 (dk_at dksX8_act_1 6 rfl rfl)
theorem dX8_act_31 : decode cX8_act 31 = .ok (.iaload, 1) := dk_46 (dk_at dksX8_act_1 7 rfl rfl)
theorem dX8_act_32 : decode cX8_act 32 = .ok (.iastore, 1) := dk_79 (dk_at dksX8_act_1 8 rfl rfl)
theorem dX8_act_33 : decode cX8_act 33 = .ok (.iinc 1 1, 3) := dk_132 1 1 (dk_at dksX8_act_1 9 rfl rfl)
theorem dX8_act_36 : decode cX8_act 36 = .ok (.goto (-25), 3) := dk_167 255 231 (dk_at dksX8_act_1 12 rfl rfl)
theorem dX8_act_39 : decode cX8_act 39 = .ok (.aload_n 0, 1) := dk_42 (dk_at dksX8_act_1 15 rfl rfl)
theorem dX8_act_40 : decode cX8_act 40 = .ok (.dup, 1) := dk_89 (dk_at dksX8_act_1 16 rfl rfl)
theorem dX8_act_41 : decode cX8_act 41 = .ok (.getfield 414, 3) := dk_180 1 158 (dk_at dksX8_act_1 17 rfl rfl)
theorem dX8_act_44 : decode cX8_act 44 = .ok (.iconst 1, 1) := dk_4 (dk_at dksX8_act_1 20 rfl rfl)
theorem dX8_act_45 : decode cX8_act 45 = .ok (.isub, 1) := dk_100 (dk_at dksX8_act_1 21 rfl rfl)
theorem dX8_act_46 : decode cX8_act 46 = .ok (.putfield 414, 3) := dk_181 1 158 (dk_at dksX8_act_2 0 rfl rfl)
theorem dX8_act_49 : decode cX8_act 49 = .ok (.iconst 0, 1) := dk_3 (dk_at dksX8_act_2 3 rfl rfl)
theorem dX8_act_50 : decode cX8_act 50 = .ok (.istore_n 1, 1) := dk_60 (dk_at dksX8_act_2 4 rfl rfl)
theorem dX8_act_51 : decode cX8_act 51 = .ok (.iload_n 1, 1) := dk_27 (dk_at dksX8_act_2 5 rfl rfl)
theorem dX8_act_52 : decode cX8_act 52 = .ok (.bipush 28, 2) := dk_16 28 (dk_at dksX8_act_2 6 rfl rfl)
theorem dX8_act_54 : decode cX8_act 54 = .ok (.if_icmp .ge 29, 3) := dk_162 0 29 (dk_at dksX8_act_2 8 rfl rfl)
theorem dX8_act_57 : decode cX8_act 57 = .ok (.aload_n 0, 1) := dk_42 (dk_at dksX8_act_2 11 rfl rfl)
theorem dX8_act_58 : decode cX8_act 58 = .ok (.getfield 90, 3) := dk_180 0 90 (dk_at dksX8_act_2 12 rfl rfl)
theorem dX8_act_61 : decode cX8_act 61 = .ok (.bipush 28, 2) := dk_16 28 (dk_at dksX8_act_2 15 rfl rfl)
theorem dX8_act_63 : decode cX8_act 63 = .ok (.aload_n 0, 1) := dk_42 (dk_at dksX8_act_2 17 rfl rfl)
theorem dX8_act_64 : decode cX8_act 64 = .ok (.getfield 414, 3) := dk_180 1 158 (dk_at dksX8_act_2 18 rfl rfl)
theorem dX8_act_67 : decode cX8_act 67 = .ok (.imul, 1) := dk_104 (dk_at dksX8_act_2 21 rfl rfl)
theorem dX8_act_68 : decode cX8_act 68 = .ok (.iload_n 1, 1) := dk_27 (dk_at dksX8_act_2 22 rfl rfl)
theorem dX8_act_69 : decode cX8_act 69 = .ok (.iadd, 1) := dk_96 (dk_at dksX8_act_2 23 rfl rfl)
theorem dX8_act_70 : decode cX8_act 70 = .ok (.aload_n 0, 1) := dk_42 (dk_at dksX8_act_3 0 rfl rfl)
theorem dX8_act_71 : decode cX8_act 71 = .ok (.getfield 84, 3) := dk_180 0 84 (dk_at dksX8_act_3 1 rfl rfl)
theorem dX8_act_74 : decode cX8_act 74 = .ok (.iload_n 1, 1) := dk_27 (dk_at dksX8_act_3 4 rfl rfl)
theorem dX8_act_75 : decode cX8_act 75 = .ok (.iaload, 1) := dk_46 (dk_at dksX8_act_3 5 rfl rfl)
theorem dX8_act_76 : decode cX8_act 76 = .ok (.iastore, 1) := dk_79 (dk_at dksX8_act_3 6 rfl rfl)
theorem dX8_act_77 : decode cX8_act 77 = .ok (.iinc 1 1, 3) := dk_132 1 1 (dk_at dksX8_act_3 7 rfl rfl)
theorem dX8_act_80 : decode cX8_act 80 = .ok (.goto (-29), 3) := dk_167 255 227 (dk_at dksX8_act_3 10 rfl rfl)
theorem dX8_act_83 : decode cX8_act 83 = .ok (.aload_n 0, 1) := dk_42 (dk_at dksX8_act_3 13 rfl rfl)
theorem dX8_act_84 : decode cX8_act 84 = .ok (.dup, 1) := dk_89 (dk_at dksX8_act_3 14 rfl rfl)
theorem dX8_act_85 : decode cX8_act 85 = .ok (.getfield 414, 3) := dk_180 1 158 (dk_at dksX8_act_3 15 rfl rfl)
theorem dX8_act_88 : decode cX8_act 88 = .ok (.iconst 1, 1) := dk_4 (dk_at dksX8_act_3 18 rfl rfl)
theorem dX8_act_89 : decode cX8_act 89 = .ok (.iadd, 1) := dk_96 (dk_at dksX8_act_3 19 rfl rfl)
theorem dX8_act_90 : decode cX8_act 90 = .ok (.putfield 414, 3) := dk_181 1 158 (dk_at dksX8_act_3 20 rfl rfl)
theorem dX8_act_93 : decode cX8_act 93 = .ok (.aload_n 0, 1) := dk_42 (dk_at dksX8_act_3 23 rfl rfl)
theorem dX8_act_94 : decode cX8_act 94 = .ok (.iconst 0, 1) := dk_3 (dk_at dksX8_act_4 0 rfl rfl)
theorem dX8_act_95 : decode cX8_act 95 = .ok (.putfield 417, 3) := dk_181 1 161 (dk_at dksX8_act_4 1 rfl rfl)
theorem dX8_act_98 : decode cX8_act 98 = .ok (.aload_n 0, 1) := dk_42 (dk_at dksX8_act_4 4 rfl rfl)
theorem dX8_act_99 : decode cX8_act 99 = .ok (.invokevirtual 447, 3) := dk_182 1 191 (dk_at dksX8_act_4 5 rfl rfl)
theorem dX8_act_102 : decode cX8_act 102 = .ok (.return_, 1) := dk_177 (dk_at dksX8_act_4 8 rfl rfl)
abbrev cX8_goStroke : ByteArray := prog_20_method_56_code
def yX8_goStroke : MethodName := ⟨RX8, "goStroke", "(IIII)I"⟩
def dkwX8_goStroke_8 : List UInt8 := [184, 1, 61, 5, 21, 9, 184, 1, 61, 104, 96, 172]
abbrev dktX8_goStroke_8 : List UInt8 := dkwX8_goStroke_8 ++ []
def dkwX8_goStroke_7 : List UInt8 := [96, 46, 17, 3, 231, 162, 0, 16, 42, 180, 0, 87, 16, 12, 27, 96, 92, 46, 4, 96, 79, 21, 8]
abbrev dktX8_goStroke_7 : List UInt8 := dkwX8_goStroke_7 ++ dktX8_goStroke_8
def dkwX8_goStroke_6 : List UInt8 := [21, 9, 153, 0, 7, 3, 167, 0, 5, 21, 7, 79, 21, 9, 153, 0, 31, 42, 180, 0, 87, 16, 12, 27]
abbrev dktX8_goStroke_6 : List UInt8 := dkwX8_goStroke_6 ++ dktX8_goStroke_7
def dkwX8_goStroke_5 : List UInt8 := [42, 180, 0, 72, 27, 46, 164, 0, 7, 4, 167, 0, 4, 3, 54, 9, 42, 180, 0, 87, 16, 8, 27, 96]
abbrev dktX8_goStroke_5 : List UInt8 := dkwX8_goStroke_5 ++ dktX8_goStroke_6
def dkwX8_goStroke_4 : List UInt8 := [96, 92, 46, 4, 96, 79, 21, 7, 16, 99, 164, 0, 8, 16, 99, 167, 0, 5, 21, 7, 54, 7, 21, 7]
abbrev dktX8_goStroke_4 : List UInt8 := dkwX8_goStroke_4 ++ dktX8_goStroke_5
def dkwX8_goStroke_3 : List UInt8 := [180, 0, 87, 27, 21, 6, 79, 42, 180, 0, 87, 7, 27, 96, 21, 5, 79, 42, 180, 0, 87, 16, 16, 27]
abbrev dktX8_goStroke_3 : List UInt8 := dkwX8_goStroke_3 ++ dktX8_goStroke_4
def dkwX8_goStroke_2 : List UInt8 := [182, 1, 181, 96, 54, 7, 42, 21, 6, 21, 5, 182, 1, 184, 54, 8, 21, 8, 154, 0, 21, 42]
abbrev dktX8_goStroke_2 : List UInt8 := dkwX8_goStroke_2 ++ dktX8_goStroke_3
def dkwX8_goStroke_1 : List UInt8 := [27, 96, 46, 28, 21, 4, 182, 1, 177, 54, 6, 42, 180, 0, 87, 16, 8, 27, 96, 46, 42, 27]
abbrev dktX8_goStroke_1 : List UInt8 := dkwX8_goStroke_1 ++ dktX8_goStroke_2
def dkwX8_goStroke_0 : List UInt8 := [42, 180, 0, 87, 7, 27, 96, 46, 29, 96, 54, 5, 42, 42, 180, 0, 87, 27, 46, 42, 180, 0, 87, 7]
abbrev dktX8_goStroke_0 : List UInt8 := dkwX8_goStroke_0 ++ dktX8_goStroke_1
theorem dksX8_goStroke_0 : cX8_goStroke.data.toList.drop 0 = dktX8_goStroke_0 := by decide +kernel
theorem dksX8_goStroke_1 : cX8_goStroke.data.toList.drop 24 = dktX8_goStroke_1 := dk_seg dksX8_goStroke_0 24 rfl rfl
theorem dksX8_goStroke_2 : cX8_goStroke.data.toList.drop 46 = dktX8_goStroke_2 := dk_seg dksX8_goStroke_1 22 rfl rfl
theorem dksX8_goStroke_3 : cX8_goStroke.data.toList.drop 68 = dktX8_goStroke_3 := dk_seg dksX8_goStroke_2 22 rfl rfl
theorem dksX8_goStroke_4 : cX8_goStroke.data.toList.drop 92 = dktX8_goStroke_4 := dk_seg dksX8_goStroke_3 24 rfl rfl
theorem dksX8_goStroke_5 : cX8_goStroke.data.toList.drop 116 = dktX8_goStroke_5 := dk_seg dksX8_goStroke_4 24 rfl rfl
theorem dksX8_goStroke_6 : cX8_goStroke.data.toList.drop 140 = dktX8_goStroke_6 := dk_seg dksX8_goStroke_5 24 rfl rfl
theorem dksX8_goStroke_7 : cX8_goStroke.data.toList.drop 164 = dktX8_goStroke_7 := dk_seg dksX8_goStroke_6 24 rfl rfl
theorem dksX8_goStroke_8 : cX8_goStroke.data.toList.drop 187 = dktX8_goStroke_8 := dk_seg dksX8_goStroke_7 23 rfl rfl
theorem dX8_goStroke_0 : decode cX8_goStroke 0 = .ok (.aload_n 0, 1) := dk_42 (dk_at dksX8_goStroke_0 0 rfl rfl)
theorem dX8_goStroke_1 : decode cX8_goStroke 1 = .ok (.getfield 87, 3) := dk_180 0 87 (dk_at dksX8_goStroke_0 1 rfl rfl)
theorem dX8_goStroke_4 : decode cX8_goStroke 4 = .ok (.iconst 4, 1) := dk_7 (dk_at dksX8_goStroke_0 4 rfl rfl)
theorem dX8_goStroke_5 : decode cX8_goStroke 5 = .ok (.iload_n 1, 1) := dk_27 (dk_at dksX8_goStroke_0 5 rfl rfl)
theorem dX8_goStroke_6 : decode cX8_goStroke 6 = .ok (.iadd, 1) := dk_96 (dk_at dksX8_goStroke_0 6 rfl rfl)
theorem dX8_goStroke_7 : decode cX8_goStroke 7 = .ok (.iaload, 1) := dk_46 (dk_at dksX8_goStroke_0 7 rfl rfl)
theorem dX8_goStroke_8 : decode cX8_goStroke 8 = .ok (.iload_n 3, 1) := dk_29 (dk_at dksX8_goStroke_0 8 rfl rfl)
theorem dX8_goStroke_9 : decode cX8_goStroke 9 = .ok (.iadd, 1) := dk_96 (dk_at dksX8_goStroke_0 9 rfl rfl)
theorem dX8_goStroke_10 : decode cX8_goStroke 10 = .ok (.istore 5, 2) := dk_54 5 (dk_at dksX8_goStroke_0 10 rfl rfl)
theorem dX8_goStroke_12 : decode cX8_goStroke 12 = .ok (.aload_n 0, 1) := dk_42 (dk_at dksX8_goStroke_0 12 rfl rfl)
theorem dX8_goStroke_13 : decode cX8_goStroke 13 = .ok (.aload_n 0, 1) := dk_42 (dk_at dksX8_goStroke_0 13 rfl rfl)
theorem dX8_goStroke_14 : decode cX8_goStroke 14 = .ok (.getfield 87, 3) := dk_180 0 87 (dk_at dksX8_goStroke_0 14 rfl rfl)
theorem dX8_goStroke_17 : decode cX8_goStroke 17 = .ok (.iload_n 1, 1) := dk_27 (dk_at dksX8_goStroke_0 17 rfl rfl)
theorem dX8_goStroke_18 : decode cX8_goStroke 18 = .ok (.iaload, 1) := dk_46 (dk_at dksX8_goStroke_0 18 rfl rfl)
theorem dX8_goStroke_19 : decode cX8_goStroke 19 = .ok (.aload_n 0, 1) := dk_42 (dk_at dksX8_goStroke_0 19 rfl rfl)
theorem dX8_goStroke_20 : decode cX8_goStroke 20 = .ok (.getfield 87, 3) := dk_180 0 87 (dk_at dksX8_goStroke_0 20 rfl rfl)
theorem dX8_goStroke_23 : decode cX8_goStroke 23 = .ok (.iconst 4, 1) := dk_7 (dk_at dksX8_goStroke_0 23 rfl rfl)
theorem dX8_goStroke_24 : decode cX8_goStroke 24 = .ok (.iload_n 1, 1) := dk_27 (dk_at dksX8_goStroke_1 0 rfl rfl)
theorem dX8_goStroke_25 : decode cX8_goStroke 25 = .ok (.iadd, 1) := dk_96 (dk_at dksX8_goStroke_1 1 rfl rfl)
theorem dX8_goStroke_26 : decode cX8_goStroke 26 = .ok (.iaload, 1) := dk_46 (dk_at dksX8_goStroke_1 2 rfl rfl)
theorem dX8_goStroke_27 : decode cX8_goStroke 27 = .ok (.iload_n 2, 1) := dk_28 (dk_at dksX8_goStroke_1 3 rfl rfl)
theorem dX8_goStroke_28 : decode cX8_goStroke 28 = .ok (.iload 4, 2) := dk_21 4 (dk_at dksX8_goStroke_1 4 rfl rfl)
theorem dX8_goStroke_30 : decode cX8_goStroke 30 = .ok (.invokevirtual 433, 3) := dk_182 1 177 (dk_at dksX8_goStroke_1 6 rfl rfl)
theorem dX8_goStroke_33 : decode cX8_goStroke 33 = .ok (.istore 6, 2) := dk_54 6 (dk_at dksX8_goStroke_1 9 rfl rfl)
theorem dX8_goStroke_35 : decode cX8_goStroke 35 = .ok (.aload_n 0, 1) := dk_42 (dk_at dksX8_goStroke_1 11 rfl rfl)
theorem dX8_goStroke_36 : decode cX8_goStroke 36 = .ok (.getfield 87, 3) := dk_180 0 87 (dk_at dksX8_goStroke_1 12 rfl rfl)
theorem dX8_goStroke_39 : decode cX8_goStroke 39 = .ok (.bipush 8, 2) := dk_16 8 (dk_at dksX8_goStroke_1 15 rfl rfl)
theorem dX8_goStroke_41 : decode cX8_goStroke 41 = .ok (.iload_n 1, 1) := dk_27 (dk_at dksX8_goStroke_1 17 rfl rfl)
theorem dX8_goStroke_42 : decode cX8_goStroke 42 = .ok (.iadd, 1) := dk_96 (dk_at dksX8_goStroke_1 18 rfl rfl)
theorem dX8_goStroke_43 : decode cX8_goStroke 43 = .ok (.iaload, 1) := dk_46 (dk_at dksX8_goStroke_1 19 rfl rfl)
theorem dX8_goStroke_44 : decode cX8_goStroke 44 = .ok (.aload_n 0, 1) := dk_42 (dk_at dksX8_goStroke_1 20 rfl rfl)
theorem dX8_goStroke_45 : decode cX8_goStroke 45 = .ok (.iload_n 1, 1) := dk_27 (dk_at dksX8_goStroke_1 21 rfl rfl)
theorem dX8_goStroke_46 : decode cX8_goStroke 46 = .ok (.invokevirtual 437, 3) := dk_182 1 181 (dk_at dksX8_goStroke_2 0 rfl rfl)
theorem dX8_goStroke_49 : decode cX8_goStroke 49 = .ok (.iadd, 1) := dk_96 (dk_at dksX8_goStroke_2 3 rfl rfl)
theorem dX8_goStroke_50 : decode cX8_goStroke 50 = .ok (.istore 7, 2) := dk_54 7 (dk_at dksX8_goStroke_2 4 rfl rfl)
theorem dX8_goStroke_52 : decode cX8_goStroke 52 = .ok (.aload_n 0, 1) := dk_42 (dk_at dksX8_goStroke_2 6 rfl rfl)
theorem dX8_goStroke_53 : decode cX8_goStroke 53 = .ok (.iload 6, 2) := dk_21 6 (dk_at dksX8_goStroke_2 7 rfl rfl)
theorem dX8_goStroke_55 : decode cX8_goStroke 55 = .ok (.iload 5, 2) := dk_21 5 (dk_at dksX8_goStroke_2 9 rfl rfl)
theorem dX8_goStroke_57 : decode cX8_goStroke 57 = .ok (.invokevirtual 440, 3) := dk_182 1 184 (dk_at dksX8_goStroke_2 11 rfl rfl)
theorem dX8_goStroke_60 : decode cX8_goStroke 60 = .ok (.istore 8, 2) := dk_54 8 (dk_at dksX8_goStroke_2 14 rfl rfl)
theorem dX8_goStroke_62 : decode cX8_goStroke 62 = .ok (.iload 8, 2) := dk_21 8 (dk_at dksX8_goStroke_2 16 rfl rfl)
theorem dX8_goStroke_64 : decode cX8_goStroke 64 = .ok (.ifCond .ne 21, 3) := dk_154 0 21 (dk_at dksX8_goStroke_2 18 rfl rfl)
theorem dX8_goStroke_67 : decode cX8_goStroke 67 = .ok (.aload_n 0, 1) := dk_42 (dk_at dksX8_goStroke_2 21 rfl rfl)
theorem dX8_goStroke_68 : decode cX8_goStroke 68 = .ok (.getfield 87, 3) := dk_180 0 87 (dk_at dksX8_goStroke_3 0 rfl rfl)
theorem dX8_goStroke_71 : decode cX8_goStroke 71 = .ok (.iload_n 1, 1) := dk_27 (dk_at dksX8_goStroke_3 3 rfl rfl)
theorem dX8_goStroke_72 : decode cX8_goStroke 72 = .ok (.iload 6, 2) := dk_21 6 (dk_at dksX8_goStroke_3 4 rfl rfl)
theorem dX8_goStroke_74 : decode cX8_goStroke 74 = .ok (.iastore, 1) := dk_79 (dk_at dksX8_goStroke_3 6 rfl rfl)
theorem dX8_goStroke_75 : decode cX8_goStroke 75 = .ok (.aload_n 0, 1) := dk_42 (dk_at dksX8_goStroke_3 7 rfl rfl)
theorem dX8_goStroke_76 : decode cX8_goStroke 76 = .ok (.getfield 87, 3) := dk_180 0 87 (dk_at dksX8_goStroke_3 8 rfl rfl)
theorem dX8_goStroke_79 : decode cX8_goStroke 79 = .ok (.iconst 4, 1) := dk_7 (dk_at dksX8_goStroke_3 11 rfl rfl)
theorem dX8_goStroke_80 : decode cX8_goStroke 80 = .ok (.iload_n 1, 1) := dk_27 (dk_at dksX8_goStroke_3 12 rfl rfl)
theorem dX8_goStroke_81 : decode cX8_goStroke 81 = .ok (.iadd, 1) := dk_96 (dk_at dksX8_goStroke_3 13 rfl rfl)
theorem dX8_goStroke_82 : decode cX8_goStroke 82 = .ok (.iload 5, 2) := dk_21 5 (dk_at dksX8_goStroke_3 14 rfl rfl)
theorem dX8_goStroke_84 : decode cX8_goStroke 84 = .ok (.iastore, 1) := dk_79 (dk_at dksX8_goStroke_3 16 rfl rfl)
theorem dX8_goStroke_85 : decode cX8_goStroke 85 = .ok (.aload_n 0, 1) := dk_42 (dk_at dksX8_goStroke_3 17 rfl rfl)
theorem dX8_goStroke_86 : decode cX8_goStroke 86 = .ok (.getfield 87, 3) := dk_180 0 87 (dk_at dksX8_goStroke_3 18 rfl rfl)
theorem dX8_goStroke_89 : decode cX8_goStroke 89 = .ok (.bipush 16, 2) := dk_16 16 (dk_at dksX8_goStroke_3 21 rfl rfl)
theorem dX8_goStroke_91 : decode cX8_goStroke 91 = .ok (.iload_n 1, 1) := dk_27 (dk_at dksX8_goStroke_3 23 rfl rfl)
theorem dX8_goStroke_92 : decode cX8_goStroke 92 = .ok (.iadd, 1) := dk_96 (dk_at dksX8_goStroke_4 0 rfl rfl)
theorem dX8_goStroke_93 : decode cX8_goStroke 93 = .ok (.dup2, 1) := dk_92 (dk_at dksX8_goStroke_4 1 rfl rfl)
theorem dX8_goStroke_94 : decode cX8_goStroke 94 = .ok (.iaload, 1) := dk_46 (dk_at dksX8_goStroke_4 2 rfl rfl)
theorem dX8_goStroke_95 : decode cX8_goStroke 95 = .ok (.iconst 1, 1) := dk_4 (dk_at dksX8_goStroke_4 3 rfl rfl)
theorem dX8_goStroke_96 : decode cX8_goStroke 96 = .ok (.iadd, 1) := dk_96 (dk_at dksX8_goStroke_4 4 rfl rfl)
theorem dX8_goStroke_97 : decode cX8_goStroke 97 = .ok (.iastore, 1) := dk_79 (dk_at dksX8_goStroke_4 5 rfl rfl)
theorem dX8_goStroke_98 : decode cX8_goStroke 98 = .ok (.iload 7, 2) := dk_21 7 (dk_at dksX8_goStroke_4 6 rfl rfl)
theorem dX8_goStroke_100 : decode cX8_goStroke 100 = .ok (.bipush 99, 2) := dk_16 99 (dk_at dksX8_goStroke_4 8 rfl rfl)
theorem dX8_goStroke_102 : decode cX8_goStroke 102 = .ok (.if_icmp .le 8, 3) := dk_164 0 8 (dk_at dksX8_goStroke_4 10 rfl rfl)
theorem dX8_goStroke_105 : decode cX8_goStroke 105 = .ok (.bipush 99, 2) := dk_16 99 (dk_at dksX8_goStroke_4 13 rfl rfl)
theorem dX8_goStroke_107 : decode cX8_goStroke 107 = .ok (.goto 5, 3) := dk_167 0 5 (dk_at dksX8_goStroke_4 15 rfl rfl)
theorem dX8_goStroke_110 : decode cX8_goStroke 110 = .ok (.iload 7, 2) := dk_21 7 (dk_at dksX8_goStroke_4 18 rfl rfl)
theorem dX8_goStroke_112 : decode cX8_goStroke 112 = .ok (.istore 7, 2) := dk_54 7 (dk_at dksX8_goStroke_4 20 rfl rfl)
theorem dX8_goStroke_114 : decode cX8_goStroke 114 = .ok (.iload 7, 2) := dk_21 7 (dk_at dksX8_goStroke_4 22 rfl rfl)
theorem dX8_goStroke_116 : decode cX8_goStroke 116 = .ok (.aload_n 0, 1) := dk_42 (dk_at dksX8_goStroke_5 0 rfl rfl)
theorem dX8_goStroke_117 : decode cX8_goStroke 117 = .ok (.getfield 72, 3) := dk_180 0 72 (dk_at dksX8_goStroke_5 1 rfl rfl)
theorem dX8_goStroke_120 : decode cX8_goStroke 120 = .ok (.iload_n 1, 1) := dk_27 (dk_at dksX8_goStroke_5 4 rfl rfl)
theorem dX8_goStroke_121 : decode cX8_goStroke 121 = .ok (.iaload, 1) := dk_46 (dk_at dksX8_goStroke_5 5 rfl rfl)
theorem dX8_goStroke_122 : decode cX8_goStroke 122 = .ok (.if_icmp .le 7, 3) := dk_164 0 7 (dk_at dksX8_goStroke_5 6 rfl rfl)
theorem dX8_goStroke_125 : decode cX8_goStroke 125 = .ok (.iconst 1, 1) := dk_4 (dk_at dksX8_goStroke_5 9 rfl rfl)
theorem dX8_goStroke_126 : decode cX8_goStroke 126 = .ok (.goto 4, 3) := dk_167 0 4 (dk_at dksX8_goStroke_5 10 rfl rfl)
theorem dX8_goStroke_129 : decode cX8_goStroke 129 = .ok (.iconst 0, 1) := dk_3 (dk_at dksX8_goStroke_5 13 rfl rfl)
theorem dX8_goStroke_130 : decode cX8_goStroke 130 = .ok (.istore 9, 2) := dk_54 9 (dk_at dksX8_goStroke_5 14 rfl rfl)
theorem dX8_goStroke_132 : decode cX8_goStroke 132 = .ok (.aload_n 0, 1) := dk_42 (dk_at dksX8_goStroke_5 16 rfl rfl)
theorem dX8_goStroke_133 : decode cX8_goStroke 133 = .ok (.getfield 87, 3) := dk_180 0 87 (dk_at dksX8_goStroke_5 17 rfl rfl)
theorem dX8_goStroke_136 : decode cX8_goStroke 136 = .ok (.bipush 8, 2) := dk_16 8 (dk_at dksX8_goStroke_5 20 rfl rfl)
theorem dX8_goStroke_138 : decode cX8_goStroke 138 = .ok (.iload_n 1, 1) := dk_27 (dk_at dksX8_goStroke_5 22 rfl rfl)
theorem dX8_goStroke_139 : decode cX8_goStroke 139 = .ok (.iadd, 1) := dk_96 (dk_at dksX8_goStroke_5 23 rfl rfl)
theorem dX8_goStroke_140 : decode cX8_goStroke 140 = .ok (.iload 9, 2) := dk_21 9 (dk_at dksX8_goStroke_6 0 rfl rfl)
theorem dX8_goStroke_142 : decode cX8_goStroke 142 = .ok (.ifCond .eq 7, 3) := dk_153 0 7 (dk_at dksX8_goStroke_6 2 rfl rfl)
theorem dX8_goStroke_145 : decode cX8_goStroke 145 = .ok (.iconst 0, 1) := dk_3 (dk_at dksX8_goStroke_6 5 rfl rfl)
theorem dX8_goStroke_146 : decode cX8_goStroke 146 = .ok (.goto 5, 3) := dk_167 0 5 (dk_at dksX8_goStroke_6 6 rfl rfl)
theorem dX8_goStroke_149 : decode cX8_goStroke 149 = .ok (.iload 7, 2) := dk_21 7 (dk_at dksX8_goStroke_6 9 rfl rfl)
theorem dX8_goStroke_151 : decode cX8_goStroke 151 = .ok (.iastore, 1) := dk_79 (dk_at dksX8_goStroke_6 11 rfl rfl)
theorem dX8_goStroke_152 : decode cX8_goStroke 152 = .ok (.iload 9, 2) := dk_21 9 (dk_at dksX8_goStroke_6 12 rfl rfl)
theorem dX8_goStroke_154 : decode cX8_goStroke 154 = .ok (.ifCond .eq 31, 3) := dk_153 0 31 (dk_at dksX8_goStroke_6 14 rfl rfl)
theorem dX8_goStroke_157 : decode cX8_goStroke 157 = .ok (.aload_n 0, 1) := dk_42 (dk_at dksX8_goStroke_6 17 rfl rfl)
theorem dX8_goStroke_158 : decode cX8_goStroke 158 = .ok (.getfield 87, 3) := dk_180 0 87 (dk_at dksX8_goStroke_6 18 rfl rfl)
theorem dX8_goStroke_161 : decode cX8_goStroke 161 = .ok (.bipush 12, 2) := dk_16 12 (dk_at dksX8_goStroke_6 21 rfl rfl)
theorem dX8_goStroke_163 : decode cX8_goStroke 163 = .ok (.iload_n 1, 1) := dk_27 (dk_at dksX8_goStroke_6 23 rfl rfl)
theorem dX8_goStroke_164 : decode cX8_goStroke 164 = .ok (.iadd, 1) := dk_96 (dk_at dksX8_goStroke_7 0 rfl rfl)
theorem dX8_goStroke_165 : decode cX8_goStroke 165 = .ok (.iaload, 1) := dk_46 (dk_at dksX8_goStroke_7 1 rfl rfl)
theorem dX8_goStroke_166 : decode cX8_goStroke 166 = .ok (.sipush 999, 3) := dk_17 3 231 (dk_at dksX8_goStroke_7 2 rfl rfl)
theorem dX8_goStroke_169 : decode cX8_goStroke 169 = .ok (.if_icmp .ge 16, 3) := dk_162 0 16 (dk_at dksX8_goStroke_7 5 rfl rfl)
theorem dX8_goStroke_172 : decode cX8_goStroke 172 = .ok (.aload_n 0, 1) := dk_42 (dk_at dksX8_goStroke_7 8 rfl rfl)
theorem dX8_goStroke_173 : decode cX8_goStroke 173 = .ok (.getfield 87, 3) := dk_180 0 87 (dk_at dksX8_goStroke_7 9 rfl rfl)
theorem dX8_goStroke_176 : decode cX8_goStroke 176 = .ok (.bipush 12, 2) := dk_16 12 (dk_at dksX8_goStroke_7 12 rfl rfl)
theorem dX8_goStroke_178 : decode cX8_goStroke 178 = .ok (.iload_n 1, 1) := dk_27 (dk_at dksX8_goStroke_7 14 rfl rfl)
theorem dX8_goStroke_179 : decode cX8_goStroke 179 = .ok (.iadd, 1) := dk_96 (dk_at dksX8_goStroke_7 15 rfl rfl)
theorem dX8_goStroke_180 : decode cX8_goStroke 180 = .ok (.dup2, 1) := dk_92 (dk_at dksX8_goStroke_7 16 rfl rfl)
theorem dX8_goStroke_181 : decode cX8_goStroke 181 = .ok (.iaload, 1) := dk_46 (dk_at dksX8_goStroke_7 17 rfl rfl)
theorem dX8_goStroke_182 : decode cX8_goStroke 182 = .ok (.iconst 1, 1) := dk_4 (dk_at dksX8_goStroke_7 18 rfl rfl)
theorem dX8_goStroke_183 : decode cX8_goStroke 183 = .ok (.iadd, 1) := dk_96 (dk_at dksX8_goStroke_7 19 rfl rfl)
theorem dX8_goStroke_184 : decode cX8_goStroke 184 = .ok (.iastore, 1) := dk_79 (dk_at dksX8_goStroke_7 20 rfl rfl)
theorem dX8_goStroke_185 : decode cX8_goStroke 185 = .ok (.iload 8, 2) := dk_21 8 (dk_at dksX8_goStroke_7 21 rfl rfl)
theorem dX8_goStroke_187 : decode cX8_goStroke 187 = .ok (.invokestatic 317, 3) := dk_184 1 61 (dk_at dksX8_goStroke_8 0 rfl rfl)
theorem dX8_goStroke_190 : decode cX8_goStroke 190 = .ok (.iconst 2, 1) := dk_5 (dk_at dksX8_goStroke_8 3 rfl rfl)
theorem dX8_goStroke_191 : decode cX8_goStroke 191 = .ok (.iload 9, 2) := dk_21 9 (dk_at dksX8_goStroke_8 4 rfl rfl)
theorem dX8_goStroke_193 : decode cX8_goStroke 193 = .ok (.invokestatic 317, 3) := dk_184 1 61 (dk_at dksX8_goStroke_8 6 rfl rfl)
theorem dX8_goStroke_196 : decode cX8_goStroke 196 = .ok (.imul, 1) := dk_104 (dk_at dksX8_goStroke_8 9 rfl rfl)
theorem dX8_goStroke_197 : decode cX8_goStroke 197 = .ok (.iadd, 1) := dk_96 (dk_at dksX8_goStroke_8 10 rfl rfl)
theorem dX8_goStroke_198 : decode cX8_goStroke 198 = .ok (.ireturn, 1) := dk_172 (dk_at dksX8_goStroke_8 11 rfl rfl)
abbrev cX8_columnBy : ByteArray := prog_20_method_54_code
def yX8_columnBy : MethodName := ⟨RX8, "columnBy", "(IIII)I"⟩
def dkwX8_columnBy_0 : List UInt8 := [27, 29, 96, 21, 4, 42, 27, 28, 182, 1, 174, 104, 96, 42, 180, 0, 78, 4, 100, 184, 1, 78, 172]
abbrev dktX8_columnBy_0 : List UInt8 := dkwX8_columnBy_0 ++ []
theorem dksX8_columnBy_0 : cX8_columnBy.data.toList.drop 0 = dktX8_columnBy_0 := by decide +kernel
theorem dX8_columnBy_0 : decode cX8_columnBy 0 = .ok (.iload_n 1, 1) := dk_27 (dk_at dksX8_columnBy_0 0 rfl rfl)
theorem dX8_columnBy_1 : decode cX8_columnBy 1 = .ok (.iload_n 3, 1) := dk_29 (dk_at dksX8_columnBy_0 1 rfl rfl)
theorem dX8_columnBy_2 : decode cX8_columnBy 2 = .ok (.iadd, 1) := dk_96 (dk_at dksX8_columnBy_0 2 rfl rfl)
theorem dX8_columnBy_3 : decode cX8_columnBy 3 = .ok (.iload 4, 2) := dk_21 4 (dk_at dksX8_columnBy_0 3 rfl rfl)
theorem dX8_columnBy_5 : decode cX8_columnBy 5 = .ok (.aload_n 0, 1) := dk_42 (dk_at dksX8_columnBy_0 5 rfl rfl)
theorem dX8_columnBy_6 : decode cX8_columnBy 6 = .ok (.iload_n 1, 1) := dk_27 (dk_at dksX8_columnBy_0 6 rfl rfl)
theorem dX8_columnBy_7 : decode cX8_columnBy 7 = .ok (.iload_n 2, 1) := dk_28 (dk_at dksX8_columnBy_0 7 rfl rfl)
theorem dX8_columnBy_8 : decode cX8_columnBy 8 = .ok (.invokevirtual 430, 3) := dk_182 1 174 (dk_at dksX8_columnBy_0 8 rfl rfl)
theorem dX8_columnBy_11 : decode cX8_columnBy 11 = .ok (.imul, 1) := dk_104 (dk_at dksX8_columnBy_0 11 rfl rfl)
theorem dX8_columnBy_12 : decode cX8_columnBy 12 = .ok (.iadd, 1) := dk_96 (dk_at dksX8_columnBy_0 12 rfl rfl)
theorem dX8_columnBy_13 : decode cX8_columnBy 13 = .ok (.aload_n 0, 1) := dk_42 (dk_at dksX8_columnBy_0 13 rfl rfl)
theorem dX8_columnBy_14 : decode cX8_columnBy 14 = .ok (.getfield 78, 3) := dk_180 0 78 (dk_at dksX8_columnBy_0 14 rfl rfl)
theorem dX8_columnBy_17 : decode cX8_columnBy 17 = .ok (.iconst 1, 1) := dk_4 (dk_at dksX8_columnBy_0 17 rfl rfl)
theorem dX8_columnBy_18 : decode cX8_columnBy 18 = .ok (.isub, 1) := dk_100 (dk_at dksX8_columnBy_0 18 rfl rfl)
theorem dX8_columnBy_19 : decode cX8_columnBy 19 = .ok (.invokestatic 334, 3) := dk_184 1 78 (dk_at dksX8_columnBy_0 19 rfl rfl)
theorem dX8_columnBy_22 : decode cX8_columnBy 22 = .ok (.ireturn, 1) := dk_172 (dk_at dksX8_columnBy_0 22 rfl rfl)
abbrev cX8_keepAir : ByteArray := prog_20_method_52_code
def yX8_keepAir : MethodName := ⟨RX8, "keepAi\x72", "()V"⟩
def dkwX8_keepAir_1 : List UInt8 := [167, 255, 235, 177]
abbrev dktX8_keepAir_1 : List UInt8 := dkwX8_keepAir_1 ++ []
def dkwX8_keepAir_0 : List UInt8 := [3, 60, 27, 16, 28, 162, 0, 21, 42, 180, 0, 84, 27, 42, 180, 0, 87, 27, 46, 79, 132, 1, 1]
abbrev dktX8_keepAir_0 : List UInt8 := dkwX8_keepAir_0 ++ dktX8_keepAir_1
theorem dksX8_keepAir_0 : cX8_keepAir.data.toList.drop 0 = dktX8_keepAir_0 := by decide +kernel
theorem dksX8_keepAir_1 : cX8_keepAir.data.toList.drop 23 = dktX8_keepAir_1 := dk_seg dksX8_keepAir_0 23 rfl rfl
theorem dX8_keepAir_0 : decode cX8_keepAir 0 = .ok (.iconst 0, 1) := dk_3 (dk_at dksX8_keepAir_0 0 rfl rfl)
theorem dX8_keepAir_1 : decode cX8_keepAir 1 = .ok (.istore_n 1, 1) := dk_60 (dk_at dksX8_keepAir_0 1 rfl rfl)
theorem dX8_keepAir_2 : decode cX8_keepAir 2 = .ok (.iload_n 1, 1) := dk_27 (dk_at dksX8_keepAir_0 2 rfl rfl)
theorem dX8_keepAir_3 : decode cX8_keepAir 3 = .ok (.bipush 28, 2) := dk_16 28 (dk_at dksX8_keepAir_0 3 rfl rfl)
theorem dX8_keepAir_5 : decode cX8_keepAir 5 = .ok (.if_icmp .ge 21, 3) := dk_162 0 21 (dk_at dksX8_keepAir_0 5 rfl rfl)
theorem dX8_keepAir_8 : decode cX8_keepAir 8 = .ok (.aload_n 0, 1) := dk_42 (dk_at dksX8_keepAir_0 8 rfl rfl)
theorem dX8_keepAir_9 : decode cX8_keepAir 9 = .ok (.getfield 84, 3) := dk_180 0 84 (dk_at dksX8_keepAir_0 9 rfl rfl)
theorem dX8_keepAir_12 : decode cX8_keepAir 12 = .ok (.iload_n 1, 1) := dk_27 (dk_at dksX8_keepAir_0 12 rfl rfl)
theorem dX8_keepAir_13 : decode cX8_keepAir 13 = .ok (.aload_n 0, 1) := dk_42 (dk_at dksX8_keepAir_0 13 rfl rfl)
theorem dX8_keepAir_14 : decode cX8_keepAir 14 = .ok (.getfield 87, 3) := dk_180 0 87 (dk_at dksX8_keepAir_0 14 rfl rfl)
theorem dX8_keepAir_17 : decode cX8_keepAir 17 = .ok (.iload_n 1, 1) := dk_27 (dk_at dksX8_keepAir_0 17 rfl rfl)
theorem dX8_keepAir_18 : decode cX8_keepAir 18 = .ok (.iaload, 1) := dk_46 (dk_at dksX8_keepAir_0 18 rfl rfl)
theorem dX8_keepAir_19 : decode cX8_keepAir 19 = .ok (.iastore, 1) := dk_79 (dk_at dksX8_keepAir_0 19 rfl rfl)
theorem dX8_keepAir_20 : decode cX8_keepAir 20 = .ok (.iinc 1 1, 3) := dk_132 1 1 (dk_at dksX8_keepAir_0 20 rfl rfl)
theorem dX8_keepAir_23 : decode cX8_keepAir 23 = .ok (.goto (-21), 3) := dk_167 255 235 (dk_at dksX8_keepAir_1 0 rfl rfl)
theorem dX8_keepAir_26 : decode cX8_keepAir 26 = .ok (.return_, 1) := dk_177 (dk_at dksX8_keepAir_1 3 rfl rfl)
abbrev cX8_stow : ByteArray := prog_20_method_67_code
def yX8_stow : MethodName := ⟨RX8, "stow", "(II)I"⟩
def dkwX8_stow_4 : List UInt8 := [28, 182, 1, 68, 172]
abbrev dktX8_stow_4 : List UInt8 := dkwX8_stow_4 ++ []
def dkwX8_stow_3 : List UInt8 := [164, 0, 5, 2, 172, 42, 182, 1, 200, 42, 180, 0, 87, 16, 20, 27, 96, 28, 79, 42, 182, 1, 206, 42]
abbrev dktX8_stow_3 : List UInt8 := dkwX8_stow_3 ++ dktX8_stow_4
def dkwX8_stow_2 : List UInt8 := [182, 1, 212, 160, 0, 24, 42, 28, 182, 1, 68, 42, 180, 0, 75, 27, 46, 96, 42, 180, 0, 66, 28, 46]
abbrev dktX8_stow_2 : List UInt8 := dkwX8_stow_2 ++ dktX8_stow_3
def dkwX8_stow_1 : List UInt8 := [182, 1, 209, 153, 0, 48, 42, 180, 0, 84, 16, 20, 27, 96, 46, 42, 42, 180, 0, 84, 7, 28, 96, 46]
abbrev dktX8_stow_1 : List UInt8 := dkwX8_stow_1 ++ dktX8_stow_2
def dkwX8_stow_0 : List UInt8 := [42, 182, 1, 191, 42, 27, 182, 1, 197, 153, 0, 64, 42, 28, 182, 1, 188, 153, 0, 56, 42, 28]
abbrev dktX8_stow_0 : List UInt8 := dkwX8_stow_0 ++ dktX8_stow_1
theorem dksX8_stow_0 : cX8_stow.data.toList.drop 0 = dktX8_stow_0 := by decide +kernel
theorem dksX8_stow_1 : cX8_stow.data.toList.drop 22 = dktX8_stow_1 := dk_seg dksX8_stow_0 22 rfl rfl
theorem dksX8_stow_2 : cX8_stow.data.toList.drop 46 = dktX8_stow_2 := dk_seg dksX8_stow_1 24 rfl rfl
theorem dksX8_stow_3 : cX8_stow.data.toList.drop 70 = dktX8_stow_3 := dk_seg dksX8_stow_2 24 rfl rfl
theorem dksX8_stow_4 : cX8_stow.data.toList.drop 94 = dktX8_stow_4 := dk_seg dksX8_stow_3 24 rfl rfl
theorem dX8_stow_0 : decode cX8_stow 0 = .ok (.aload_n 0, 1) := dk_42 (dk_at dksX8_stow_0 0 rfl rfl)
theorem dX8_stow_1 : decode cX8_stow 1 = .ok (.invokevirtual 447, 3) := dk_182 1 191 (dk_at dksX8_stow_0 1 rfl rfl)
theorem dX8_stow_4 : decode cX8_stow 4 = .ok (.aload_n 0, 1) := dk_42 (dk_at dksX8_stow_0 4 rfl rfl)
theorem dX8_stow_5 : decode cX8_stow 5 = .ok (.iload_n 1, 1) := dk_27 (dk_at dksX8_stow_0 5 rfl rfl)
theorem dX8_stow_6 : decode cX8_stow 6 = .ok (.invokevirtual 453, 3) := dk_182 1 197 (dk_at dksX8_stow_0 6 rfl rfl)
theorem dX8_stow_9 : decode cX8_stow 9 = .ok (.ifCond .eq 64, 3) := dk_153 0 64 (dk_at dksX8_stow_0 9 rfl rfl)
theorem dX8_stow_12 : decode cX8_stow 12 = .ok (.aload_n 0, 1) := dk_42 (dk_at dksX8_stow_0 12 rfl rfl)
theorem dX8_stow_13 : decode cX8_stow 13 = .ok (.iload_n 2, 1) := dk_28 (dk_at dksX8_stow_0 13 rfl rfl)
theorem dX8_stow_14 : decode cX8_stow 14 = .ok (.invokevirtual 444, 3) := dk_182 1 188 (dk_at dksX8_stow_0 14 rfl rfl)
theorem dX8_stow_17 : decode cX8_stow 17 = .ok (.ifCond .eq 56, 3) := dk_153 0 56 (dk_at dksX8_stow_0 17 rfl rfl)
theorem dX8_stow_20 : decode cX8_stow 20 = .ok (.aload_n 0, 1) := dk_42 (dk_at dksX8_stow_0 20 rfl rfl)
theorem dX8_stow_21 : decode cX8_stow 21 = .ok (.iload_n 2, 1) := dk_28 (dk_at dksX8_stow_0 21 rfl rfl)
theorem dX8_stow_22 : decode cX8_stow 22 = .ok (.invokevirtual 465, 3) := dk_182 1 209 (dk_at dksX8_stow_1 0 rfl rfl)
theorem dX8_stow_25 : decode cX8_stow 25 = .ok (.ifCond .eq 48, 3) := dk_153 0 48 (dk_at dksX8_stow_1 3 rfl rfl)
theorem dX8_stow_28 : decode cX8_stow 28 = .ok (.aload_n 0, 1) := dk_42 (dk_at dksX8_stow_1 6 rfl rfl)
theorem dX8_stow_29 : decode cX8_stow 29 = .ok (.getfield 84, 3) := dk_180 0 84 (dk_at dksX8_stow_1 7 rfl rfl)
theorem dX8_stow_32 : decode cX8_stow 32 = .ok (.bipush 20, 2) := dk_16 20 (dk_at dksX8_stow_1 10 rfl rfl)
theorem dX8_stow_34 : decode cX8_stow 34 = .ok (.iload_n 1, 1) := dk_27 (dk_at dksX8_stow_1 12 rfl rfl)
theorem dX8_stow_35 : decode cX8_stow 35 = .ok (.iadd, 1) := dk_96 (dk_at dksX8_stow_1 13 rfl rfl)
theorem dX8_stow_36 : decode cX8_stow 36 = .ok (.iaload, 1) := dk_46 (dk_at dksX8_stow_1 14 rfl rfl)
theorem dX8_stow_37 : decode cX8_stow 37 = .ok (.aload_n 0, 1) := dk_42 (dk_at dksX8_stow_1 15 rfl rfl)
theorem dX8_stow_38 : decode cX8_stow 38 = .ok (.aload_n 0, 1) := dk_42 (dk_at dksX8_stow_1 16 rfl rfl)
theorem dX8_stow_39 : decode cX8_stow 39 = .ok (.getfield 84, 3) := dk_180 0 84 (dk_at dksX8_stow_1 17 rfl rfl)
theorem dX8_stow_42 : decode cX8_stow 42 = .ok (.iconst 4, 1) := dk_7 (dk_at dksX8_stow_1 20 rfl rfl)
theorem dX8_stow_43 : decode cX8_stow 43 = .ok (.iload_n 2, 1) := dk_28 (dk_at dksX8_stow_1 21 rfl rfl)
theorem dX8_stow_44 : decode cX8_stow 44 = .ok (.iadd, 1) := dk_96 (dk_at dksX8_stow_1 22 rfl rfl)
theorem dX8_stow_45 : decode cX8_stow 45 = .ok (.iaload, 1) := dk_46 (dk_at dksX8_stow_1 23 rfl rfl)
theorem dX8_stow_46 : decode cX8_stow 46 = .ok (.invokevirtual 468, 3) := dk_182 1 212 (dk_at dksX8_stow_2 0 rfl rfl)
theorem dX8_stow_49 : decode cX8_stow 49 = .ok (.if_icmp .ne 24, 3) := dk_160 0 24 (dk_at dksX8_stow_2 3 rfl rfl)
theorem dX8_stow_52 : decode cX8_stow 52 = .ok (.aload_n 0, 1) := dk_42 (dk_at dksX8_stow_2 6 rfl rfl)
theorem dX8_stow_53 : decode cX8_stow 53 = .ok (.iload_n 2, 1) := dk_28 (dk_at dksX8_stow_2 7 rfl rfl)
theorem dX8_stow_54 : decode cX8_stow 54 = .ok (.invokevirtual 324, 3) := dk_182 1 68 (dk_at dksX8_stow_2 8 rfl rfl)
theorem dX8_stow_57 : decode cX8_stow 57 = .ok (.aload_n 0, 1) := dk_42 (dk_at dksX8_stow_2 11 rfl rfl)
theorem dX8_stow_58 : decode cX8_stow 58 = .ok (.getfield 75, 3) := dk_180 0 75 (dk_at dksX8_stow_2 12 rfl rfl)
theorem dX8_stow_61 : decode cX8_stow 61 = .ok (.iload_n 1, 1) := dk_27 (dk_at dksX8_stow_2 15 rfl rfl)
theorem dX8_stow_62 : decode cX8_stow 62 = .ok (.iaload, 1) := dk_46 (dk_at dksX8_stow_2 16 rfl rfl)
theorem dX8_stow_63 : decode cX8_stow 63 = .ok (.iadd, 1) := dk_96 (dk_at dksX8_stow_2 17 rfl rfl)
theorem dX8_stow_64 : decode cX8_stow 64 = .ok (.aload_n 0, 1) := dk_42 (dk_at dksX8_stow_2 18 rfl rfl)
theorem dX8_stow_65 : decode cX8_stow 65 = .ok (.getfield 66, 3) := dk_180 0 66 (dk_at dksX8_stow_2 19 rfl rfl)
theorem dX8_stow_68 : decode cX8_stow 68 = .ok (.iload_n 2, 1) := dk_28 (dk_at dksX8_stow_2 22 rfl rfl)
theorem dX8_stow_69 : decode cX8_stow 69 = .ok (.iaload, 1) := dk_46 (dk_at dksX8_stow_2 23 rfl rfl)
theorem dX8_stow_70 : decode cX8_stow 70 = .ok (.if_icmp .le 5, 3) := dk_164 0 5 (dk_at dksX8_stow_3 0 rfl rfl)
theorem dX8_stow_73 : decode cX8_stow 73 = .ok (.iconst (-1), 1) := dk_2 (dk_at dksX8_stow_3 3 rfl rfl)
theorem dX8_stow_74 : decode cX8_stow 74 = .ok (.ireturn, 1) := dk_172 (dk_at dksX8_stow_3 4 rfl rfl)
theorem dX8_stow_75 : decode cX8_stow 75 = .ok (.aload_n 0, 1) := dk_42 (dk_at dksX8_stow_3 5 rfl rfl)
theorem dX8_stow_76 : decode cX8_stow 76 = .ok (.invokevirtual 456, 3) := dk_182 1 200 (dk_at dksX8_stow_3 6 rfl rfl)
theorem dX8_stow_79 : decode cX8_stow 79 = .ok (.aload_n 0, 1) := dk_42 (dk_at dksX8_stow_3 9 rfl rfl)
theorem dX8_stow_80 : decode cX8_stow 80 = .ok (.getfield 87, 3) := dk_180 0 87 (dk_at dksX8_stow_3 10 rfl rfl)
theorem dX8_stow_83 : decode cX8_stow 83 = .ok (.bipush 20, 2) := dk_16 20 (dk_at dksX8_stow_3 13 rfl rfl)
theorem dX8_stow_85 : decode cX8_stow 85 = .ok (.iload_n 1, 1) := dk_27 (dk_at dksX8_stow_3 15 rfl rfl)
theorem dX8_stow_86 : decode cX8_stow 86 = .ok (.iadd, 1) := dk_96 (dk_at dksX8_stow_3 16 rfl rfl)
theorem dX8_stow_87 : decode cX8_stow 87 = .ok (.iload_n 2, 1) := dk_28 (dk_at dksX8_stow_3 17 rfl rfl)
theorem dX8_stow_88 : decode cX8_stow 88 = .ok (.iastore, 1) := dk_79 (dk_at dksX8_stow_3 18 rfl rfl)
theorem dX8_stow_89 : decode cX8_stow 89 = .ok (.aload_n 0, 1) := dk_42 (dk_at dksX8_stow_3 19 rfl rfl)
theorem dX8_stow_90 : decode cX8_stow 90 = .ok (.invokevirtual 462, 3) := dk_182 1 206 (dk_at dksX8_stow_3 20 rfl rfl)
theorem dX8_stow_93 : decode cX8_stow 93 = .ok (.aload_n 0, 1) := dk_42 (dk_at dksX8_stow_3 23 rfl rfl)
theorem dX8_stow_94 : decode cX8_stow 94 = .ok (.iload_n 2, 1) := dk_28 (dk_at dksX8_stow_4 0 rfl rfl)
theorem dX8_stow_95 : decode cX8_stow 95 = .ok (.invokevirtual 324, 3) := dk_182 1 68 (dk_at dksX8_stow_4 1 rfl rfl)
theorem dX8_stow_98 : decode cX8_stow 98 = .ok (.ireturn, 1) := dk_172 (dk_at dksX8_stow_4 4 rfl rfl)
abbrev cX8_isAtBank : ByteArray := prog_20_method_65_code
def yX8_isAtBank : MethodName := ⟨RX8, "isAtBank", "(I)Z"⟩
def dkwX8_isAtBank_1 : List UInt8 := [160, 0, 7, 4, 167, 0, 4, 3, 172]
abbrev dktX8_isAtBank_1 : List UInt8 := dkwX8_isAtBank_1 ++ []
def dkwX8_isAtBank_0 : List UInt8 := [42, 180, 0, 84, 7, 27, 96, 46, 153, 0, 18, 42, 180, 0, 84, 7, 27, 96, 46, 42, 180, 0, 81]
abbrev dktX8_isAtBank_0 : List UInt8 := dkwX8_isAtBank_0 ++ dktX8_isAtBank_1
theorem dksX8_isAtBank_0 : cX8_isAtBank.data.toList.drop 0 = dktX8_isAtBank_0 := by decide +kernel
theorem dksX8_isAtBank_1 : cX8_isAtBank.data.toList.drop 23 = dktX8_isAtBank_1 := dk_seg dksX8_isAtBank_0 23 rfl rfl
theorem dX8_isAtBank_0 : decode cX8_isAtBank 0 = .ok (.aload_n 0, 1) := dk_42 (dk_at dksX8_isAtBank_0 0 rfl rfl)
theorem dX8_isAtBank_1 : decode cX8_isAtBank 1 = .ok (.getfield 84, 3) := dk_180 0 84 (dk_at dksX8_isAtBank_0 1 rfl rfl)
theorem dX8_isAtBank_4 : decode cX8_isAtBank 4 = .ok (.iconst 4, 1) := dk_7 (dk_at dksX8_isAtBank_0 4 rfl rfl)
theorem dX8_isAtBank_5 : decode cX8_isAtBank 5 = .ok (.iload_n 1, 1) := dk_27 (dk_at dksX8_isAtBank_0 5 rfl rfl)
theorem dX8_isAtBank_6 : decode cX8_isAtBank 6 = .ok (.iadd, 1) := dk_96 (dk_at dksX8_isAtBank_0 6 rfl rfl)
theorem dX8_isAtBank_7 : decode cX8_isAtBank 7 = .ok (.iaload, 1) := dk_46 (dk_at dksX8_isAtBank_0 7 rfl rfl)
theorem dX8_isAtBank_8 : decode cX8_isAtBank 8 = .ok (.ifCond .eq 18, 3) := dk_153 0 18 (dk_at dksX8_isAtBank_0 8 rfl rfl)
theorem dX8_isAtBank_11 : decode cX8_isAtBank 11 = .ok (.aload_n 0, 1) := dk_42 (dk_at dksX8_isAtBank_0 11 rfl rfl)
theorem dX8_isAtBank_12 : decode cX8_isAtBank 12 = .ok (.getfield 84, 3) := dk_180 0 84 (dk_at dksX8_isAtBank_0 12 rfl rfl)
theorem dX8_isAtBank_15 : decode cX8_isAtBank 15 = .ok (.iconst 4, 1) := dk_7 (dk_at dksX8_isAtBank_0 15 rfl rfl)
theorem dX8_isAtBank_16 : decode cX8_isAtBank 16 = .ok (.iload_n 1, 1) := dk_27 (dk_at dksX8_isAtBank_0 16 rfl rfl)
theorem dX8_isAtBank_17 : decode cX8_isAtBank 17 = .ok (.iadd, 1) := dk_96 (dk_at dksX8_isAtBank_0 17 rfl rfl)
theorem dX8_isAtBank_18 : decode cX8_isAtBank 18 = .ok (.iaload, 1) := dk_46 (dk_at dksX8_isAtBank_0 18 rfl rfl)
theorem dX8_isAtBank_19 : decode cX8_isAtBank 19 = .ok (.aload_n 0, 1) := dk_42 (dk_at dksX8_isAtBank_0 19 rfl rfl)
theorem dX8_isAtBank_20 : decode cX8_isAtBank 20 = .ok (.getfield 81, 3) := dk_180 0 81 (dk_at dksX8_isAtBank_0 20 rfl rfl)
theorem dX8_isAtBank_23 : decode cX8_isAtBank 23 = .ok (.if_icmp .ne 7, 3) := dk_160 0 7 (dk_at dksX8_isAtBank_1 0 rfl rfl)
theorem dX8_isAtBank_26 : decode cX8_isAtBank 26 = .ok (.iconst 1, 1) := dk_4 (dk_at dksX8_isAtBank_1 3 rfl rfl)
theorem dX8_isAtBank_27 : decode cX8_isAtBank 27 = .ok (.goto 4, 3) := dk_167 0 4 (dk_at dksX8_isAtBank_1 4 rfl rfl)
theorem dX8_isAtBank_30 : decode cX8_isAtBank 30 = .ok (.iconst 0, 1) := dk_3 (dk_at dksX8_isAtBank_1 7 rfl rfl)
theorem dX8_isAtBank_31 : decode cX8_isAtBank 31 = .ok (.ireturn, 1) := dk_172 (dk_at dksX8_isAtBank_1 8 rfl rfl)
abbrev cX8_bankOf : ByteArray := prog_20_method_66_code
def yX8_bankOf : MethodName := ⟨RX8, "bankOf", "(I)I"⟩
def dkwX8_bankOf_0 : List UInt8 := [27, 154, 0, 7, 2, 167, 0, 5, 16, 254, 172]
abbrev dktX8_bankOf_0 : List UInt8 := dkwX8_bankOf_0 ++ []
theorem dksX8_bankOf_0 : cX8_bankOf.data.toList.drop 0 = dktX8_bankOf_0 := by decide +kernel
theorem dX8_bankOf_0 : decode cX8_bankOf 0 = .ok (.iload_n 1, 1) := dk_27 (dk_at dksX8_bankOf_0 0 rfl rfl)
theorem dX8_bankOf_1 : decode cX8_bankOf 1 = .ok (.ifCond .ne 7, 3) := dk_154 0 7 (dk_at dksX8_bankOf_0 1 rfl rfl)
theorem dX8_bankOf_4 : decode cX8_bankOf 4 = .ok (.iconst (-1), 1) := dk_2 (dk_at dksX8_bankOf_0 4 rfl rfl)
theorem dX8_bankOf_5 : decode cX8_bankOf 5 = .ok (.goto 5, 3) := dk_167 0 5 (dk_at dksX8_bankOf_0 5 rfl rfl)
theorem dX8_bankOf_8 : decode cX8_bankOf 8 = .ok (.bipush (-2), 2) := dk_16 254 (dk_at dksX8_bankOf_0 8 rfl rfl)
theorem dX8_bankOf_10 : decode cX8_bankOf 10 = .ok (.ireturn, 1) := dk_172 (dk_at dksX8_bankOf_0 10 rfl rfl)
abbrev cX8_take : ByteArray := prog_20_method_68_code
def yX8_take : MethodName := ⟨RX8, "take", "(I)I"⟩
def dkwX8_take_3 : List UInt8 := [182, 1, 212, 79, 28, 172]
abbrev dktX8_take_3 : List UInt8 := dkwX8_take_3 ++ []
def dkwX8_take_2 : List UInt8 := [16, 20, 27, 96, 46, 61, 42, 180, 0, 84, 16, 20, 27, 96, 42, 42, 180, 0, 84, 7, 28, 96, 46]
abbrev dktX8_take_2 : List UInt8 := dkwX8_take_2 ++ dktX8_take_3
def dkwX8_take_1 : List UInt8 := [180, 0, 84, 16, 20, 27, 96, 46, 182, 1, 209, 154, 0, 5, 2, 172, 42, 182, 1, 200, 42, 180, 0, 84]
abbrev dktX8_take_1 : List UInt8 := dkwX8_take_1 ++ dktX8_take_2
def dkwX8_take_0 : List UInt8 := [42, 27, 182, 1, 197, 153, 0, 31, 42, 180, 0, 84, 16, 20, 27, 96, 46, 155, 0, 19, 42, 42]
abbrev dktX8_take_0 : List UInt8 := dkwX8_take_0 ++ dktX8_take_1
theorem dksX8_take_0 : cX8_take.data.toList.drop 0 = dktX8_take_0 := by decide +kernel
theorem dksX8_take_1 : cX8_take.data.toList.drop 22 = dktX8_take_1 := dk_seg dksX8_take_0 22 rfl rfl
theorem dksX8_take_2 : cX8_take.data.toList.drop 46 = dktX8_take_2 := dk_seg dksX8_take_1 24 rfl rfl
theorem dksX8_take_3 : cX8_take.data.toList.drop 69 = dktX8_take_3 := dk_seg dksX8_take_2 23 rfl rfl
theorem dX8_take_0 : decode cX8_take 0 = .ok (.aload_n 0, 1) := dk_42 (dk_at dksX8_take_0 0 rfl rfl)
theorem dX8_take_1 : decode cX8_take 1 = .ok (.iload_n 1, 1) := dk_27 (dk_at dksX8_take_0 1 rfl rfl)
theorem dX8_take_2 : decode cX8_take 2 = .ok (.invokevirtual 453, 3) := dk_182 1 197 (dk_at dksX8_take_0 2 rfl rfl)
theorem dX8_take_5 : decode cX8_take 5 = .ok (.ifCond .eq 31, 3) := dk_153 0 31 (dk_at dksX8_take_0 5 rfl rfl)
theorem dX8_take_8 : decode cX8_take 8 = .ok (.aload_n 0, 1) := dk_42 (dk_at dksX8_take_0 8 rfl rfl)
theorem dX8_take_9 : decode cX8_take 9 = .ok (.getfield 84, 3) := dk_180 0 84 (dk_at dksX8_take_0 9 rfl rfl)
theorem dX8_take_12 : decode cX8_take 12 = .ok (.bipush 20, 2) := dk_16 20 (dk_at dksX8_take_0 12 rfl rfl)
theorem dX8_take_14 : decode cX8_take 14 = .ok (.iload_n 1, 1) := dk_27 (dk_at dksX8_take_0 14 rfl rfl)
theorem dX8_take_15 : decode cX8_take 15 = .ok (.iadd, 1) := dk_96 (dk_at dksX8_take_0 15 rfl rfl)
theorem dX8_take_16 : decode cX8_take 16 = .ok (.iaload, 1) := dk_46 (dk_at dksX8_take_0 16 rfl rfl)
theorem dX8_take_17 : decode cX8_take 17 = .ok (.ifCond .lt 19, 3) := dk_155 0 19 (dk_at dksX8_take_0 17 rfl rfl)
theorem dX8_take_20 : decode cX8_take 20 = .ok (.aload_n 0, 1) := dk_42 (dk_at dksX8_take_0 20 rfl rfl)
theorem dX8_take_21 : decode cX8_take 21 = .ok (.aload_n 0, 1) := dk_42 (dk_at dksX8_take_0 21 rfl rfl)
theorem dX8_take_22 : decode cX8_take 22 = .ok (.getfield 84, 3) := dk_180 0 84 (dk_at dksX8_take_1 0 rfl rfl)
theorem dX8_take_25 : decode cX8_take 25 = .ok (.bipush 20, 2) := dk_16 20 (dk_at dksX8_take_1 3 rfl rfl)
theorem dX8_take_27 : decode cX8_take 27 = .ok (.iload_n 1, 1) := dk_27 (dk_at dksX8_take_1 5 rfl rfl)
theorem dX8_take_28 : decode cX8_take 28 = .ok (.iadd, 1) := dk_96 (dk_at dksX8_take_1 6 rfl rfl)
theorem dX8_take_29 : decode cX8_take 29 = .ok (.iaload, 1) := dk_46 (dk_at dksX8_take_1 7 rfl rfl)
theorem dX8_take_30 : decode cX8_take 30 = .ok (.invokevirtual 465, 3) := dk_182 1 209 (dk_at dksX8_take_1 8 rfl rfl)
theorem dX8_take_33 : decode cX8_take 33 = .ok (.ifCond .ne 5, 3) := dk_154 0 5 (dk_at dksX8_take_1 11 rfl rfl)
theorem dX8_take_36 : decode cX8_take 36 = .ok (.iconst (-1), 1) := dk_2 (dk_at dksX8_take_1 14 rfl rfl)
theorem dX8_take_37 : decode cX8_take 37 = .ok (.ireturn, 1) := dk_172 (dk_at dksX8_take_1 15 rfl rfl)
theorem dX8_take_38 : decode cX8_take 38 = .ok (.aload_n 0, 1) := dk_42 (dk_at dksX8_take_1 16 rfl rfl)
theorem dX8_take_39 : decode cX8_take 39 = .ok (.invokevirtual 456, 3) := dk_182 1 200 (dk_at dksX8_take_1 17 rfl rfl)
theorem dX8_take_42 : decode cX8_take 42 = .ok (.aload_n 0, 1) := dk_42 (dk_at dksX8_take_1 20 rfl rfl)
theorem dX8_take_43 : decode cX8_take 43 = .ok (.getfield 84, 3) := dk_180 0 84 (dk_at dksX8_take_1 21 rfl rfl)
theorem dX8_take_46 : decode cX8_take 46 = .ok (.bipush 20, 2) := dk_16 20 (dk_at dksX8_take_2 0 rfl rfl)
theorem dX8_take_48 : decode cX8_take 48 = .ok (.iload_n 1, 1) := dk_27 (dk_at dksX8_take_2 2 rfl rfl)
theorem dX8_take_49 : decode cX8_take 49 = .ok (.iadd, 1) := dk_96 (dk_at dksX8_take_2 3 rfl rfl)
theorem dX8_take_50 : decode cX8_take 50 = .ok (.iaload, 1) := dk_46 (dk_at dksX8_take_2 4 rfl rfl)
theorem dX8_take_51 : decode cX8_take 51 = .ok (.istore_n 2, 1) := dk_61 (dk_at dksX8_take_2 5 rfl rfl)
theorem dX8_take_52 : decode cX8_take 52 = .ok (.aload_n 0, 1) := dk_42 (dk_at dksX8_take_2 6 rfl rfl)
theorem dX8_take_53 : decode cX8_take 53 = .ok (.getfield 84, 3) := dk_180 0 84 (dk_at dksX8_take_2 7 rfl rfl)
theorem dX8_take_56 : decode cX8_take 56 = .ok (.bipush 20, 2) := dk_16 20 (dk_at dksX8_take_2 10 rfl rfl)
theorem dX8_take_58 : decode cX8_take 58 = .ok (.iload_n 1, 1) := dk_27 (dk_at dksX8_take_2 12 rfl rfl)
theorem dX8_take_59 : decode cX8_take 59 = .ok (.iadd, 1) := dk_96 (dk_at dksX8_take_2 13 rfl rfl)
theorem dX8_take_60 : decode cX8_take 60 = .ok (.aload_n 0, 1) := dk_42 (dk_at dksX8_take_2 14 rfl rfl)
theorem dX8_take_61 : decode cX8_take 61 = .ok (.aload_n 0, 1) := dk_42 (dk_at dksX8_take_2 15 rfl rfl)
theorem dX8_take_62 : decode cX8_take 62 = .ok (.getfield 84, 3) := dk_180 0 84 (dk_at dksX8_take_2 16 rfl rfl)
theorem dX8_take_65 : decode cX8_take 65 = .ok (.iconst 4, 1) := dk_7 (dk_at dksX8_take_2 19 rfl rfl)
theorem dX8_take_66 : decode cX8_take 66 = .ok (.iload_n 2, 1) := dk_28 (dk_at dksX8_take_2 20 rfl rfl)
theorem dX8_take_67 : decode cX8_take 67 = .ok (.iadd, 1) := dk_96 (dk_at dksX8_take_2 21 rfl rfl)
theorem dX8_take_68 : decode cX8_take 68 = .ok (.iaload, 1) := dk_46 (dk_at dksX8_take_2 22 rfl rfl)
theorem dX8_take_69 : decode cX8_take 69 = .ok (.invokevirtual 468, 3) := dk_182 1 212 (dk_at dksX8_take_3 0 rfl rfl)
theorem dX8_take_72 : decode cX8_take 72 = .ok (.iastore, 1) := dk_79 (dk_at dksX8_take_3 3 rfl rfl)
theorem dX8_take_73 : decode cX8_take 73 = .ok (.iload_n 2, 1) := dk_28 (dk_at dksX8_take_3 4 rfl rfl)
theorem dX8_take_74 : decode cX8_take 74 = .ok (.ireturn, 1) := dk_172 (dk_at dksX8_take_3 5 rfl rfl)
abbrev cX8_cool : ByteArray := prog_20_method_69_code
def yX8_cool : MethodName := ⟨RX8, "cool", "(II)I"⟩
def dkwX8_cool_2 : List UInt8 := [79, 42, 180, 0, 84, 16, 8, 27, 96, 46, 172]
abbrev dktX8_cool_2 : List UInt8 := dkwX8_cool_2 ++ []
def dkwX8_cool_1 : List UInt8 := [42, 180, 0, 84, 16, 8, 27, 96, 42, 180, 0, 84, 16, 8, 27, 96, 46, 28, 100, 16, 99, 184, 1, 78]
abbrev dktX8_cool_1 : List UInt8 := dkwX8_cool_1 ++ dktX8_cool_2
def dkwX8_cool_0 : List UInt8 := [42, 27, 182, 1, 188, 153, 0, 13, 28, 4, 16, 9, 184, 1, 170, 154, 0, 5, 2, 172, 42, 182, 1, 200]
abbrev dktX8_cool_0 : List UInt8 := dkwX8_cool_0 ++ dktX8_cool_1
theorem dksX8_cool_0 : cX8_cool.data.toList.drop 0 = dktX8_cool_0 := by decide +kernel
theorem dksX8_cool_1 : cX8_cool.data.toList.drop 24 = dktX8_cool_1 := dk_seg dksX8_cool_0 24 rfl rfl
theorem dksX8_cool_2 : cX8_cool.data.toList.drop 48 = dktX8_cool_2 := dk_seg dksX8_cool_1 24 rfl rfl
theorem dX8_cool_0 : decode cX8_cool 0 = .ok (.aload_n 0, 1) := dk_42 (dk_at dksX8_cool_0 0 rfl rfl)
theorem dX8_cool_1 : decode cX8_cool 1 = .ok (.iload_n 1, 1) := dk_27 (dk_at dksX8_cool_0 1 rfl rfl)
theorem dX8_cool_2 : decode cX8_cool 2 = .ok (.invokevirtual 444, 3) := dk_182 1 188 (dk_at dksX8_cool_0 2 rfl rfl)
theorem dX8_cool_5 : decode cX8_cool 5 = .ok (.ifCond .eq 13, 3) := dk_153 0 13 (dk_at dksX8_cool_0 5 rfl rfl)
theorem dX8_cool_8 : decode cX8_cool 8 = .ok (.iload_n 2, 1) := dk_28 (dk_at dksX8_cool_0 8 rfl rfl)
theorem dX8_cool_9 : decode cX8_cool 9 = .ok (.iconst 1, 1) := dk_4 (dk_at dksX8_cool_0 9 rfl rfl)
theorem dX8_cool_10 : decode cX8_cool 10 = .ok (.bipush 9, 2) := dk_16 9 (dk_at dksX8_cool_0 10 rfl rfl)
theorem dX8_cool_12 : decode cX8_cool 12 = .ok (.invokestatic 426, 3) := dk_184 1 170 (dk_at dksX8_cool_0 12 rfl rfl)
theorem dX8_cool_15 : decode cX8_cool 15 = .ok (.ifCond .ne 5, 3) := dk_154 0 5 (dk_at dksX8_cool_0 15 rfl rfl)
theorem dX8_cool_18 : decode cX8_cool 18 = .ok (.iconst (-1), 1) := dk_2 (dk_at dksX8_cool_0 18 rfl rfl)
theorem dX8_cool_19 : decode cX8_cool 19 = .ok (.ireturn, 1) := dk_172 (dk_at dksX8_cool_0 19 rfl rfl)
theorem dX8_cool_20 : decode cX8_cool 20 = .ok (.aload_n 0, 1) := dk_42 (dk_at dksX8_cool_0 20 rfl rfl)
theorem dX8_cool_21 : decode cX8_cool 21 = .ok (.invokevirtual 456, 3) := dk_182 1 200 (dk_at dksX8_cool_0 21 rfl rfl)
theorem dX8_cool_24 : decode cX8_cool 24 = .ok (.aload_n 0, 1) := dk_42 (dk_at dksX8_cool_1 0 rfl rfl)
theorem dX8_cool_25 : decode cX8_cool 25 = .ok (.getfield 84, 3) := dk_180 0 84 (dk_at dksX8_cool_1 1 rfl rfl)
theorem dX8_cool_28 : decode cX8_cool 28 = .ok (.bipush 8, 2) := dk_16 8 (dk_at dksX8_cool_1 4 rfl rfl)
theorem dX8_cool_30 : decode cX8_cool 30 = .ok (.iload_n 1, 1) := dk_27 (dk_at dksX8_cool_1 6 rfl rfl)
theorem dX8_cool_31 : decode cX8_cool 31 = .ok (.iadd, 1) := dk_96 (dk_at dksX8_cool_1 7 rfl rfl)
theorem dX8_cool_32 : decode cX8_cool 32 = .ok (.aload_n 0, 1) := dk_42 (dk_at dksX8_cool_1 8 rfl rfl)
theorem dX8_cool_33 : decode cX8_cool 33 = .ok (.getfield 84, 3) := dk_180 0 84 (dk_at dksX8_cool_1 9 rfl rfl)
theorem dX8_cool_36 : decode cX8_cool 36 = .ok (.bipush 8, 2) := dk_16 8 (dk_at dksX8_cool_1 12 rfl rfl)
theorem dX8_cool_38 : decode cX8_cool 38 = .ok (.iload_n 1, 1) := dk_27 (dk_at dksX8_cool_1 14 rfl rfl)
theorem dX8_cool_39 : decode cX8_cool 39 = .ok (.iadd, 1) := dk_96 (dk_at dksX8_cool_1 15 rfl rfl)
theorem dX8_cool_40 : decode cX8_cool 40 = .ok (.iaload, 1) := dk_46 (dk_at dksX8_cool_1 16 rfl rfl)
theorem dX8_cool_41 : decode cX8_cool 41 = .ok (.iload_n 2, 1) := dk_28 (dk_at dksX8_cool_1 17 rfl rfl)
theorem dX8_cool_42 : decode cX8_cool 42 = .ok (.isub, 1) := dk_100 (dk_at dksX8_cool_1 18 rfl rfl)
theorem dX8_cool_43 : decode cX8_cool 43 = .ok (.bipush 99, 2) := dk_16 99 (dk_at dksX8_cool_1 19 rfl rfl)
theorem dX8_cool_45 : decode cX8_cool 45 = .ok (.invokestatic 334, 3) := dk_184 1 78 (dk_at dksX8_cool_1 21 rfl rfl)
theorem dX8_cool_48 : decode cX8_cool 48 = .ok (.iastore, 1) := dk_79 (dk_at dksX8_cool_2 0 rfl rfl)
theorem dX8_cool_49 : decode cX8_cool 49 = .ok (.aload_n 0, 1) := dk_42 (dk_at dksX8_cool_2 1 rfl rfl)
theorem dX8_cool_50 : decode cX8_cool 50 = .ok (.getfield 84, 3) := dk_180 0 84 (dk_at dksX8_cool_2 2 rfl rfl)
theorem dX8_cool_53 : decode cX8_cool 53 = .ok (.bipush 8, 2) := dk_16 8 (dk_at dksX8_cool_2 5 rfl rfl)
theorem dX8_cool_55 : decode cX8_cool 55 = .ok (.iload_n 1, 1) := dk_27 (dk_at dksX8_cool_2 7 rfl rfl)
theorem dX8_cool_56 : decode cX8_cool 56 = .ok (.iadd, 1) := dk_96 (dk_at dksX8_cool_2 8 rfl rfl)
theorem dX8_cool_57 : decode cX8_cool 57 = .ok (.iaload, 1) := dk_46 (dk_at dksX8_cool_2 9 rfl rfl)
theorem dX8_cool_58 : decode cX8_cool 58 = .ok (.ireturn, 1) := dk_172 (dk_at dksX8_cool_2 10 rfl rfl)
abbrev cX8_undo : ByteArray := prog_20_method_70_code
def yX8_undo : MethodName := ⟨RX8, "undo", "()Z"⟩
def dkwX8_undo_1 : List UInt8 := [4, 96, 181, 1, 161, 42, 16, 28, 42, 180, 1, 158, 104, 182, 1, 215, 4, 172]
abbrev dktX8_undo_1 : List UInt8 := dkwX8_undo_1 ++ []
def dkwX8_undo_0 : List UInt8 := [42, 180, 1, 158, 154, 0, 5, 3, 172, 42, 89, 180, 1, 158, 4, 100, 181, 1, 158, 42, 89, 180, 1, 161]
abbrev dktX8_undo_0 : List UInt8 := dkwX8_undo_0 ++ dktX8_undo_1
theorem dksX8_undo_0 : cX8_undo.data.toList.drop 0 = dktX8_undo_0 := by decide +kernel
theorem dksX8_undo_1 : cX8_undo.data.toList.drop 24 = dktX8_undo_1 := dk_seg dksX8_undo_0 24 rfl rfl
theorem dX8_undo_0 : decode cX8_undo 0 = .ok (.aload_n 0, 1) := dk_42 (dk_at dksX8_undo_0 0 rfl rfl)
theorem dX8_undo_1 : decode cX8_undo 1 = .ok (.getfield 414, 3) := dk_180 1 158 (dk_at dksX8_undo_0 1 rfl rfl)
theorem dX8_undo_4 : decode cX8_undo 4 = .ok (.ifCond .ne 5, 3) := dk_154 0 5 (dk_at dksX8_undo_0 4 rfl rfl)
theorem dX8_undo_7 : decode cX8_undo 7 = .ok (.iconst 0, 1) := dk_3 (dk_at dksX8_undo_0 7 rfl rfl)
theorem dX8_undo_8 : decode cX8_undo 8 = .ok (.ireturn, 1) := dk_172 (dk_at dksX8_undo_0 8 rfl rfl)
theorem dX8_undo_9 : decode cX8_undo 9 = .ok (.aload_n 0, 1) := dk_42 (dk_at dksX8_undo_0 9 rfl rfl)
theorem dX8_undo_10 : decode cX8_undo 10 = .ok (.dup, 1) := dk_89 (dk_at dksX8_undo_0 10 rfl rfl)
theorem dX8_undo_11 : decode cX8_undo 11 = .ok (.getfield 414, 3) := dk_180 1 158 (dk_at dksX8_undo_0 11 rfl rfl)
theorem dX8_undo_14 : decode cX8_undo 14 = .ok (.iconst 1, 1) := dk_4 (dk_at dksX8_undo_0 14 rfl rfl)
theorem dX8_undo_15 : decode cX8_undo 15 = .ok (.isub, 1) := dk_100 (dk_at dksX8_undo_0 15 rfl rfl)
theorem dX8_undo_16 : decode cX8_undo 16 = .ok (.putfield 414, 3) := dk_181 1 158 (dk_at dksX8_undo_0 16 rfl rfl)
theorem dX8_undo_19 : decode cX8_undo 19 = .ok (.aload_n 0, 1) := dk_42 (dk_at dksX8_undo_0 19 rfl rfl)
theorem dX8_undo_20 : decode cX8_undo 20 = .ok (.dup, 1) := dk_89 (dk_at dksX8_undo_0 20 rfl rfl)
theorem dX8_undo_21 : decode cX8_undo 21 = .ok (.getfield 417, 3) := dk_180 1 161 (dk_at dksX8_undo_0 21 rfl rfl)
theorem dX8_undo_24 : decode cX8_undo 24 = .ok (.iconst 1, 1) := dk_4 (dk_at dksX8_undo_1 0 rfl rfl)
theorem dX8_undo_25 : decode cX8_undo 25 = .ok (.iadd, 1) := dk_96 (dk_at dksX8_undo_1 1 rfl rfl)
theorem dX8_undo_26 : decode cX8_undo 26 = .ok (.putfield 417, 3) := dk_181 1 161 (dk_at dksX8_undo_1 2 rfl rfl)
theorem dX8_undo_29 : decode cX8_undo 29 = .ok (.aload_n 0, 1) := dk_42 (dk_at dksX8_undo_1 5 rfl rfl)
theorem dX8_undo_30 : decode cX8_undo 30 = .ok (.bipush 28, 2) := dk_16 28 (dk_at dksX8_undo_1 6 rfl rfl)
theorem dX8_undo_32 : decode cX8_undo 32 = .ok (.aload_n 0, 1) := dk_42 (dk_at dksX8_undo_1 8 rfl rfl)
theorem dX8_undo_33 : decode cX8_undo 33 = .ok (.getfield 414, 3) := dk_180 1 158 (dk_at dksX8_undo_1 9 rfl rfl)
theorem dX8_undo_36 : decode cX8_undo 36 = .ok (.imul, 1) := dk_104 (dk_at dksX8_undo_1 12 rfl rfl)
theorem dX8_undo_37 : decode cX8_undo 37 = .ok (.invokevirtual 471, 3) := dk_182 1 215 (dk_at dksX8_undo_1 13 rfl rfl)
theorem dX8_undo_40 : decode cX8_undo 40 = .ok (.iconst 1, 1) := dk_4 (dk_at dksX8_undo_1 16 rfl rfl)
theorem dX8_undo_41 : decode cX8_undo 41 = .ok (.ireturn, 1) := dk_172 (dk_at dksX8_undo_1 17 rfl rfl)
abbrev cX8_exchange : ByteArray := prog_20_method_63_code
def yX8_exchange : MethodName := ⟨RX8, "exchange", "(I)V"⟩
def dkwX8_exchange_1 : List UInt8 := [42, 180, 0, 84, 28, 46, 79, 42, 180, 0, 84, 28, 29, 79, 132, 2, 1, 167, 255, 217, 177]
abbrev dktX8_exchange_1 : List UInt8 := dkwX8_exchange_1 ++ []
def dkwX8_exchange_0 : List UInt8 := [3, 61, 28, 16, 28, 162, 0, 39, 42, 180, 0, 90, 27, 28, 96, 46, 62, 42, 180, 0, 90, 27, 28, 96]
abbrev dktX8_exchange_0 : List UInt8 := dkwX8_exchange_0 ++ dktX8_exchange_1
theorem dksX8_exchange_0 : cX8_exchange.data.toList.drop 0 = dktX8_exchange_0 := by decide +kernel
theorem dksX8_exchange_1 : cX8_exchange.data.toList.drop 24 = dktX8_exchange_1 := dk_seg dksX8_exchange_0 24 rfl rfl
theorem dX8_exchange_0 : decode cX8_exchange 0 = .ok (.iconst 0, 1) := dk_3 (dk_at dksX8_exchange_0 0 rfl rfl)
theorem dX8_exchange_1 : decode cX8_exchange 1 = .ok (.istore_n 2, 1) := dk_61 (dk_at dksX8_exchange_0 1 rfl rfl)
theorem dX8_exchange_2 : decode cX8_exchange 2 = .ok (.iload_n 2, 1) := dk_28 (dk_at dksX8_exchange_0 2 rfl rfl)
theorem dX8_exchange_3 : decode cX8_exchange 3 = .ok (.bipush 28, 2) := dk_16 28 (dk_at dksX8_exchange_0 3 rfl rfl)
theorem dX8_exchange_5 : decode cX8_exchange 5 = .ok (.if_icmp .ge 39, 3) := dk_162 0 39 (dk_at dksX8_exchange_0 5 rfl rfl)
theorem dX8_exchange_8 : decode cX8_exchange 8 = .ok (.aload_n 0, 1) := dk_42 (dk_at dksX8_exchange_0 8 rfl rfl)
theorem dX8_exchange_9 : decode cX8_exchange 9 = .ok (.getfield 90, 3) := dk_180 0 90 (dk_at dksX8_exchange_0 9 rfl rfl)
theorem dX8_exchange_12 : decode cX8_exchange 12 = .ok (.iload_n 1, 1) := dk_27 (dk_at dksX8_exchange_0 12 rfl rfl)
theorem dX8_exchange_13 : decode cX8_exchange 13 = .ok (.iload_n 2, 1) := dk_28 (dk_at dksX8_exchange_0 13 rfl rfl)
theorem dX8_exchange_14 : decode cX8_exchange 14 = .ok (.iadd, 1) := dk_96 (dk_at dksX8_exchange_0 14 rfl rfl)
theorem dX8_exchange_15 : decode cX8_exchange 15 = .ok (.iaload, 1) := dk_46 (dk_at dksX8_exchange_0 15 rfl rfl)
theorem dX8_exchange_16 : decode cX8_exchange 16 = .ok (.istore_n 3, 1) := dk_62 (dk_at dksX8_exchange_0 16 rfl rfl)
theorem dX8_exchange_17 : decode cX8_exchange 17 = .ok (.aload_n 0, 1) := dk_42 (dk_at dksX8_exchange_0 17 rfl rfl)
theorem dX8_exchange_18 : decode cX8_exchange 18 = .ok (.getfield 90, 3) := dk_180 0 90 (dk_at dksX8_exchange_0 18 rfl rfl)
theorem dX8_exchange_21 : decode cX8_exchange 21 = .ok (.iload_n 1, 1) := dk_27 (dk_at dksX8_exchange_0 21 rfl rfl)
theorem dX8_exchange_22 : decode cX8_exchange 22 = .ok (.iload_n 2, 1) := dk_28 (dk_at dksX8_exchange_0 22 rfl rfl)
theorem dX8_exchange_23 : decode cX8_exchange 23 = .ok (.iadd, 1) := dk_96 (dk_at dksX8_exchange_0 23 rfl rfl)
theorem dX8_exchange_24 : decode cX8_exchange 24 = .ok (.aload_n 0, 1) := dk_42 (dk_at dksX8_exchange_1 0 rfl rfl)
theorem dX8_exchange_25 : decode cX8_exchange 25 = .ok (.getfield 84, 3) := dk_180 0 84 (dk_at dksX8_exchange_1 1 rfl rfl)
theorem dX8_exchange_28 : decode cX8_exchange 28 = .ok (.iload_n 2, 1) := dk_28 (dk_at dksX8_exchange_1 4 rfl rfl)
theorem dX8_exchange_29 : decode cX8_exchange 29 = .ok (.iaload, 1) := dk_46 (dk_at dksX8_exchange_1 5 rfl rfl)
theorem dX8_exchange_30 : decode cX8_exchange 30 = .ok (.iastore, 1) := dk_79 (dk_at dksX8_exchange_1 6 rfl rfl)
theorem dX8_exchange_31 : decode cX8_exchange 31 = .ok (.aload_n 0, 1) := dk_42 (dk_at dksX8_exchange_1 7 rfl rfl)
theorem dX8_exchange_32 : decode cX8_exchange 32 = .ok (.getfield 84, 3) := dk_180 0 84 (dk_at dksX8_exchange_1 8 rfl rfl)
theorem dX8_exchange_35 : decode cX8_exchange 35 = .ok (.iload_n 2, 1) := dk_28 (dk_at dksX8_exchange_1 11 rfl rfl)
theorem dX8_exchange_36 : decode cX8_exchange 36 = .ok (.iload_n 3, 1) := dk_29 (dk_at dksX8_exchange_1 12 rfl rfl)
theorem dX8_exchange_37 : decode cX8_exchange 37 = .ok (.iastore, 1) := dk_79 (dk_at dksX8_exchange_1 13 rfl rfl)
theorem dX8_exchange_38 : decode cX8_exchange 38 = .ok (.iinc 2 1, 3) := dk_132 2 1 (dk_at dksX8_exchange_1 14 rfl rfl)
theorem dX8_exchange_41 : decode cX8_exchange 41 = .ok (.goto (-39), 3) := dk_167 255 217 (dk_at dksX8_exchange_1 17 rfl rfl)
theorem dX8_exchange_44 : decode cX8_exchange 44 = .ok (.return_, 1) := dk_177 (dk_at dksX8_exchange_1 20 rfl rfl)
abbrev cX8_redo : ByteArray := prog_20_method_71_code
def yX8_redo : MethodName := ⟨RX8, "redo", "()Z"⟩
def dkwX8_redo_1 : List UInt8 := [180, 1, 158, 4, 96, 181, 1, 158, 42, 89, 180, 1, 161, 4, 100, 181, 1, 161, 4, 172]
abbrev dktX8_redo_1 : List UInt8 := dkwX8_redo_1 ++ []
def dkwX8_redo_0 : List UInt8 := [42, 180, 1, 161, 154, 0, 5, 3, 172, 42, 16, 28, 42, 180, 1, 158, 104, 182, 1, 215, 42, 89]
abbrev dktX8_redo_0 : List UInt8 := dkwX8_redo_0 ++ dktX8_redo_1
theorem dksX8_redo_0 : cX8_redo.data.toList.drop 0 = dktX8_redo_0 := by decide +kernel
theorem dksX8_redo_1 : cX8_redo.data.toList.drop 22 = dktX8_redo_1 := dk_seg dksX8_redo_0 22 rfl rfl
theorem dX8_redo_0 : decode cX8_redo 0 = .ok (.aload_n 0, 1) := dk_42 (dk_at dksX8_redo_0 0 rfl rfl)
theorem dX8_redo_1 : decode cX8_redo 1 = .ok (.getfield 417, 3) := dk_180 1 161 (dk_at dksX8_redo_0 1 rfl rfl)
theorem dX8_redo_4 : decode cX8_redo 4 = .ok (.ifCond .ne 5, 3) := dk_154 0 5 (dk_at dksX8_redo_0 4 rfl rfl)
theorem dX8_redo_7 : decode cX8_redo 7 = .ok (.iconst 0, 1) := dk_3 (dk_at dksX8_redo_0 7 rfl rfl)
theorem dX8_redo_8 : decode cX8_redo 8 = .ok (.ireturn, 1) := dk_172 (dk_at dksX8_redo_0 8 rfl rfl)
theorem dX8_redo_9 : decode cX8_redo 9 = .ok (.aload_n 0, 1) := dk_42 (dk_at dksX8_redo_0 9 rfl rfl)
theorem dX8_redo_10 : decode cX8_redo 10 = .ok (.bipush 28, 2) := dk_16 28 (dk_at dksX8_redo_0 10 rfl rfl)
theorem dX8_redo_12 : decode cX8_redo 12 = .ok (.aload_n 0, 1) := dk_42 (dk_at dksX8_redo_0 12 rfl rfl)
theorem dX8_redo_13 : decode cX8_redo 13 = .ok (.getfield 414, 3) := dk_180 1 158 (dk_at dksX8_redo_0 13 rfl rfl)
theorem dX8_redo_16 : decode cX8_redo 16 = .ok (.imul, 1) := dk_104 (dk_at dksX8_redo_0 16 rfl rfl)
theorem dX8_redo_17 : decode cX8_redo 17 = .ok (.invokevirtual 471, 3) := dk_182 1 215 (dk_at dksX8_redo_0 17 rfl rfl)
theorem dX8_redo_20 : decode cX8_redo 20 = .ok (.aload_n 0, 1) := dk_42 (dk_at dksX8_redo_0 20 rfl rfl)
theorem dX8_redo_21 : decode cX8_redo 21 = .ok (.dup, 1) := dk_89 (dk_at dksX8_redo_0 21 rfl rfl)
theorem dX8_redo_22 : decode cX8_redo 22 = .ok (.getfield 414, 3) := dk_180 1 158 (dk_at dksX8_redo_1 0 rfl rfl)
theorem dX8_redo_25 : decode cX8_redo 25 = .ok (.iconst 1, 1) := dk_4 (dk_at dksX8_redo_1 3 rfl rfl)
theorem dX8_redo_26 : decode cX8_redo 26 = .ok (.iadd, 1) := dk_96 (dk_at dksX8_redo_1 4 rfl rfl)
theorem dX8_redo_27 : decode cX8_redo 27 = .ok (.putfield 414, 3) := dk_181 1 158 (dk_at dksX8_redo_1 5 rfl rfl)
theorem dX8_redo_30 : decode cX8_redo 30 = .ok (.aload_n 0, 1) := dk_42 (dk_at dksX8_redo_1 8 rfl rfl)
theorem dX8_redo_31 : decode cX8_redo 31 = .ok (.dup, 1) := dk_89 (dk_at dksX8_redo_1 9 rfl rfl)
theorem dX8_redo_32 : decode cX8_redo 32 = .ok (.getfield 417, 3) := dk_180 1 161 (dk_at dksX8_redo_1 10 rfl rfl)
theorem dX8_redo_35 : decode cX8_redo 35 = .ok (.iconst 1, 1) := dk_4 (dk_at dksX8_redo_1 13 rfl rfl)
theorem dX8_redo_36 : decode cX8_redo 36 = .ok (.isub, 1) := dk_100 (dk_at dksX8_redo_1 14 rfl rfl)
theorem dX8_redo_37 : decode cX8_redo 37 = .ok (.putfield 417, 3) := dk_181 1 161 (dk_at dksX8_redo_1 15 rfl rfl)
theorem dX8_redo_40 : decode cX8_redo 40 = .ok (.iconst 1, 1) := dk_4 (dk_at dksX8_redo_1 18 rfl rfl)
theorem dX8_redo_41 : decode cX8_redo 41 = .ok (.ireturn, 1) := dk_172 (dk_at dksX8_redo_1 19 rfl rfl)
abbrev cX8_landings : ByteArray := prog_20_method_77_code
def yX8_landings : MethodName := ⟨RX8, "landings", "(I)I"⟩
def dkwX8_landings_0 : List UInt8 := [42, 27, 182, 1, 188, 153, 0, 11, 42, 27, 182, 1, 227, 167, 0, 4, 2, 172]
abbrev dktX8_landings_0 : List UInt8 := dkwX8_landings_0 ++ []
theorem dksX8_landings_0 : cX8_landings.data.toList.drop 0 = dktX8_landings_0 := by decide +kernel
theorem dX8_landings_0 : decode cX8_landings 0 = .ok (.aload_n 0, 1) := dk_42 (dk_at dksX8_landings_0 0 rfl rfl)
theorem dX8_landings_1 : decode cX8_landings 1 = .ok (.iload_n 1, 1) := dk_27 (dk_at dksX8_landings_0 1 rfl rfl)
theorem dX8_landings_2 : decode cX8_landings 2 = .ok (.invokevirtual 444, 3) := dk_182 1 188 (dk_at dksX8_landings_0 2 rfl rfl)
theorem dX8_landings_5 : decode cX8_landings 5 = .ok (.ifCond .eq 11, 3) := dk_153 0 11 (dk_at dksX8_landings_0 5 rfl rfl)
theorem dX8_landings_8 : decode cX8_landings 8 = .ok (.aload_n 0, 1) := dk_42 (dk_at dksX8_landings_0 8 rfl rfl)
theorem dX8_landings_9 : decode cX8_landings 9 = .ok (.iload_n 1, 1) := dk_27 (dk_at dksX8_landings_0 9 rfl rfl)
theorem dX8_landings_10 : decode cX8_landings 10 = .ok (.invokevirtual 483, 3) := dk_182 1 227 (dk_at dksX8_landings_0 10 rfl rfl)
theorem dX8_landings_13 : decode cX8_landings 13 = .ok (.goto 4, 3) := dk_167 0 4 (dk_at dksX8_landings_0 13 rfl rfl)
theorem dX8_landings_16 : decode cX8_landings 16 = .ok (.iconst (-1), 1) := dk_2 (dk_at dksX8_landings_0 16 rfl rfl)
theorem dX8_landings_17 : decode cX8_landings 17 = .ok (.ireturn, 1) := dk_172 (dk_at dksX8_landings_0 17 rfl rfl)
abbrev cX8_landingsOf : ByteArray := prog_20_method_76_code
def yX8_landingsOf : MethodName := ⟨RX8, "landingsOf", "(I)I"⟩
def dkwX8_landingsOf_1 : List UInt8 := [153, 0, 14, 28, 4, 42, 180, 0, 87, 27, 46, 120, 128, 61, 132, 3, 1, 167, 255, 220, 28, 172]
abbrev dktX8_landingsOf_1 : List UInt8 := dkwX8_landingsOf_1 ++ []
def dkwX8_landingsOf_0 : List UInt8 := [3, 61, 3, 62, 29, 6, 42, 27, 182, 1, 218, 184, 1, 221, 162, 0, 29, 42, 27, 29, 182, 1, 224]
abbrev dktX8_landingsOf_0 : List UInt8 := dkwX8_landingsOf_0 ++ dktX8_landingsOf_1
theorem dksX8_landingsOf_0 : cX8_landingsOf.data.toList.drop 0 = dktX8_landingsOf_0 := by decide +kernel
theorem dksX8_landingsOf_1 : cX8_landingsOf.data.toList.drop 23 = dktX8_landingsOf_1 := dk_seg dksX8_landingsOf_0 23 rfl rfl
theorem dX8_landingsOf_0 : decode cX8_landingsOf 0 = .ok (.iconst 0, 1) := dk_3 (dk_at dksX8_landingsOf_0 0 rfl rfl)
theorem dX8_landingsOf_1 : decode cX8_landingsOf 1 = .ok (.istore_n 2, 1) := dk_61 (dk_at dksX8_landingsOf_0 1 rfl rfl)
theorem dX8_landingsOf_2 : decode cX8_landingsOf 2 = .ok (.iconst 0, 1) := dk_3 (dk_at dksX8_landingsOf_0 2 rfl rfl)
theorem dX8_landingsOf_3 : decode cX8_landingsOf 3 = .ok (.istore_n 3, 1) := dk_62 (dk_at dksX8_landingsOf_0 3 rfl rfl)
theorem dX8_landingsOf_4 : decode cX8_landingsOf 4 = .ok (.iload_n 3, 1) := dk_29 (dk_at dksX8_landingsOf_0 4 rfl rfl)
theorem dX8_landingsOf_5 : decode cX8_landingsOf 5 = .ok (.iconst 3, 1) := dk_6 (dk_at dksX8_landingsOf_0 5 rfl rfl)
theorem dX8_landingsOf_6 : decode cX8_landingsOf 6 = .ok (.aload_n 0, 1) := dk_42 (dk_at dksX8_landingsOf_0 6 rfl rfl)
theorem dX8_landingsOf_7 : decode cX8_landingsOf 7 = .ok (.iload_n 1, 1) := dk_27 (dk_at dksX8_landingsOf_0 7 rfl rfl)
theorem dX8_landingsOf_8 : decode cX8_landingsOf 8 = .ok (.invokevirtual 474, 3) := dk_182 1 218 (dk_at dksX8_landingsOf_0 8 rfl rfl)
theorem dX8_landingsOf_11 : decode cX8_landingsOf 11 = .ok (.invokestatic 477, 3) := dk_184 1 221 (dk_at dksX8_landingsOf_0 11 rfl rfl)
theorem dX8_landingsOf_14 : decode cX8_landingsOf 14 = .ok (.if_icmp .ge 29, 3) := dk_162 0 29 (dk_at dksX8_landingsOf_0 14 rfl rfl)
theorem dX8_landingsOf_17 : decode cX8_landingsOf 17 = .ok (.aload_n 0, 1) := dk_42 (dk_at dksX8_landingsOf_0 17 rfl rfl)
theorem dX8_landingsOf_18 : decode cX8_landingsOf 18 = .ok (.iload_n 1, 1) := dk_27 (dk_at dksX8_landingsOf_0 18 rfl rfl)
theorem dX8_landingsOf_19 : decode cX8_landingsOf 19 = .ok (.iload_n 3, 1) := dk_29 (dk_at dksX8_landingsOf_0 19 rfl rfl)
theorem dX8_landingsOf_20 : decode cX8_landingsOf 20 = .ok (.invokevirtual 480, 3) := dk_182 1 224 (dk_at dksX8_landingsOf_0 20 rfl rfl)
theorem dX8_landingsOf_23 : decode cX8_landingsOf 23 = .ok (.ifCond .eq 14, 3) := dk_153 0 14 (dk_at dksX8_landingsOf_1 0 rfl rfl)
theorem dX8_landingsOf_26 : decode cX8_landingsOf 26 = .ok (.iload_n 2, 1) := dk_28 (dk_at dksX8_landingsOf_1 3 rfl rfl)
theorem dX8_landingsOf_27 : decode cX8_landingsOf 27 = .ok (.iconst 1, 1) := dk_4 (dk_at dksX8_landingsOf_1 4 rfl rfl)
theorem dX8_landingsOf_28 : decode cX8_landingsOf 28 = .ok (.aload_n 0, 1) := dk_42 (dk_at dksX8_landingsOf_1 5 rfl rfl)
theorem dX8_landingsOf_29 : decode cX8_landingsOf 29 = .ok (.getfield 87, 3) := dk_180 0 87 (dk_at dksX8_landingsOf_1 6 rfl rfl)
theorem dX8_landingsOf_32 : decode cX8_landingsOf 32 = .ok (.iload_n 1, 1) := dk_27 (dk_at dksX8_landingsOf_1 9 rfl rfl)
theorem dX8_landingsOf_33 : decode cX8_landingsOf 33 = .ok (.iaload, 1) := dk_46 (dk_at dksX8_landingsOf_1 10 rfl rfl)
theorem dX8_landingsOf_34 : decode cX8_landingsOf 34 = .ok (.ishl, 1) := dk_120 (dk_at dksX8_landingsOf_1 11 rfl rfl)
theorem dX8_landingsOf_35 : decode cX8_landingsOf 35 = .ok (.ior, 1) := dk_128 (dk_at dksX8_landingsOf_1 12 rfl rfl)
theorem dX8_landingsOf_36 : decode cX8_landingsOf 36 = .ok (.istore_n 2, 1) := dk_61 (dk_at dksX8_landingsOf_1 13 rfl rfl)
theorem dX8_landingsOf_37 : decode cX8_landingsOf 37 = .ok (.iinc 3 1, 3) := dk_132 3 1 (dk_at dksX8_landingsOf_1 14 rfl rfl)
theorem dX8_landingsOf_40 : decode cX8_landingsOf 40 = .ok (.goto (-36), 3) := dk_167 255 220 (dk_at dksX8_landingsOf_1 17 rfl rfl)
theorem dX8_landingsOf_43 : decode cX8_landingsOf 43 = .ok (.iload_n 2, 1) := dk_28 (dk_at dksX8_landingsOf_1 20 rfl rfl)
theorem dX8_landingsOf_44 : decode cX8_landingsOf 44 = .ok (.ireturn, 1) := dk_172 (dk_at dksX8_landingsOf_1 21 rfl rfl)
abbrev cX8_leftOf : ByteArray := prog_20_method_73_code
def yX8_leftOf : MethodName := ⟨RX8, "leftOf", "(I)I"⟩
def dkwX8_leftOf_0 : List UInt8 := [42, 180, 0, 81, 42, 180, 0, 84, 7, 27, 96, 46, 100, 172]
abbrev dktX8_leftOf_0 : List UInt8 := dkwX8_leftOf_0 ++ []
theorem dksX8_leftOf_0 : cX8_leftOf.data.toList.drop 0 = dktX8_leftOf_0 := by decide +kernel
theorem dX8_leftOf_0 : decode cX8_leftOf 0 = .ok (.aload_n 0, 1) := dk_42 (dk_at dksX8_leftOf_0 0 rfl rfl)
theorem dX8_leftOf_1 : decode cX8_leftOf 1 = .ok (.getfield 81, 3) := dk_180 0 81 (dk_at dksX8_leftOf_0 1 rfl rfl)
theorem dX8_leftOf_4 : decode cX8_leftOf 4 = .ok (.aload_n 0, 1) := dk_42 (dk_at dksX8_leftOf_0 4 rfl rfl)
theorem dX8_leftOf_5 : decode cX8_leftOf 5 = .ok (.getfield 84, 3) := dk_180 0 84 (dk_at dksX8_leftOf_0 5 rfl rfl)
theorem dX8_leftOf_8 : decode cX8_leftOf 8 = .ok (.iconst 4, 1) := dk_7 (dk_at dksX8_leftOf_0 8 rfl rfl)
theorem dX8_leftOf_9 : decode cX8_leftOf 9 = .ok (.iload_n 1, 1) := dk_27 (dk_at dksX8_leftOf_0 9 rfl rfl)
theorem dX8_leftOf_10 : decode cX8_leftOf 10 = .ok (.iadd, 1) := dk_96 (dk_at dksX8_leftOf_0 10 rfl rfl)
theorem dX8_leftOf_11 : decode cX8_leftOf 11 = .ok (.iaload, 1) := dk_46 (dk_at dksX8_leftOf_0 11 rfl rfl)
theorem dX8_leftOf_12 : decode cX8_leftOf 12 = .ok (.isub, 1) := dk_100 (dk_at dksX8_leftOf_0 12 rfl rfl)
theorem dX8_leftOf_13 : decode cX8_leftOf 13 = .ok (.ireturn, 1) := dk_172 (dk_at dksX8_leftOf_0 13 rfl rfl)
abbrev cX8_power : ByteArray := prog_20_method_72_code
def yX8_power : MethodName := ⟨RX8, "powe\x72", "(II)I"⟩
def dkwX8_power_0 : List UInt8 := [4, 61, 3, 62, 29, 27, 162, 0, 13, 28, 26, 104, 61, 132, 3, 1, 167, 255, 244, 28, 172]
abbrev dktX8_power_0 : List UInt8 := dkwX8_power_0 ++ []
theorem dksX8_power_0 : cX8_power.data.toList.drop 0 = dktX8_power_0 := by decide +kernel
theorem dX8_power_0 : decode cX8_power 0 = .ok (.iconst 1, 1) := dk_4 (dk_at dksX8_power_0 0 rfl rfl)
theorem dX8_power_1 : decode cX8_power 1 = .ok (.istore_n 2, 1) := dk_61 (dk_at dksX8_power_0 1 rfl rfl)
theorem dX8_power_2 : decode cX8_power 2 = .ok (.iconst 0, 1) := dk_3 (dk_at dksX8_power_0 2 rfl rfl)
theorem dX8_power_3 : decode cX8_power 3 = .ok (.istore_n 3, 1) := dk_62 (dk_at dksX8_power_0 3 rfl rfl)
theorem dX8_power_4 : decode cX8_power 4 = .ok (.iload_n 3, 1) := dk_29 (dk_at dksX8_power_0 4 rfl rfl)
theorem dX8_power_5 : decode cX8_power 5 = .ok (.iload_n 1, 1) := dk_27 (dk_at dksX8_power_0 5 rfl rfl)
theorem dX8_power_6 : decode cX8_power 6 = .ok (.if_icmp .ge 13, 3) := dk_162 0 13 (dk_at dksX8_power_0 6 rfl rfl)
theorem dX8_power_9 : decode cX8_power 9 = .ok (.iload_n 2, 1) := dk_28 (dk_at dksX8_power_0 9 rfl rfl)
theorem dX8_power_10 : decode cX8_power 10 = .ok (.iload_n 0, 1) := dk_26 (dk_at dksX8_power_0 10 rfl rfl)
theorem dX8_power_11 : decode cX8_power 11 = .ok (.imul, 1) := dk_104 (dk_at dksX8_power_0 11 rfl rfl)
theorem dX8_power_12 : decode cX8_power 12 = .ok (.istore_n 2, 1) := dk_61 (dk_at dksX8_power_0 12 rfl rfl)
theorem dX8_power_13 : decode cX8_power 13 = .ok (.iinc 3 1, 3) := dk_132 3 1 (dk_at dksX8_power_0 13 rfl rfl)
theorem dX8_power_16 : decode cX8_power 16 = .ok (.goto (-12), 3) := dk_167 255 244 (dk_at dksX8_power_0 16 rfl rfl)
theorem dX8_power_19 : decode cX8_power 19 = .ok (.iload_n 2, 1) := dk_28 (dk_at dksX8_power_0 19 rfl rfl)
theorem dX8_power_20 : decode cX8_power 20 = .ok (.ireturn, 1) := dk_172 (dk_at dksX8_power_0 20 rfl rfl)
abbrev cX8_goRow : ByteArray := prog_20_method_74_code
def yX8_goRow : MethodName := ⟨RX8, "goRow", "(II)Z"⟩
def dkwX8_goRow_4 : List UInt8 := [167, 255, 216, 21, 5, 172]
abbrev dktX8_goRow_4 : List UInt8 := dkwX8_goRow_4 ++ []
def dkwX8_goRow_3 : List UInt8 := [21, 6, 46, 4, 4, 182, 1, 203, 5, 112, 154, 0, 7, 4, 167, 0, 4, 3, 54, 5, 132, 6, 1]
abbrev dktX8_goRow_3 : List UInt8 := dkwX8_goRow_3 ++ dktX8_goRow_4
def dkwX8_goRow_2 : List UInt8 := [4, 54, 5, 3, 54, 6, 21, 6, 29, 162, 0, 40, 21, 5, 153, 0, 35, 42, 27, 42, 180, 0, 93]
abbrev dktX8_goRow_2 : List UInt8 := dkwX8_goRow_2 ++ dktX8_goRow_3
def dkwX8_goRow_1 : List UInt8 := [180, 0, 93, 21, 5, 21, 4, 6, 112, 4, 100, 79, 21, 4, 6, 108, 54, 4, 132, 5, 255, 167, 255, 229]
abbrev dktX8_goRow_1 : List UInt8 := dkwX8_goRow_1 ++ dktX8_goRow_2
def dkwX8_goRow_0 : List UInt8 := [42, 182, 1, 191, 42, 27, 182, 1, 218, 62, 28, 54, 4, 29, 4, 100, 54, 5, 21, 5, 155, 0, 28, 42]
abbrev dktX8_goRow_0 : List UInt8 := dkwX8_goRow_0 ++ dktX8_goRow_1
theorem dksX8_goRow_0 : cX8_goRow.data.toList.drop 0 = dktX8_goRow_0 := by decide +kernel
theorem dksX8_goRow_1 : cX8_goRow.data.toList.drop 24 = dktX8_goRow_1 := dk_seg dksX8_goRow_0 24 rfl rfl
theorem dksX8_goRow_2 : cX8_goRow.data.toList.drop 48 = dktX8_goRow_2 := dk_seg dksX8_goRow_1 24 rfl rfl
theorem dksX8_goRow_3 : cX8_goRow.data.toList.drop 71 = dktX8_goRow_3 := dk_seg dksX8_goRow_2 23 rfl rfl
theorem dksX8_goRow_4 : cX8_goRow.data.toList.drop 94 = dktX8_goRow_4 := dk_seg dksX8_goRow_3 23 rfl rfl
theorem dX8_goRow_0 : decode cX8_goRow 0 = .ok (.aload_n 0, 1) := dk_42 (dk_at dksX8_goRow_0 0 rfl rfl)
theorem dX8_goRow_1 : decode cX8_goRow 1 = .ok (.invokevirtual 447, 3) := dk_182 1 191 (dk_at dksX8_goRow_0 1 rfl rfl)
theorem dX8_goRow_4 : decode cX8_goRow 4 = .ok (.aload_n 0, 1) := dk_42 (dk_at dksX8_goRow_0 4 rfl rfl)
theorem dX8_goRow_5 : decode cX8_goRow 5 = .ok (.iload_n 1, 1) := dk_27 (dk_at dksX8_goRow_0 5 rfl rfl)
theorem dX8_goRow_6 : decode cX8_goRow 6 = .ok (.invokevirtual 474, 3) := dk_182 1 218 (dk_at dksX8_goRow_0 6 rfl rfl)
theorem dX8_goRow_9 : decode cX8_goRow 9 = .ok (.istore_n 3, 1) := dk_62 (dk_at dksX8_goRow_0 9 rfl rfl)
theorem dX8_goRow_10 : decode cX8_goRow 10 = .ok (.iload_n 2, 1) := dk_28 (dk_at dksX8_goRow_0 10 rfl rfl)
theorem dX8_goRow_11 : decode cX8_goRow 11 = .ok (.istore 4, 2) := dk_54 4 (dk_at dksX8_goRow_0 11 rfl rfl)
theorem dX8_goRow_13 : decode cX8_goRow 13 = .ok (.iload_n 3, 1) := dk_29 (dk_at dksX8_goRow_0 13 rfl rfl)
theorem dX8_goRow_14 : decode cX8_goRow 14 = .ok (.iconst 1, 1) := dk_4 (dk_at dksX8_goRow_0 14 rfl rfl)
theorem dX8_goRow_15 : decode cX8_goRow 15 = .ok (.isub, 1) := dk_100 (dk_at dksX8_goRow_0 15 rfl rfl)
theorem dX8_goRow_16 : decode cX8_goRow 16 = .ok (.istore 5, 2) := dk_54 5 (dk_at dksX8_goRow_0 16 rfl rfl)
theorem dX8_goRow_18 : decode cX8_goRow 18 = .ok (.iload 5, 2) := dk_21 5 (dk_at dksX8_goRow_0 18 rfl rfl)
theorem dX8_goRow_20 : decode cX8_goRow 20 = .ok (.ifCond .lt 28, 3) := dk_155 0 28 (dk_at dksX8_goRow_0 20 rfl rfl)
theorem dX8_goRow_23 : decode cX8_goRow 23 = .ok (.aload_n 0, 1) := dk_42 (dk_at dksX8_goRow_0 23 rfl rfl)
theorem dX8_goRow_24 : decode cX8_goRow 24 = .ok (.getfield 93, 3) := dk_180 0 93 (dk_at dksX8_goRow_1 0 rfl rfl)
theorem dX8_goRow_27 : decode cX8_goRow 27 = .ok (.iload 5, 2) := dk_21 5 (dk_at dksX8_goRow_1 3 rfl rfl)
theorem dX8_goRow_29 : decode cX8_goRow 29 = .ok (.iload 4, 2) := dk_21 4 (dk_at dksX8_goRow_1 5 rfl rfl)
theorem dX8_goRow_31 : decode cX8_goRow 31 = .ok (.iconst 3, 1) := dk_6 (dk_at dksX8_goRow_1 7 rfl rfl)
theorem dX8_goRow_32 : decode cX8_goRow 32 = .ok (.irem, 1) := dk_112 (dk_at dksX8_goRow_1 8 rfl rfl)
theorem dX8_goRow_33 : decode cX8_goRow 33 = .ok (.iconst 1, 1) := dk_4 (dk_at dksX8_goRow_1 9 rfl rfl)
theorem dX8_goRow_34 : decode cX8_goRow 34 = .ok (.isub, 1) := dk_100 (dk_at dksX8_goRow_1 10 rfl rfl)
theorem dX8_goRow_35 : decode cX8_goRow 35 = .ok (.iastore, 1) := dk_79 (dk_at dksX8_goRow_1 11 rfl rfl)
theorem dX8_goRow_36 : decode cX8_goRow 36 = .ok (.iload 4, 2) := dk_21 4 (dk_at dksX8_goRow_1 12 rfl rfl)
theorem dX8_goRow_38 : decode cX8_goRow 38 = .ok (.iconst 3, 1) := dk_6 (dk_at dksX8_goRow_1 14 rfl rfl)
theorem dX8_goRow_39 : decode cX8_goRow 39 = .ok (.idiv, 1) := dk_108 (dk_at dksX8_goRow_1 15 rfl rfl)
theorem dX8_goRow_40 : decode cX8_goRow 40 = .ok (.istore 4, 2) := dk_54 4 (dk_at dksX8_goRow_1 16 rfl rfl)
theorem dX8_goRow_42 : decode cX8_goRow 42 = .ok (.iinc 5 (-1), 3) := dk_132 5 255 (dk_at dksX8_goRow_1 18 rfl rfl)
theorem dX8_goRow_45 : decode cX8_goRow 45 = .ok (.goto (-27), 3) := dk_167 255 229 (dk_at dksX8_goRow_1 21 rfl rfl)
theorem dX8_goRow_48 : decode cX8_goRow 48 = .ok (.iconst 1, 1) := dk_4 (dk_at dksX8_goRow_2 0 rfl rfl)
theorem dX8_goRow_49 : decode cX8_goRow 49 = .ok (.istore 5, 2) := dk_54 5 (dk_at dksX8_goRow_2 1 rfl rfl)
theorem dX8_goRow_51 : decode cX8_goRow 51 = .ok (.iconst 0, 1) := dk_3 (dk_at dksX8_goRow_2 3 rfl rfl)
theorem dX8_goRow_52 : decode cX8_goRow 52 = .ok (.istore 6, 2) := dk_54 6 (dk_at dksX8_goRow_2 4 rfl rfl)
theorem dX8_goRow_54 : decode cX8_goRow 54 = .ok (.iload 6, 2) := dk_21 6 (dk_at dksX8_goRow_2 6 rfl rfl)
theorem dX8_goRow_56 : decode cX8_goRow 56 = .ok (.iload_n 3, 1) := dk_29 (dk_at dksX8_goRow_2 8 rfl rfl)
theorem dX8_goRow_57 : decode cX8_goRow 57 = .ok (.if_icmp .ge 40, 3) := dk_162 0 40 (dk_at dksX8_goRow_2 9 rfl rfl)
theorem dX8_goRow_60 : decode cX8_goRow 60 = .ok (.iload 5, 2) := dk_21 5 (dk_at dksX8_goRow_2 12 rfl rfl)
theorem dX8_goRow_62 : decode cX8_goRow 62 = .ok (.ifCond .eq 35, 3) := dk_153 0 35 (dk_at dksX8_goRow_2 14 rfl rfl)
theorem dX8_goRow_65 : decode cX8_goRow 65 = .ok (.aload_n 0, 1) := dk_42 (dk_at dksX8_goRow_2 17 rfl rfl)
theorem dX8_goRow_66 : decode cX8_goRow 66 = .ok (.iload_n 1, 1) := dk_27 (dk_at dksX8_goRow_2 18 rfl rfl)
theorem dX8_goRow_67 : decode cX8_goRow 67 = .ok (.aload_n 0, 1) := dk_42 (dk_at dksX8_goRow_2 19 rfl rfl)
theorem dX8_goRow_68 : decode cX8_goRow 68 = .ok (.getfield 93, 3) := dk_180 0 93 (dk_at dksX8_goRow_2 20 rfl rfl)
theorem dX8_goRow_71 : decode cX8_goRow 71 = .ok (.iload 6, 2) := dk_21 6 (dk_at dksX8_goRow_3 0 rfl rfl)
theorem dX8_goRow_73 : decode cX8_goRow 73 = .ok (.iaload, 1) := dk_46 (dk_at dksX8_goRow_3 2 rfl rfl)
theorem dX8_goRow_74 : decode cX8_goRow 74 = .ok (.iconst 1, 1) := dk_4 (dk_at dksX8_goRow_3 3 rfl rfl)
theorem dX8_goRow_75 : decode cX8_goRow 75 = .ok (.iconst 1, 1) := dk_4 (dk_at dksX8_goRow_3 4 rfl rfl)
theorem dX8_goRow_76 : decode cX8_goRow 76 = .ok (.invokevirtual 459, 3) := dk_182 1 203 (dk_at dksX8_goRow_3 5 rfl rfl)
theorem dX8_goRow_79 : decode cX8_goRow 79 = .ok (.iconst 2, 1) := dk_5 (dk_at dksX8_goRow_3 8 rfl rfl)
theorem dX8_goRow_80 : decode cX8_goRow 80 = .ok (.irem, 1) := dk_112 (dk_at dksX8_goRow_3 9 rfl rfl)
theorem dX8_goRow_81 : decode cX8_goRow 81 = .ok (.ifCond .ne 7, 3) := dk_154 0 7 (dk_at dksX8_goRow_3 10 rfl rfl)
theorem dX8_goRow_84 : decode cX8_goRow 84 = .ok (.iconst 1, 1) := dk_4 (dk_at dksX8_goRow_3 13 rfl rfl)
theorem dX8_goRow_85 : decode cX8_goRow 85 = .ok (.goto 4, 3) := dk_167 0 4 (dk_at dksX8_goRow_3 14 rfl rfl)
theorem dX8_goRow_88 : decode cX8_goRow 88 = .ok (.iconst 0, 1) := dk_3 (dk_at dksX8_goRow_3 17 rfl rfl)
theorem dX8_goRow_89 : decode cX8_goRow 89 = .ok (.istore 5, 2) := dk_54 5 (dk_at dksX8_goRow_3 18 rfl rfl)
theorem dX8_goRow_91 : decode cX8_goRow 91 = .ok (.iinc 6 1, 3) := dk_132 6 1 (dk_at dksX8_goRow_3 20 rfl rfl)
theorem dX8_goRow_94 : decode cX8_goRow 94 = .ok (.goto (-40), 3) := dk_167 255 216 (dk_at dksX8_goRow_4 0 rfl rfl)
theorem dX8_goRow_97 : decode cX8_goRow 97 = .ok (.iload 5, 2) := dk_21 5 (dk_at dksX8_goRow_4 3 rfl rfl)
theorem dX8_goRow_99 : decode cX8_goRow 99 = .ok (.ireturn, 1) := dk_172 (dk_at dksX8_goRow_4 5 rfl rfl)
abbrev cX8_rows : ByteArray := prog_20_method_78_code
def yX8_rows : MethodName := ⟨RX8, "rows", "(I)I"⟩
def dkwX8_rows_1 : List UInt8 := [162, 0, 21, 28, 42, 27, 29, 182, 1, 224, 184, 1, 61, 96, 61, 132, 3, 1, 167, 255, 228, 28, 172]
abbrev dktX8_rows_1 : List UInt8 := dkwX8_rows_1 ++ []
def dkwX8_rows_0 : List UInt8 := [42, 27, 182, 1, 188, 154, 0, 5, 2, 172, 3, 61, 3, 62, 29, 6, 42, 27, 182, 1, 218, 184, 1, 221]
abbrev dktX8_rows_0 : List UInt8 := dkwX8_rows_0 ++ dktX8_rows_1
theorem dksX8_rows_0 : cX8_rows.data.toList.drop 0 = dktX8_rows_0 := by decide +kernel
theorem dksX8_rows_1 : cX8_rows.data.toList.drop 24 = dktX8_rows_1 := dk_seg dksX8_rows_0 24 rfl rfl
theorem dX8_rows_0 : decode cX8_rows 0 = .ok (.aload_n 0, 1) := dk_42 (dk_at dksX8_rows_0 0 rfl rfl)
theorem dX8_rows_1 : decode cX8_rows 1 = .ok (.iload_n 1, 1) := dk_27 (dk_at dksX8_rows_0 1 rfl rfl)
theorem dX8_rows_2 : decode cX8_rows 2 = .ok (.invokevirtual 444, 3) := dk_182 1 188 (dk_at dksX8_rows_0 2 rfl rfl)
theorem dX8_rows_5 : decode cX8_rows 5 = .ok (.ifCond .ne 5, 3) := dk_154 0 5 (dk_at dksX8_rows_0 5 rfl rfl)
theorem dX8_rows_8 : decode cX8_rows 8 = .ok (.iconst (-1), 1) := dk_2 (dk_at dksX8_rows_0 8 rfl rfl)
theorem dX8_rows_9 : decode cX8_rows 9 = .ok (.ireturn, 1) := dk_172 (dk_at dksX8_rows_0 9 rfl rfl)
theorem dX8_rows_10 : decode cX8_rows 10 = .ok (.iconst 0, 1) := dk_3 (dk_at dksX8_rows_0 10 rfl rfl)
theorem dX8_rows_11 : decode cX8_rows 11 = .ok (.istore_n 2, 1) := dk_61 (dk_at dksX8_rows_0 11 rfl rfl)
theorem dX8_rows_12 : decode cX8_rows 12 = .ok (.iconst 0, 1) := dk_3 (dk_at dksX8_rows_0 12 rfl rfl)
theorem dX8_rows_13 : decode cX8_rows 13 = .ok (.istore_n 3, 1) := dk_62 (dk_at dksX8_rows_0 13 rfl rfl)
theorem dX8_rows_14 : decode cX8_rows 14 = .ok (.iload_n 3, 1) := dk_29 (dk_at dksX8_rows_0 14 rfl rfl)
theorem dX8_rows_15 : decode cX8_rows 15 = .ok (.iconst 3, 1) := dk_6 (dk_at dksX8_rows_0 15 rfl rfl)
theorem dX8_rows_16 : decode cX8_rows 16 = .ok (.aload_n 0, 1) := dk_42 (dk_at dksX8_rows_0 16 rfl rfl)
theorem dX8_rows_17 : decode cX8_rows 17 = .ok (.iload_n 1, 1) := dk_27 (dk_at dksX8_rows_0 17 rfl rfl)
theorem dX8_rows_18 : decode cX8_rows 18 = .ok (.invokevirtual 474, 3) := dk_182 1 218 (dk_at dksX8_rows_0 18 rfl rfl)
theorem dX8_rows_21 : decode cX8_rows 21 = .ok (.invokestatic 477, 3) := dk_184 1 221 (dk_at dksX8_rows_0 21 rfl rfl)
theorem dX8_rows_24 : decode cX8_rows 24 = .ok (.if_icmp .ge 21, 3) := dk_162 0 21 (dk_at dksX8_rows_1 0 rfl rfl)
theorem dX8_rows_27 : decode cX8_rows 27 = .ok (.iload_n 2, 1) := dk_28 (dk_at dksX8_rows_1 3 rfl rfl)
theorem dX8_rows_28 : decode cX8_rows 28 = .ok (.aload_n 0, 1) := dk_42 (dk_at dksX8_rows_1 4 rfl rfl)
theorem dX8_rows_29 : decode cX8_rows 29 = .ok (.iload_n 1, 1) := dk_27 (dk_at dksX8_rows_1 5 rfl rfl)
theorem dX8_rows_30 : decode cX8_rows 30 = .ok (.iload_n 3, 1) := dk_29 (dk_at dksX8_rows_1 6 rfl rfl)
theorem dX8_rows_31 : decode cX8_rows 31 = .ok (.invokevirtual 480, 3) := dk_182 1 224 (dk_at dksX8_rows_1 7 rfl rfl)
theorem dX8_rows_34 : decode cX8_rows 34 = .ok (.invokestatic 317, 3) := dk_184 1 61 (dk_at dksX8_rows_1 10 rfl rfl)
theorem dX8_rows_37 : decode cX8_rows 37 = .ok (.iadd, 1) := dk_96 (dk_at dksX8_rows_1 13 rfl rfl)
theorem dX8_rows_38 : decode cX8_rows 38 = .ok (.istore_n 2, 1) := dk_61 (dk_at dksX8_rows_1 14 rfl rfl)
theorem dX8_rows_39 : decode cX8_rows 39 = .ok (.iinc 3 1, 3) := dk_132 3 1 (dk_at dksX8_rows_1 15 rfl rfl)
theorem dX8_rows_42 : decode cX8_rows 42 = .ok (.goto (-28), 3) := dk_167 255 228 (dk_at dksX8_rows_1 18 rfl rfl)
theorem dX8_rows_45 : decode cX8_rows 45 = .ok (.iload_n 2, 1) := dk_28 (dk_at dksX8_rows_1 21 rfl rfl)
theorem dX8_rows_46 : decode cX8_rows 46 = .ok (.ireturn, 1) := dk_172 (dk_at dksX8_rows_1 22 rfl rfl)
abbrev cX8_drift : ByteArray := prog_20_method_80_code
def yX8_drift : MethodName := ⟨RX8, "drift", "(I)I"⟩
def dkwX8_drift_1 : List UInt8 := [180, 0, 87, 27, 46, 167, 0, 4, 2, 172]
abbrev dktX8_drift_1 : List UInt8 := dkwX8_drift_1 ++ []
def dkwX8_drift_0 : List UInt8 := [42, 27, 182, 1, 188, 153, 0, 25, 42, 27, 42, 27, 182, 1, 230, 182, 1, 224, 153, 0, 12, 42]
abbrev dktX8_drift_0 : List UInt8 := dkwX8_drift_0 ++ dktX8_drift_1
theorem dksX8_drift_0 : cX8_drift.data.toList.drop 0 = dktX8_drift_0 := by decide +kernel
theorem dksX8_drift_1 : cX8_drift.data.toList.drop 22 = dktX8_drift_1 := dk_seg dksX8_drift_0 22 rfl rfl
theorem dX8_drift_0 : decode cX8_drift 0 = .ok (.aload_n 0, 1) := dk_42 (dk_at dksX8_drift_0 0 rfl rfl)
theorem dX8_drift_1 : decode cX8_drift 1 = .ok (.iload_n 1, 1) := dk_27 (dk_at dksX8_drift_0 1 rfl rfl)
theorem dX8_drift_2 : decode cX8_drift 2 = .ok (.invokevirtual 444, 3) := dk_182 1 188 (dk_at dksX8_drift_0 2 rfl rfl)
theorem dX8_drift_5 : decode cX8_drift 5 = .ok (.ifCond .eq 25, 3) := dk_153 0 25 (dk_at dksX8_drift_0 5 rfl rfl)
theorem dX8_drift_8 : decode cX8_drift 8 = .ok (.aload_n 0, 1) := dk_42 (dk_at dksX8_drift_0 8 rfl rfl)
theorem dX8_drift_9 : decode cX8_drift 9 = .ok (.iload_n 1, 1) := dk_27 (dk_at dksX8_drift_0 9 rfl rfl)
theorem dX8_drift_10 : decode cX8_drift 10 = .ok (.aload_n 0, 1) := dk_42 (dk_at dksX8_drift_0 10 rfl rfl)
theorem dX8_drift_11 : decode cX8_drift 11 = .ok (.iload_n 1, 1) := dk_27 (dk_at dksX8_drift_0 11 rfl rfl)
theorem dX8_drift_12 : decode cX8_drift 12 = .ok (.invokevirtual 486, 3) := dk_182 1 230 (dk_at dksX8_drift_0 12 rfl rfl)
theorem dX8_drift_15 : decode cX8_drift 15 = .ok (.invokevirtual 480, 3) := dk_182 1 224 (dk_at dksX8_drift_0 15 rfl rfl)
theorem dX8_drift_18 : decode cX8_drift 18 = .ok (.ifCond .eq 12, 3) := dk_153 0 12 (dk_at dksX8_drift_0 18 rfl rfl)
theorem dX8_drift_21 : decode cX8_drift 21 = .ok (.aload_n 0, 1) := dk_42 (dk_at dksX8_drift_0 21 rfl rfl)
theorem dX8_drift_22 : decode cX8_drift 22 = .ok (.getfield 87, 3) := dk_180 0 87 (dk_at dksX8_drift_1 0 rfl rfl)
theorem dX8_drift_25 : decode cX8_drift 25 = .ok (.iload_n 1, 1) := dk_27 (dk_at dksX8_drift_1 3 rfl rfl)
theorem dX8_drift_26 : decode cX8_drift 26 = .ok (.iaload, 1) := dk_46 (dk_at dksX8_drift_1 4 rfl rfl)
theorem dX8_drift_27 : decode cX8_drift 27 = .ok (.goto 4, 3) := dk_167 0 4 (dk_at dksX8_drift_1 5 rfl rfl)
theorem dX8_drift_30 : decode cX8_drift 30 = .ok (.iconst (-1), 1) := dk_2 (dk_at dksX8_drift_1 8 rfl rfl)
theorem dX8_drift_31 : decode cX8_drift 31 = .ok (.ireturn, 1) := dk_172 (dk_at dksX8_drift_1 9 rfl rfl)
abbrev cX8_unsteered : ByteArray := prog_20_method_79_code
def yX8_unsteered : MethodName := ⟨RX8, "unsteered", "(I)I"⟩
def dkwX8_unsteered_0 : List UInt8 := [6, 42, 27, 182, 1, 218, 184, 1, 221, 4, 100, 5, 108, 172]
abbrev dktX8_unsteered_0 : List UInt8 := dkwX8_unsteered_0 ++ []
theorem dksX8_unsteered_0 : cX8_unsteered.data.toList.drop 0 = dktX8_unsteered_0 := by decide +kernel
theorem dX8_unsteered_0 : decode cX8_unsteered 0 = .ok (.iconst 3, 1) := dk_6 (dk_at dksX8_unsteered_0 0 rfl rfl)
theorem dX8_unsteered_1 : decode cX8_unsteered 1 = .ok (.aload_n 0, 1) := dk_42 (dk_at dksX8_unsteered_0 1 rfl rfl)
theorem dX8_unsteered_2 : decode cX8_unsteered 2 = .ok (.iload_n 1, 1) := dk_27 (dk_at dksX8_unsteered_0 2 rfl rfl)
theorem dX8_unsteered_3 : decode cX8_unsteered 3 = .ok (.invokevirtual 474, 3) := dk_182 1 218 (dk_at dksX8_unsteered_0 3 rfl rfl)
theorem dX8_unsteered_6 : decode cX8_unsteered 6 = .ok (.invokestatic 477, 3) := dk_184 1 221 (dk_at dksX8_unsteered_0 6 rfl rfl)
theorem dX8_unsteered_9 : decode cX8_unsteered 9 = .ok (.iconst 1, 1) := dk_4 (dk_at dksX8_unsteered_0 9 rfl rfl)
theorem dX8_unsteered_10 : decode cX8_unsteered 10 = .ok (.isub, 1) := dk_100 (dk_at dksX8_unsteered_0 10 rfl rfl)
theorem dX8_unsteered_11 : decode cX8_unsteered 11 = .ok (.iconst 2, 1) := dk_5 (dk_at dksX8_unsteered_0 11 rfl rfl)
theorem dX8_unsteered_12 : decode cX8_unsteered 12 = .ok (.idiv, 1) := dk_108 (dk_at dksX8_unsteered_0 12 rfl rfl)
theorem dX8_unsteered_13 : decode cX8_unsteered 13 = .ok (.ireturn, 1) := dk_172 (dk_at dksX8_unsteered_0 13 rfl rfl)
abbrev cX8_coolest : ByteArray := prog_20_method_81_code
def yX8_coolest : MethodName := ⟨RX8, "coolest", "(II)I"⟩
def dkwX8_coolest_6 : List UInt8 := [16, 100, 108, 167, 0, 17, 28, 4, 160, 0, 10, 29, 16, 100, 112, 167, 0, 5, 21, 4, 172]
abbrev dktX8_coolest_6 : List UInt8 := dkwX8_coolest_6 ++ []
def dkwX8_coolest_5 : List UInt8 := [182, 1, 234, 132, 5, 1, 167, 255, 167, 21, 4, 156, 0, 7, 2, 167, 0, 28, 28, 154, 0, 10, 29]
abbrev dktX8_coolest_5 : List UInt8 := dkwX8_coolest_5 ++ dktX8_coolest_6
def dkwX8_coolest_4 : List UInt8 := [21, 6, 29, 161, 0, 6, 167, 0, 19, 21, 6, 62, 42, 180, 0, 87, 27, 46, 54, 4, 42, 27]
abbrev dktX8_coolest_4 : List UInt8 := dkwX8_coolest_4 ++ dktX8_coolest_5
def dkwX8_coolest_3 : List UInt8 := [42, 180, 0, 84, 16, 12, 27, 96, 46, 100, 104, 42, 180, 0, 87, 16, 8, 27, 96, 46, 96, 54, 6]
abbrev dktX8_coolest_3 : List UInt8 := dkwX8_coolest_3 ++ dktX8_coolest_4
def dkwX8_coolest_2 : List UInt8 := [42, 27, 21, 5, 182, 1, 224, 154, 0, 6, 167, 0, 62, 16, 100, 42, 180, 0, 87, 16, 12, 27, 96, 46]
abbrev dktX8_coolest_2 : List UInt8 := dkwX8_coolest_2 ++ dktX8_coolest_3
def dkwX8_coolest_1 : List UInt8 := [19, 1, 233, 62, 2, 54, 4, 3, 54, 5, 21, 5, 6, 42, 27, 182, 1, 218, 184, 1, 221, 162, 0, 81]
abbrev dktX8_coolest_1 : List UInt8 := dkwX8_coolest_1 ++ dktX8_coolest_2
def dkwX8_coolest_0 : List UInt8 := [42, 3, 181, 1, 167, 42, 27, 182, 1, 188, 153, 0, 12, 28, 3, 5, 184, 1, 170, 154, 0, 5, 2, 172]
abbrev dktX8_coolest_0 : List UInt8 := dkwX8_coolest_0 ++ dktX8_coolest_1
theorem dksX8_coolest_0 : cX8_coolest.data.toList.drop 0 = dktX8_coolest_0 := by decide +kernel
theorem dksX8_coolest_1 : cX8_coolest.data.toList.drop 24 = dktX8_coolest_1 := dk_seg dksX8_coolest_0 24 rfl rfl
theorem dksX8_coolest_2 : cX8_coolest.data.toList.drop 48 = dktX8_coolest_2 := dk_seg dksX8_coolest_1 24 rfl rfl
theorem dksX8_coolest_3 : cX8_coolest.data.toList.drop 72 = dktX8_coolest_3 := dk_seg dksX8_coolest_2 24 rfl rfl
theorem dksX8_coolest_4 : cX8_coolest.data.toList.drop 95 = dktX8_coolest_4 := dk_seg dksX8_coolest_3 23 rfl rfl
theorem dksX8_coolest_5 : cX8_coolest.data.toList.drop 117 = dktX8_coolest_5 := dk_seg dksX8_coolest_4 22 rfl rfl
theorem dksX8_coolest_6 : cX8_coolest.data.toList.drop 140 = dktX8_coolest_6 := dk_seg dksX8_coolest_5 23 rfl rfl
theorem dX8_coolest_0 : decode cX8_coolest 0 = .ok (.aload_n 0, 1) := dk_42 (dk_at dksX8_coolest_0 0 rfl rfl)
theorem dX8_coolest_1 : decode cX8_coolest 1 = .ok (.iconst 0, 1) := dk_3 (dk_at dksX8_coolest_0 1 rfl rfl)
theorem dX8_coolest_2 : decode cX8_coolest 2 = .ok (.putfield 423, 3) := dk_181 1 167 (dk_at dksX8_coolest_0 2 rfl rfl)
theorem dX8_coolest_5 : decode cX8_coolest 5 = .ok (.aload_n 0, 1) := dk_42 (dk_at dksX8_coolest_0 5 rfl rfl)
theorem dX8_coolest_6 : decode cX8_coolest 6 = .ok (.iload_n 1, 1) := dk_27 (dk_at dksX8_coolest_0 6 rfl rfl)
theorem dX8_coolest_7 : decode cX8_coolest 7 = .ok (.invokevirtual 444, 3) := dk_182 1 188 (dk_at dksX8_coolest_0 7 rfl rfl)
theorem dX8_coolest_10 : decode cX8_coolest 10 = .ok (.ifCond .eq 12, 3) := dk_153 0 12 (dk_at dksX8_coolest_0 10 rfl rfl)
theorem dX8_coolest_13 : decode cX8_coolest 13 = .ok (.iload_n 2, 1) := dk_28 (dk_at dksX8_coolest_0 13 rfl rfl)
theorem dX8_coolest_14 : decode cX8_coolest 14 = .ok (.iconst 0, 1) := dk_3 (dk_at dksX8_coolest_0 14 rfl rfl)
theorem dX8_coolest_15 : decode cX8_coolest 15 = .ok (.iconst 2, 1) := dk_5 (dk_at dksX8_coolest_0 15 rfl rfl)
theorem dX8_coolest_16 : decode cX8_coolest 16 = .ok (.invokestatic 426, 3) := dk_184 1 170 (dk_at dksX8_coolest_0 16 rfl rfl)
theorem dX8_coolest_19 : decode cX8_coolest 19 = .ok (.ifCond .ne 5, 3) := dk_154 0 5 (dk_at dksX8_coolest_0 19 rfl rfl)
theorem dX8_coolest_22 : decode cX8_coolest 22 = .ok (.iconst (-1), 1) := dk_2 (dk_at dksX8_coolest_0 22 rfl rfl)
theorem dX8_coolest_23 : decode cX8_coolest 23 = .ok (.ireturn, 1) := dk_172 (dk_at dksX8_coolest_0 23 rfl rfl)
theorem dX8_coolest_24 : decode cX8_coolest 24 = .ok (.ldc_w 489, 3) := dk_19 1 233 (dk_at dksX8_coolest_1 0 rfl rfl)
theorem dX8_coolest_27 : decode cX8_coolest 27 = .ok (.istore_n 3, 1) := dk_62 (dk_at dksX8_coolest_1 3 rfl rfl)
theorem dX8_coolest_28 : decode cX8_coolest 28 = .ok (.iconst (-1), 1) := dk_2 (dk_at dksX8_coolest_1 4 rfl rfl)
theorem dX8_coolest_29 : decode cX8_coolest 29 = .ok (.istore 4, 2) := dk_54 4 (dk_at dksX8_coolest_1 5 rfl rfl)
theorem dX8_coolest_31 : decode cX8_coolest 31 = .ok (.iconst 0, 1) := dk_3 (dk_at dksX8_coolest_1 7 rfl rfl)
theorem dX8_coolest_32 : decode cX8_coolest 32 = .ok (.istore 5, 2) := dk_54 5 (dk_at dksX8_coolest_1 8 rfl rfl)
theorem dX8_coolest_34 : decode cX8_coolest 34 = .ok (.iload 5, 2) := dk_21 5 (dk_at dksX8_coolest_1 10 rfl rfl)
theorem dX8_coolest_36 : decode cX8_coolest 36 = .ok (.iconst 3, 1) := dk_6 (dk_at dksX8_coolest_1 12 rfl rfl)
theorem dX8_coolest_37 : decode cX8_coolest 37 = .ok (.aload_n 0, 1) := dk_42 (dk_at dksX8_coolest_1 13 rfl rfl)
theorem dX8_coolest_38 : decode cX8_coolest 38 = .ok (.iload_n 1, 1) := dk_27 (dk_at dksX8_coolest_1 14 rfl rfl)
theorem dX8_coolest_39 : decode cX8_coolest 39 = .ok (.invokevirtual 474, 3) := dk_182 1 218 (dk_at dksX8_coolest_1 15 rfl rfl)
theorem dX8_coolest_42 : decode cX8_coolest 42 = .ok (.invokestatic 477, 3) := dk_184 1 221 (dk_at dksX8_coolest_1 18 rfl rfl)
theorem dX8_coolest_45 : decode cX8_coolest 45 = .ok (.if_icmp .ge 81, 3) := dk_162 0 81 (dk_at dksX8_coolest_1 21 rfl rfl)
theorem dX8_coolest_48 : decode cX8_coolest 48 = .ok (.aload_n 0, 1) := dk_42 (dk_at dksX8_coolest_2 0 rfl rfl)
theorem dX8_coolest_49 : decode cX8_coolest 49 = .ok (.iload_n 1, 1) := dk_27 (dk_at dksX8_coolest_2 1 rfl rfl)
theorem dX8_coolest_50 : decode cX8_coolest 50 = .ok (.iload 5, 2) := dk_21 5 (dk_at dksX8_coolest_2 2 rfl rfl)
theorem dX8_coolest_52 : decode cX8_coolest 52 = .ok (.invokevirtual 480, 3) := dk_182 1 224 (dk_at dksX8_coolest_2 4 rfl rfl)
theorem dX8_coolest_55 : decode cX8_coolest 55 = .ok (.ifCond .ne 6, 3) := dk_154 0 6 (dk_at dksX8_coolest_2 7 rfl rfl)
theorem dX8_coolest_58 : decode cX8_coolest 58 = .ok (.goto 62, 3) := dk_167 0 62 (dk_at dksX8_coolest_2 10 rfl rfl)
theorem dX8_coolest_61 : decode cX8_coolest 61 = .ok (.bipush 100, 2) := dk_16 100 (dk_at dksX8_coolest_2 13 rfl rfl)
theorem dX8_coolest_63 : decode cX8_coolest 63 = .ok (.aload_n 0, 1) := dk_42 (dk_at dksX8_coolest_2 15 rfl rfl)
theorem dX8_coolest_64 : decode cX8_coolest 64 = .ok (.getfield 87, 3) := dk_180 0 87 (dk_at dksX8_coolest_2 16 rfl rfl)
theorem dX8_coolest_67 : decode cX8_coolest 67 = .ok (.bipush 12, 2) := dk_16 12 (dk_at dksX8_coolest_2 19 rfl rfl)
theorem dX8_coolest_69 : decode cX8_coolest 69 = .ok (.iload_n 1, 1) := dk_27 (dk_at dksX8_coolest_2 21 rfl rfl)
theorem dX8_coolest_70 : decode cX8_coolest 70 = .ok (.iadd, 1) := dk_96 (dk_at dksX8_coolest_2 22 rfl rfl)
theorem dX8_coolest_71 : decode cX8_coolest 71 = .ok (.iaload, 1) := dk_46 (dk_at dksX8_coolest_2 23 rfl rfl)
theorem dX8_coolest_72 : decode cX8_coolest 72 = .ok (.aload_n 0, 1) := dk_42 (dk_at dksX8_coolest_3 0 rfl rfl)
theorem dX8_coolest_73 : decode cX8_coolest 73 = .ok (.getfield 84, 3) := dk_180 0 84 (dk_at dksX8_coolest_3 1 rfl rfl)
theorem dX8_coolest_76 : decode cX8_coolest 76 = .ok (.bipush 12, 2) := dk_16 12 (dk_at dksX8_coolest_3 4 rfl rfl)
theorem dX8_coolest_78 : decode cX8_coolest 78 = .ok (.iload_n 1, 1) := dk_27 (dk_at dksX8_coolest_3 6 rfl rfl)
theorem dX8_coolest_79 : decode cX8_coolest 79 = .ok (.iadd, 1) := dk_96 (dk_at dksX8_coolest_3 7 rfl rfl)
theorem dX8_coolest_80 : decode cX8_coolest 80 = .ok (.iaload, 1) := dk_46 (dk_at dksX8_coolest_3 8 rfl rfl)
theorem dX8_coolest_81 : decode cX8_coolest 81 = .ok (.isub, 1) := dk_100 (dk_at dksX8_coolest_3 9 rfl rfl)
theorem dX8_coolest_82 : decode cX8_coolest 82 = .ok (.imul, 1) := dk_104 (dk_at dksX8_coolest_3 10 rfl rfl)
theorem dX8_coolest_83 : decode cX8_coolest 83 = .ok (.aload_n 0, 1) := dk_42 (dk_at dksX8_coolest_3 11 rfl rfl)
theorem dX8_coolest_84 : decode cX8_coolest 84 = .ok (.getfield 87, 3) := dk_180 0 87 (dk_at dksX8_coolest_3 12 rfl rfl)
theorem dX8_coolest_87 : decode cX8_coolest 87 = .ok (.bipush 8, 2) := dk_16 8 (dk_at dksX8_coolest_3 15 rfl rfl)
theorem dX8_coolest_89 : decode cX8_coolest 89 = .ok (.iload_n 1, 1) := dk_27 (dk_at dksX8_coolest_3 17 rfl rfl)
theorem dX8_coolest_90 : decode cX8_coolest 90 = .ok (.iadd, 1) := dk_96 (dk_at dksX8_coolest_3 18 rfl rfl)
theorem dX8_coolest_91 : decode cX8_coolest 91 = .ok (.iaload, 1) := dk_46 (dk_at dksX8_coolest_3 19 rfl rfl)
theorem dX8_coolest_92 : decode cX8_coolest 92 = .ok (.iadd, 1) := dk_96 (dk_at dksX8_coolest_3 20 rfl rfl)
theorem dX8_coolest_93 : decode cX8_coolest 93 = .ok (.istore 6, 2) := dk_54 6 (dk_at dksX8_coolest_3 21 rfl rfl)
theorem dX8_coolest_95 : decode cX8_coolest 95 = .ok (.iload 6, 2) := dk_21 6 (dk_at dksX8_coolest_4 0 rfl rfl)
theorem dX8_coolest_97 : decode cX8_coolest 97 = .ok (.iload_n 3, 1) := dk_29 (dk_at dksX8_coolest_4 2 rfl rfl)
theorem dX8_coolest_98 : decode cX8_coolest 98 = .ok (.if_icmp .lt 6, 3) := dk_161 0 6 (dk_at dksX8_coolest_4 3 rfl rfl)
theorem dX8_coolest_101 : decode cX8_coolest 101 = .ok (.goto 19, 3) := dk_167 0 19 (dk_at dksX8_coolest_4 6 rfl rfl)
theorem dX8_coolest_104 : decode cX8_coolest 104 = .ok (.iload 6, 2) := dk_21 6 (dk_at dksX8_coolest_4 9 rfl rfl)
theorem dX8_coolest_106 : decode cX8_coolest 106 = .ok (.istore_n 3, 1) := dk_62 (dk_at dksX8_coolest_4 11 rfl rfl)
theorem dX8_coolest_107 : decode cX8_coolest 107 = .ok (.aload_n 0, 1) := dk_42 (dk_at dksX8_coolest_4 12 rfl rfl)
theorem dX8_coolest_108 : decode cX8_coolest 108 = .ok (.getfield 87, 3) := dk_180 0 87 (dk_at dksX8_coolest_4 13 rfl rfl)
theorem dX8_coolest_111 : decode cX8_coolest 111 = .ok (.iload_n 1, 1) := dk_27 (dk_at dksX8_coolest_4 16 rfl rfl)
theorem dX8_coolest_112 : decode cX8_coolest 112 = .ok (.iaload, 1) := dk_46 (dk_at dksX8_coolest_4 17 rfl rfl)
theorem dX8_coolest_113 : decode cX8_coolest 113 = .ok (.istore 4, 2) := dk_54 4 (dk_at dksX8_coolest_4 18 rfl rfl)
theorem dX8_coolest_115 : decode cX8_coolest 115 = .ok (.aload_n 0, 1) := dk_42 (dk_at dksX8_coolest_4 20 rfl rfl)
theorem dX8_coolest_116 : decode cX8_coolest 116 = .ok (.iload_n 1, 1) := dk_27 (dk_at dksX8_coolest_4 21 rfl rfl)
theorem dX8_coolest_117 : decode cX8_coolest 117 = .ok (.invokevirtual 490, 3) := dk_182 1 234 (dk_at dksX8_coolest_5 0 rfl rfl)
theorem dX8_coolest_120 : decode cX8_coolest 120 = .ok (.iinc 5 1, 3) := dk_132 5 1 (dk_at dksX8_coolest_5 3 rfl rfl)
theorem dX8_coolest_123 : decode cX8_coolest 123 = .ok (.goto (-89), 3) := dk_167 255 167 (dk_at dksX8_coolest_5 6 rfl rfl)
theorem dX8_coolest_126 : decode cX8_coolest 126 = .ok (.iload 4, 2) := dk_21 4 (dk_at dksX8_coolest_5 9 rfl rfl)
theorem dX8_coolest_128 : decode cX8_coolest 128 = .ok (.ifCond .ge 7, 3) := dk_156 0 7 (dk_at dksX8_coolest_5 11 rfl rfl)
theorem dX8_coolest_131 : decode cX8_coolest 131 = .ok (.iconst (-1), 1) := dk_2 (dk_at dksX8_coolest_5 14 rfl rfl)
theorem dX8_coolest_132 : decode cX8_coolest 132 = .ok (.goto 28, 3) := dk_167 0 28 (dk_at dksX8_coolest_5 15 rfl rfl)
theorem dX8_coolest_135 : decode cX8_coolest 135 = .ok (.iload_n 2, 1) := dk_28 (dk_at dksX8_coolest_5 18 rfl rfl)
theorem dX8_coolest_136 : decode cX8_coolest 136 = .ok (.ifCond .ne 10, 3) := dk_154 0 10 (dk_at dksX8_coolest_5 19 rfl rfl)
theorem dX8_coolest_139 : decode cX8_coolest 139 = .ok (.iload_n 3, 1) := dk_29 (dk_at dksX8_coolest_5 22 rfl rfl)
theorem dX8_coolest_140 : decode cX8_coolest 140 = .ok (.bipush 100, 2) := dk_16 100 (dk_at dksX8_coolest_6 0 rfl rfl)
theorem dX8_coolest_142 : decode cX8_coolest 142 = .ok (.idiv, 1) := dk_108 (dk_at dksX8_coolest_6 2 rfl rfl)
theorem dX8_coolest_143 : decode cX8_coolest 143 = .ok (.goto 17, 3) := dk_167 0 17 (dk_at dksX8_coolest_6 3 rfl rfl)
theorem dX8_coolest_146 : decode cX8_coolest 146 = .ok (.iload_n 2, 1) := dk_28 (dk_at dksX8_coolest_6 6 rfl rfl)
theorem dX8_coolest_147 : decode cX8_coolest 147 = .ok (.iconst 1, 1) := dk_4 (dk_at dksX8_coolest_6 7 rfl rfl)
theorem dX8_coolest_148 : decode cX8_coolest 148 = .ok (.if_icmp .ne 10, 3) := dk_160 0 10 (dk_at dksX8_coolest_6 8 rfl rfl)
theorem dX8_coolest_151 : decode cX8_coolest 151 = .ok (.iload_n 3, 1) := dk_29 (dk_at dksX8_coolest_6 11 rfl rfl)
theorem dX8_coolest_152 : decode cX8_coolest 152 = .ok (.bipush 100, 2) := dk_16 100 (dk_at dksX8_coolest_6 12 rfl rfl)
theorem dX8_coolest_154 : decode cX8_coolest 154 = .ok (.irem, 1) := dk_112 (dk_at dksX8_coolest_6 14 rfl rfl)
theorem dX8_coolest_155 : decode cX8_coolest 155 = .ok (.goto 5, 3) := dk_167 0 5 (dk_at dksX8_coolest_6 15 rfl rfl)
theorem dX8_coolest_158 : decode cX8_coolest 158 = .ok (.iload 4, 2) := dk_21 4 (dk_at dksX8_coolest_6 18 rfl rfl)
theorem dX8_coolest_160 : decode cX8_coolest 160 = .ok (.ireturn, 1) := dk_172 (dk_at dksX8_coolest_6 20 rfl rfl)
abbrev cX8_putSteers : ByteArray := prog_20_method_75_code
def yX8_putSteers : MethodName := ⟨RX8, "putSteers", "(I)V"⟩
def dkwX8_putSteers_1 : List UInt8 := [42, 180, 0, 93, 28, 46, 79, 132, 2, 1, 167, 255, 233, 177]
abbrev dktX8_putSteers_1 : List UInt8 := dkwX8_putSteers_1 ++ []
def dkwX8_putSteers_0 : List UInt8 := [42, 42, 27, 182, 1, 218, 181, 1, 167, 3, 61, 28, 42, 180, 1, 167, 162, 0, 21, 42, 180, 0, 96, 28]
abbrev dktX8_putSteers_0 : List UInt8 := dkwX8_putSteers_0 ++ dktX8_putSteers_1
theorem dksX8_putSteers_0 : cX8_putSteers.data.toList.drop 0 = dktX8_putSteers_0 := by decide +kernel
theorem dksX8_putSteers_1 : cX8_putSteers.data.toList.drop 24 = dktX8_putSteers_1 := dk_seg dksX8_putSteers_0 24 rfl rfl
theorem dX8_putSteers_0 : decode cX8_putSteers 0 = .ok (.aload_n 0, 1) := dk_42 (dk_at dksX8_putSteers_0 0 rfl rfl)
theorem dX8_putSteers_1 : decode cX8_putSteers 1 = .ok (.aload_n 0, 1) := dk_42 (dk_at dksX8_putSteers_0 1 rfl rfl)
theorem dX8_putSteers_2 : decode cX8_putSteers 2 = .ok (.iload_n 1, 1) := dk_27 (dk_at dksX8_putSteers_0 2 rfl rfl)
theorem dX8_putSteers_3 : decode cX8_putSteers 3 = .ok (.invokevirtual 474, 3) := dk_182 1 218 (dk_at dksX8_putSteers_0 3 rfl rfl)
theorem dX8_putSteers_6 : decode cX8_putSteers 6 = .ok (.putfield 423, 3) := dk_181 1 167 (dk_at dksX8_putSteers_0 6 rfl rfl)
theorem dX8_putSteers_9 : decode cX8_putSteers 9 = .ok (.iconst 0, 1) := dk_3 (dk_at dksX8_putSteers_0 9 rfl rfl)
theorem dX8_putSteers_10 : decode cX8_putSteers 10 = .ok (.istore_n 2, 1) := dk_61 (dk_at dksX8_putSteers_0 10 rfl rfl)
theorem dX8_putSteers_11 : decode cX8_putSteers 11 = .ok (.iload_n 2, 1) := dk_28 (dk_at dksX8_putSteers_0 11 rfl rfl)
theorem dX8_putSteers_12 : decode cX8_putSteers 12 = .ok (.aload_n 0, 1) := dk_42 (dk_at dksX8_putSteers_0 12 rfl rfl)
theorem dX8_putSteers_13 : decode cX8_putSteers 13 = .ok (.getfield 423, 3) := dk_180 1 167 (dk_at dksX8_putSteers_0 13 rfl rfl)
theorem dX8_putSteers_16 : decode cX8_putSteers 16 = .ok (.if_icmp .ge 21, 3) := dk_162 0 21 (dk_at dksX8_putSteers_0 16 rfl rfl)
theorem dX8_putSteers_19 : decode cX8_putSteers 19 = .ok (.aload_n 0, 1) := dk_42 (dk_at dksX8_putSteers_0 19 rfl rfl)
theorem dX8_putSteers_20 : decode cX8_putSteers 20 = .ok (.getfield 96, 3) := dk_180 0 96 (dk_at dksX8_putSteers_0 20 rfl rfl)
theorem dX8_putSteers_23 : decode cX8_putSteers 23 = .ok (.iload_n 2, 1) := dk_28 (dk_at dksX8_putSteers_0 23 rfl rfl)
theorem dX8_putSteers_24 : decode cX8_putSteers 24 = .ok (.aload_n 0, 1) := dk_42 (dk_at dksX8_putSteers_1 0 rfl rfl)
theorem dX8_putSteers_25 : decode cX8_putSteers 25 = .ok (.getfield 93, 3) := dk_180 0 93 (dk_at dksX8_putSteers_1 1 rfl rfl)
theorem dX8_putSteers_28 : decode cX8_putSteers 28 = .ok (.iload_n 2, 1) := dk_28 (dk_at dksX8_putSteers_1 4 rfl rfl)
theorem dX8_putSteers_29 : decode cX8_putSteers 29 = .ok (.iaload, 1) := dk_46 (dk_at dksX8_putSteers_1 5 rfl rfl)
theorem dX8_putSteers_30 : decode cX8_putSteers 30 = .ok (.iastore, 1) := dk_79 (dk_at dksX8_putSteers_1 6 rfl rfl)
theorem dX8_putSteers_31 : decode cX8_putSteers 31 = .ok (.iinc 2 1, 3) := dk_132 2 1 (dk_at dksX8_putSteers_1 7 rfl rfl)
theorem dX8_putSteers_34 : decode cX8_putSteers 34 = .ok (.goto (-23), 3) := dk_167 255 233 (dk_at dksX8_putSteers_1 10 rfl rfl)
theorem dX8_putSteers_37 : decode cX8_putSteers 37 = .ok (.return_, 1) := dk_177 (dk_at dksX8_putSteers_1 13 rfl rfl)
abbrev cX8_straight : ByteArray := prog_20_method_83_code
def yX8_straight : MethodName := ⟨RX8, "straight", "(II)I"⟩
def dkwX8_straight_5 : List UInt8 := [172]
abbrev dktX8_straight_5 : List UInt8 := dkwX8_straight_5 ++ []
def dkwX8_straight_4 : List UInt8 := [62, 42, 27, 182, 1, 234, 132, 4, 1, 167, 255, 188, 29, 19, 1, 233, 160, 0, 7, 2, 167, 0, 4, 29]
abbrev dktX8_straight_4 : List UInt8 := dkwX8_straight_4 ++ dktX8_straight_5
def dkwX8_straight_3 : List UInt8 := [42, 27, 182, 1, 218, 182, 1, 237, 29, 161, 0, 6, 167, 0, 18, 42, 42, 27, 182, 1, 218, 182, 1, 237]
abbrev dktX8_straight_3 : List UInt8 := dkwX8_straight_3 ++ dktX8_straight_4
def dkwX8_straight_2 : List UInt8 := [162, 0, 60, 42, 27, 21, 4, 182, 1, 224, 153, 0, 44, 42, 180, 0, 87, 27, 46, 28, 160, 0, 34, 42]
abbrev dktX8_straight_2 : List UInt8 := dkwX8_straight_2 ++ dktX8_straight_3
def dkwX8_straight_1 : List UInt8 := [154, 0, 5, 2, 172, 19, 1, 233, 62, 3, 54, 4, 21, 4, 6, 42, 27, 182, 1, 218, 184, 1, 221]
abbrev dktX8_straight_1 : List UInt8 := dkwX8_straight_1 ++ dktX8_straight_2
def dkwX8_straight_0 : List UInt8 := [42, 3, 181, 1, 167, 42, 27, 182, 1, 188, 153, 0, 17, 28, 3, 42, 180, 0, 78, 4, 100, 184, 1, 170]
abbrev dktX8_straight_0 : List UInt8 := dkwX8_straight_0 ++ dktX8_straight_1
theorem dksX8_straight_0 : cX8_straight.data.toList.drop 0 = dktX8_straight_0 := by decide +kernel
theorem dksX8_straight_1 : cX8_straight.data.toList.drop 24 = dktX8_straight_1 := dk_seg dksX8_straight_0 24 rfl rfl
theorem dksX8_straight_2 : cX8_straight.data.toList.drop 47 = dktX8_straight_2 := dk_seg dksX8_straight_1 23 rfl rfl
theorem dksX8_straight_3 : cX8_straight.data.toList.drop 71 = dktX8_straight_3 := dk_seg dksX8_straight_2 24 rfl rfl
theorem dksX8_straight_4 : cX8_straight.data.toList.drop 95 = dktX8_straight_4 := dk_seg dksX8_straight_3 24 rfl rfl
theorem dksX8_straight_5 : cX8_straight.data.toList.drop 119 = dktX8_straight_5 := dk_seg dksX8_straight_4 24 rfl rfl
theorem dX8_straight_0 : decode cX8_straight 0 = .ok (.aload_n 0, 1) := dk_42 (dk_at dksX8_straight_0 0 rfl rfl)
theorem dX8_straight_1 : decode cX8_straight 1 = .ok (.iconst 0, 1) := dk_3 (dk_at dksX8_straight_0 1 rfl rfl)
theorem dX8_straight_2 : decode cX8_straight 2 = .ok (.putfield 423, 3) := dk_181 1 167 (dk_at dksX8_straight_0 2 rfl rfl)
theorem dX8_straight_5 : decode cX8_straight 5 = .ok (.aload_n 0, 1) := dk_42 (dk_at dksX8_straight_0 5 rfl rfl)
theorem dX8_straight_6 : decode cX8_straight 6 = .ok (.iload_n 1, 1) := dk_27 (dk_at dksX8_straight_0 6 rfl rfl)
theorem dX8_straight_7 : decode cX8_straight 7 = .ok (.invokevirtual 444, 3) := dk_182 1 188 (dk_at dksX8_straight_0 7 rfl rfl)
theorem dX8_straight_10 : decode cX8_straight 10 = .ok (.ifCond .eq 17, 3) := dk_153 0 17 (dk_at dksX8_straight_0 10 rfl rfl)
theorem dX8_straight_13 : decode cX8_straight 13 = .ok (.iload_n 2, 1) := dk_28 (dk_at dksX8_straight_0 13 rfl rfl)
theorem dX8_straight_14 : decode cX8_straight 14 = .ok (.iconst 0, 1) := dk_3 (dk_at dksX8_straight_0 14 rfl rfl)
theorem dX8_straight_15 : decode cX8_straight 15 = .ok (.aload_n 0, 1) := dk_42 (dk_at dksX8_straight_0 15 rfl rfl)
theorem dX8_straight_16 : decode cX8_straight 16 = .ok (.getfield 78, 3) := dk_180 0 78 (dk_at dksX8_straight_0 16 rfl rfl)
theorem dX8_straight_19 : decode cX8_straight 19 = .ok (.iconst 1, 1) := dk_4 (dk_at dksX8_straight_0 19 rfl rfl)
theorem dX8_straight_20 : decode cX8_straight 20 = .ok (.isub, 1) := dk_100 (dk_at dksX8_straight_0 20 rfl rfl)
theorem dX8_straight_21 : decode cX8_straight 21 = .ok (.invokestatic 426, 3) := dk_184 1 170 (dk_at dksX8_straight_0 21 rfl rfl)
theorem dX8_straight_24 : decode cX8_straight 24 = .ok (.ifCond .ne 5, 3) := dk_154 0 5 (dk_at dksX8_straight_1 0 rfl rfl)
theorem dX8_straight_27 : decode cX8_straight 27 = .ok (.iconst (-1), 1) := dk_2 (dk_at dksX8_straight_1 3 rfl rfl)
theorem dX8_straight_28 : decode cX8_straight 28 = .ok (.ireturn, 1) := dk_172 (dk_at dksX8_straight_1 4 rfl rfl)
theorem dX8_straight_29 : decode cX8_straight 29 = .ok (.ldc_w 489, 3) := dk_19 1 233 (dk_at dksX8_straight_1 5 rfl rfl)
theorem dX8_straight_32 : decode cX8_straight 32 = .ok (.istore_n 3, 1) := dk_62 (dk_at dksX8_straight_1 8 rfl rfl)
theorem dX8_straight_33 : decode cX8_straight 33 = .ok (.iconst 0, 1) := dk_3 (dk_at dksX8_straight_1 9 rfl rfl)
theorem dX8_straight_34 : decode cX8_straight 34 = .ok (.istore 4, 2) := dk_54 4 (dk_at dksX8_straight_1 10 rfl rfl)
theorem dX8_straight_36 : decode cX8_straight 36 = .ok (.iload 4, 2) := dk_21 4 (dk_at dksX8_straight_1 12 rfl rfl)
theorem dX8_straight_38 : decode cX8_straight 38 = .ok (.iconst 3, 1) := dk_6 (dk_at dksX8_straight_1 14 rfl rfl)
theorem dX8_straight_39 : decode cX8_straight 39 = .ok (.aload_n 0, 1) := dk_42 (dk_at dksX8_straight_1 15 rfl rfl)
theorem dX8_straight_40 : decode cX8_straight 40 = .ok (.iload_n 1, 1) := dk_27 (dk_at dksX8_straight_1 16 rfl rfl)
theorem dX8_straight_41 : decode cX8_straight 41 = .ok (.invokevirtual 474, 3) := dk_182 1 218 (dk_at dksX8_straight_1 17 rfl rfl)
theorem dX8_straight_44 : decode cX8_straight 44 = .ok (.invokestatic 477, 3) := dk_184 1 221 (dk_at dksX8_straight_1 20 rfl rfl)
theorem dX8_straight_47 : decode cX8_straight 47 = .ok (.if_icmp .ge 60, 3) := dk_162 0 60 (dk_at dksX8_straight_2 0 rfl rfl)
theorem dX8_straight_50 : decode cX8_straight 50 = .ok (.aload_n 0, 1) := dk_42 (dk_at dksX8_straight_2 3 rfl rfl)
theorem dX8_straight_51 : decode cX8_straight 51 = .ok (.iload_n 1, 1) := dk_27 (dk_at dksX8_straight_2 4 rfl rfl)
theorem dX8_straight_52 : decode cX8_straight 52 = .ok (.iload 4, 2) := dk_21 4 (dk_at dksX8_straight_2 5 rfl rfl)
theorem dX8_straight_54 : decode cX8_straight 54 = .ok (.invokevirtual 480, 3) := dk_182 1 224 (dk_at dksX8_straight_2 7 rfl rfl)
theorem dX8_straight_57 : decode cX8_straight 57 = .ok (.ifCond .eq 44, 3) := dk_153 0 44 (dk_at dksX8_straight_2 10 rfl rfl)
theorem dX8_straight_60 : decode cX8_straight 60 = .ok (.aload_n 0, 1) := dk_42 (dk_at dksX8_straight_2 13 rfl rfl)
theorem dX8_straight_61 : decode cX8_straight 61 = .ok (.getfield 87, 3) := dk_180 0 87 (dk_at dksX8_straight_2 14 rfl rfl)
theorem dX8_straight_64 : decode cX8_straight 64 = .ok (.iload_n 1, 1) := dk_27 (dk_at dksX8_straight_2 17 rfl rfl)
theorem dX8_straight_65 : decode cX8_straight 65 = .ok (.iaload, 1) := dk_46 (dk_at dksX8_straight_2 18 rfl rfl)
theorem dX8_straight_66 : decode cX8_straight 66 = .ok (.iload_n 2, 1) := dk_28 (dk_at dksX8_straight_2 19 rfl rfl)
theorem dX8_straight_67 : decode cX8_straight 67 = .ok (.if_icmp .ne 34, 3) := dk_160 0 34 (dk_at dksX8_straight_2 20 rfl rfl)
theorem dX8_straight_70 : decode cX8_straight 70 = .ok (.aload_n 0, 1) := dk_42 (dk_at dksX8_straight_2 23 rfl rfl)
theorem dX8_straight_71 : decode cX8_straight 71 = .ok (.aload_n 0, 1) := dk_42 (dk_at dksX8_straight_3 0 rfl rfl)
theorem dX8_straight_72 : decode cX8_straight 72 = .ok (.iload_n 1, 1) := dk_27 (dk_at dksX8_straight_3 1 rfl rfl)
theorem dX8_straight_73 : decode cX8_straight 73 = .ok (.invokevirtual 474, 3) := dk_182 1 218 (dk_at dksX8_straight_3 2 rfl rfl)
theorem dX8_straight_76 : decode cX8_straight 76 = .ok (.invokevirtual 493, 3) := dk_182 1 237 (dk_at dksX8_straight_3 5 rfl rfl)
theorem dX8_straight_79 : decode cX8_straight 79 = .ok (.iload_n 3, 1) := dk_29 (dk_at dksX8_straight_3 8 rfl rfl)
theorem dX8_straight_80 : decode cX8_straight 80 = .ok (.if_icmp .lt 6, 3) := dk_161 0 6 (dk_at dksX8_straight_3 9 rfl rfl)
theorem dX8_straight_83 : decode cX8_straight 83 = .ok (.goto 18, 3) := dk_167 0 18 (dk_at dksX8_straight_3 12 rfl rfl)
theorem dX8_straight_86 : decode cX8_straight 86 = .ok (.aload_n 0, 1) := dk_42 (dk_at dksX8_straight_3 15 rfl rfl)
theorem dX8_straight_87 : decode cX8_straight 87 = .ok (.aload_n 0, 1) := dk_42 (dk_at dksX8_straight_3 16 rfl rfl)
theorem dX8_straight_88 : decode cX8_straight 88 = .ok (.iload_n 1, 1) := dk_27 (dk_at dksX8_straight_3 17 rfl rfl)
theorem dX8_straight_89 : decode cX8_straight 89 = .ok (.invokevirtual 474, 3) := dk_182 1 218 (dk_at dksX8_straight_3 18 rfl rfl)
theorem dX8_straight_92 : decode cX8_straight 92 = .ok (.invokevirtual 493, 3) := dk_182 1 237 (dk_at dksX8_straight_3 21 rfl rfl)
theorem dX8_straight_95 : decode cX8_straight 95 = .ok (.istore_n 3, 1) := dk_62 (dk_at dksX8_straight_4 0 rfl rfl)
theorem dX8_straight_96 : decode cX8_straight 96 = .ok (.aload_n 0, 1) := dk_42 (dk_at dksX8_straight_4 1 rfl rfl)
theorem dX8_straight_97 : decode cX8_straight 97 = .ok (.iload_n 1, 1) := dk_27 (dk_at dksX8_straight_4 2 rfl rfl)
theorem dX8_straight_98 : decode cX8_straight 98 = .ok (.invokevirtual 490, 3) := dk_182 1 234 (dk_at dksX8_straight_4 3 rfl rfl)
theorem dX8_straight_101 : decode cX8_straight 101 = .ok (.iinc 4 1, 3) := dk_132 4 1 (dk_at dksX8_straight_4 6 rfl rfl)
theorem dX8_straight_104 : decode cX8_straight 104 = .ok (.goto (-68), 3) := dk_167 255 188 (dk_at dksX8_straight_4 9 rfl rfl)
theorem dX8_straight_107 : decode cX8_straight 107 = .ok (.iload_n 3, 1) := dk_29 (dk_at dksX8_straight_4 12 rfl rfl)
theorem dX8_straight_108 : decode cX8_straight 108 = .ok (.ldc_w 489, 3) := dk_19 1 233 (dk_at dksX8_straight_4 13 rfl rfl)
theorem dX8_straight_111 : decode cX8_straight 111 = .ok (.if_icmp .ne 7, 3) := dk_160 0 7 (dk_at dksX8_straight_4 16 rfl rfl)
theorem dX8_straight_114 : decode cX8_straight 114 = .ok (.iconst (-1), 1) := dk_2 (dk_at dksX8_straight_4 19 rfl rfl)
theorem dX8_straight_115 : decode cX8_straight 115 = .ok (.goto 4, 3) := dk_167 0 4 (dk_at dksX8_straight_4 20 rfl rfl)
theorem dX8_straight_118 : decode cX8_straight 118 = .ok (.iload_n 3, 1) := dk_29 (dk_at dksX8_straight_4 23 rfl rfl)
theorem dX8_straight_119 : decode cX8_straight 119 = .ok (.ireturn, 1) := dk_172 (dk_at dksX8_straight_5 0 rfl rfl)
abbrev cX8_turned : ByteArray := prog_20_method_82_code
def yX8_turned : MethodName := ⟨RX8, "turned", "(I)I"⟩
def dkwX8_turned_1 : List UInt8 := [184, 1, 61, 96, 61, 132, 3, 1, 167, 255, 228, 28, 172]
abbrev dktX8_turned_1 : List UInt8 := dkwX8_turned_1 ++ []
def dkwX8_turned_0 : List UInt8 := [3, 61, 3, 62, 29, 27, 162, 0, 29, 28, 42, 180, 0, 93, 29, 46, 153, 0, 7, 4, 167, 0, 4, 3]
abbrev dktX8_turned_0 : List UInt8 := dkwX8_turned_0 ++ dktX8_turned_1
theorem dksX8_turned_0 : cX8_turned.data.toList.drop 0 = dktX8_turned_0 := by decide +kernel
theorem dksX8_turned_1 : cX8_turned.data.toList.drop 24 = dktX8_turned_1 := dk_seg dksX8_turned_0 24 rfl rfl
theorem dX8_turned_0 : decode cX8_turned 0 = .ok (.iconst 0, 1) := dk_3 (dk_at dksX8_turned_0 0 rfl rfl)
theorem dX8_turned_1 : decode cX8_turned 1 = .ok (.istore_n 2, 1) := dk_61 (dk_at dksX8_turned_0 1 rfl rfl)
theorem dX8_turned_2 : decode cX8_turned 2 = .ok (.iconst 0, 1) := dk_3 (dk_at dksX8_turned_0 2 rfl rfl)
theorem dX8_turned_3 : decode cX8_turned 3 = .ok (.istore_n 3, 1) := dk_62 (dk_at dksX8_turned_0 3 rfl rfl)
theorem dX8_turned_4 : decode cX8_turned 4 = .ok (.iload_n 3, 1) := dk_29 (dk_at dksX8_turned_0 4 rfl rfl)
theorem dX8_turned_5 : decode cX8_turned 5 = .ok (.iload_n 1, 1) := dk_27 (dk_at dksX8_turned_0 5 rfl rfl)
theorem dX8_turned_6 : decode cX8_turned 6 = .ok (.if_icmp .ge 29, 3) := dk_162 0 29 (dk_at dksX8_turned_0 6 rfl rfl)
theorem dX8_turned_9 : decode cX8_turned 9 = .ok (.iload_n 2, 1) := dk_28 (dk_at dksX8_turned_0 9 rfl rfl)
theorem dX8_turned_10 : decode cX8_turned 10 = .ok (.aload_n 0, 1) := dk_42 (dk_at dksX8_turned_0 10 rfl rfl)
theorem dX8_turned_11 : decode cX8_turned 11 = .ok (.getfield 93, 3) := dk_180 0 93 (dk_at dksX8_turned_0 11 rfl rfl)
theorem dX8_turned_14 : decode cX8_turned 14 = .ok (.iload_n 3, 1) := dk_29 (dk_at dksX8_turned_0 14 rfl rfl)
theorem dX8_turned_15 : decode cX8_turned 15 = .ok (.iaload, 1) := dk_46 (dk_at dksX8_turned_0 15 rfl rfl)
theorem dX8_turned_16 : decode cX8_turned 16 = .ok (.ifCond .eq 7, 3) := dk_153 0 7 (dk_at dksX8_turned_0 16 rfl rfl)
theorem dX8_turned_19 : decode cX8_turned 19 = .ok (.iconst 1, 1) := dk_4 (dk_at dksX8_turned_0 19 rfl rfl)
theorem dX8_turned_20 : decode cX8_turned 20 = .ok (.goto 4, 3) := dk_167 0 4 (dk_at dksX8_turned_0 20 rfl rfl)
theorem dX8_turned_23 : decode cX8_turned 23 = .ok (.iconst 0, 1) := dk_3 (dk_at dksX8_turned_0 23 rfl rfl)
theorem dX8_turned_24 : decode cX8_turned 24 = .ok (.invokestatic 317, 3) := dk_184 1 61 (dk_at dksX8_turned_1 0 rfl rfl)
theorem dX8_turned_27 : decode cX8_turned 27 = .ok (.iadd, 1) := dk_96 (dk_at dksX8_turned_1 3 rfl rfl)
theorem dX8_turned_28 : decode cX8_turned 28 = .ok (.istore_n 2, 1) := dk_61 (dk_at dksX8_turned_1 4 rfl rfl)
theorem dX8_turned_29 : decode cX8_turned 29 = .ok (.iinc 3 1, 3) := dk_132 3 1 (dk_at dksX8_turned_1 5 rfl rfl)
theorem dX8_turned_32 : decode cX8_turned 32 = .ok (.goto (-28), 3) := dk_167 255 228 (dk_at dksX8_turned_1 8 rfl rfl)
theorem dX8_turned_35 : decode cX8_turned 35 = .ok (.iload_n 2, 1) := dk_28 (dk_at dksX8_turned_1 11 rfl rfl)
theorem dX8_turned_36 : decode cX8_turned 36 = .ok (.ireturn, 1) := dk_172 (dk_at dksX8_turned_1 12 rfl rfl)
abbrev cX8_widest : ByteArray := prog_20_method_85_code
def yX8_widest : MethodName := ⟨RX8, "widest", "(II)I"⟩
def dkwX8_widest_5 : List UInt8 := [167, 255, 198, 28, 154, 0, 12, 42, 21, 4, 182, 1, 240, 167, 0, 5, 21, 4, 172]
abbrev dktX8_widest_5 : List UInt8 := dkwX8_widest_5 ++ []
def dkwX8_widest_4 : List UInt8 := [42, 21, 5, 182, 1, 240, 42, 21, 4, 182, 1, 240, 164, 0, 7, 21, 5, 54, 4, 132, 5, 1]
abbrev dktX8_widest_4 : List UInt8 := dkwX8_widest_4 ++ dktX8_widest_5
def dkwX8_widest_3 : List UInt8 := [154, 0, 43, 42, 27, 182, 1, 68, 42, 21, 5, 182, 1, 240, 96, 42, 180, 0, 66, 27, 46, 163, 0, 22]
abbrev dktX8_widest_3 : List UInt8 := dkwX8_widest_3 ++ dktX8_widest_4
def dkwX8_widest_2 : List UInt8 := [182, 1, 194, 62, 3, 54, 4, 4, 54, 5, 21, 5, 29, 163, 0, 58, 21, 5, 29, 2, 130, 126]
abbrev dktX8_widest_2 : List UInt8 := dkwX8_widest_2 ++ dktX8_widest_3
def dkwX8_widest_1 : List UInt8 := [154, 0, 5, 2, 172, 42, 182, 1, 191, 42, 42, 42, 180, 0, 84, 7, 27, 96, 46, 182, 1, 212]
abbrev dktX8_widest_1 : List UInt8 := dkwX8_widest_1 ++ dktX8_widest_2
def dkwX8_widest_0 : List UInt8 := [42, 27, 182, 1, 188, 153, 0, 20, 42, 27, 182, 1, 209, 153, 0, 12, 28, 3, 4, 184, 1, 170]
abbrev dktX8_widest_0 : List UInt8 := dkwX8_widest_0 ++ dktX8_widest_1
theorem dksX8_widest_0 : cX8_widest.data.toList.drop 0 = dktX8_widest_0 := by decide +kernel
theorem dksX8_widest_1 : cX8_widest.data.toList.drop 22 = dktX8_widest_1 := dk_seg dksX8_widest_0 22 rfl rfl
theorem dksX8_widest_2 : cX8_widest.data.toList.drop 44 = dktX8_widest_2 := dk_seg dksX8_widest_1 22 rfl rfl
theorem dksX8_widest_3 : cX8_widest.data.toList.drop 66 = dktX8_widest_3 := dk_seg dksX8_widest_2 22 rfl rfl
theorem dksX8_widest_4 : cX8_widest.data.toList.drop 90 = dktX8_widest_4 := dk_seg dksX8_widest_3 24 rfl rfl
theorem dksX8_widest_5 : cX8_widest.data.toList.drop 112 = dktX8_widest_5 := dk_seg dksX8_widest_4 22 rfl rfl
theorem dX8_widest_0 : decode cX8_widest 0 = .ok (.aload_n 0, 1) := dk_42 (dk_at dksX8_widest_0 0 rfl rfl)
theorem dX8_widest_1 : decode cX8_widest 1 = .ok (.iload_n 1, 1) := dk_27 (dk_at dksX8_widest_0 1 rfl rfl)
theorem dX8_widest_2 : decode cX8_widest 2 = .ok (.invokevirtual 444, 3) := dk_182 1 188 (dk_at dksX8_widest_0 2 rfl rfl)
theorem dX8_widest_5 : decode cX8_widest 5 = .ok (.ifCond .eq 20, 3) := dk_153 0 20 (dk_at dksX8_widest_0 5 rfl rfl)
theorem dX8_widest_8 : decode cX8_widest 8 = .ok (.aload_n 0, 1) := dk_42 (dk_at dksX8_widest_0 8 rfl rfl)
theorem dX8_widest_9 : decode cX8_widest 9 = .ok (.iload_n 1, 1) := dk_27 (dk_at dksX8_widest_0 9 rfl rfl)
theorem dX8_widest_10 : decode cX8_widest 10 = .ok (.invokevirtual 465, 3) := dk_182 1 209 (dk_at dksX8_widest_0 10 rfl rfl)
theorem dX8_widest_13 : decode cX8_widest 13 = .ok (.ifCond .eq 12, 3) := dk_153 0 12 (dk_at dksX8_widest_0 13 rfl rfl)
theorem dX8_widest_16 : decode cX8_widest 16 = .ok (.iload_n 2, 1) := dk_28 (dk_at dksX8_widest_0 16 rfl rfl)
theorem dX8_widest_17 : decode cX8_widest 17 = .ok (.iconst 0, 1) := dk_3 (dk_at dksX8_widest_0 17 rfl rfl)
theorem dX8_widest_18 : decode cX8_widest 18 = .ok (.iconst 1, 1) := dk_4 (dk_at dksX8_widest_0 18 rfl rfl)
theorem dX8_widest_19 : decode cX8_widest 19 = .ok (.invokestatic 426, 3) := dk_184 1 170 (dk_at dksX8_widest_0 19 rfl rfl)
theorem dX8_widest_22 : decode cX8_widest 22 = .ok (.ifCond .ne 5, 3) := dk_154 0 5 (dk_at dksX8_widest_1 0 rfl rfl)
theorem dX8_widest_25 : decode cX8_widest 25 = .ok (.iconst (-1), 1) := dk_2 (dk_at dksX8_widest_1 3 rfl rfl)
theorem dX8_widest_26 : decode cX8_widest 26 = .ok (.ireturn, 1) := dk_172 (dk_at dksX8_widest_1 4 rfl rfl)
theorem dX8_widest_27 : decode cX8_widest 27 = .ok (.aload_n 0, 1) := dk_42 (dk_at dksX8_widest_1 5 rfl rfl)
theorem dX8_widest_28 : decode cX8_widest 28 = .ok (.invokevirtual 447, 3) := dk_182 1 191 (dk_at dksX8_widest_1 6 rfl rfl)
theorem dX8_widest_31 : decode cX8_widest 31 = .ok (.aload_n 0, 1) := dk_42 (dk_at dksX8_widest_1 9 rfl rfl)
theorem dX8_widest_32 : decode cX8_widest 32 = .ok (.aload_n 0, 1) := dk_42 (dk_at dksX8_widest_1 10 rfl rfl)
theorem dX8_widest_33 : decode cX8_widest 33 = .ok (.aload_n 0, 1) := dk_42 (dk_at dksX8_widest_1 11 rfl rfl)
theorem dX8_widest_34 : decode cX8_widest 34 = .ok (.getfield 84, 3) := dk_180 0 84 (dk_at dksX8_widest_1 12 rfl rfl)
theorem dX8_widest_37 : decode cX8_widest 37 = .ok (.iconst 4, 1) := dk_7 (dk_at dksX8_widest_1 15 rfl rfl)
theorem dX8_widest_38 : decode cX8_widest 38 = .ok (.iload_n 1, 1) := dk_27 (dk_at dksX8_widest_1 16 rfl rfl)
theorem dX8_widest_39 : decode cX8_widest 39 = .ok (.iadd, 1) := dk_96 (dk_at dksX8_widest_1 17 rfl rfl)
theorem dX8_widest_40 : decode cX8_widest 40 = .ok (.iaload, 1) := dk_46 (dk_at dksX8_widest_1 18 rfl rfl)
theorem dX8_widest_41 : decode cX8_widest 41 = .ok (.invokevirtual 468, 3) := dk_182 1 212 (dk_at dksX8_widest_1 19 rfl rfl)
theorem dX8_widest_44 : decode cX8_widest 44 = .ok (.invokevirtual 450, 3) := dk_182 1 194 (dk_at dksX8_widest_2 0 rfl rfl)
theorem dX8_widest_47 : decode cX8_widest 47 = .ok (.istore_n 3, 1) := dk_62 (dk_at dksX8_widest_2 3 rfl rfl)
theorem dX8_widest_48 : decode cX8_widest 48 = .ok (.iconst 0, 1) := dk_3 (dk_at dksX8_widest_2 4 rfl rfl)
theorem dX8_widest_49 : decode cX8_widest 49 = .ok (.istore 4, 2) := dk_54 4 (dk_at dksX8_widest_2 5 rfl rfl)
theorem dX8_widest_51 : decode cX8_widest 51 = .ok (.iconst 1, 1) := dk_4 (dk_at dksX8_widest_2 7 rfl rfl)
theorem dX8_widest_52 : decode cX8_widest 52 = .ok (.istore 5, 2) := dk_54 5 (dk_at dksX8_widest_2 8 rfl rfl)
theorem dX8_widest_54 : decode cX8_widest 54 = .ok (.iload 5, 2) := dk_21 5 (dk_at dksX8_widest_2 10 rfl rfl)
theorem dX8_widest_56 : decode cX8_widest 56 = .ok (.iload_n 3, 1) := dk_29 (dk_at dksX8_widest_2 12 rfl rfl)
theorem dX8_widest_57 : decode cX8_widest 57 = .ok (.if_icmp .gt 58, 3) := dk_163 0 58 (dk_at dksX8_widest_2 13 rfl rfl)
theorem dX8_widest_60 : decode cX8_widest 60 = .ok (.iload 5, 2) := dk_21 5 (dk_at dksX8_widest_2 16 rfl rfl)
theorem dX8_widest_62 : decode cX8_widest 62 = .ok (.iload_n 3, 1) := dk_29 (dk_at dksX8_widest_2 18 rfl rfl)
theorem dX8_widest_63 : decode cX8_widest 63 = .ok (.iconst (-1), 1) := dk_2 (dk_at dksX8_widest_2 19 rfl rfl)
theorem dX8_widest_64 : decode cX8_widest 64 = .ok (.ixor, 1) := dk_130 (dk_at dksX8_widest_2 20 rfl rfl)
theorem dX8_widest_65 : decode cX8_widest 65 = .ok (.iand, 1) := dk_126 (dk_at dksX8_widest_2 21 rfl rfl)
theorem dX8_widest_66 : decode cX8_widest 66 = .ok (.ifCond .ne 43, 3) := dk_154 0 43 (dk_at dksX8_widest_3 0 rfl rfl)
theorem dX8_widest_69 : decode cX8_widest 69 = .ok (.aload_n 0, 1) := dk_42 (dk_at dksX8_widest_3 3 rfl rfl)
theorem dX8_widest_70 : decode cX8_widest 70 = .ok (.iload_n 1, 1) := dk_27 (dk_at dksX8_widest_3 4 rfl rfl)
theorem dX8_widest_71 : decode cX8_widest 71 = .ok (.invokevirtual 324, 3) := dk_182 1 68 (dk_at dksX8_widest_3 5 rfl rfl)
theorem dX8_widest_74 : decode cX8_widest 74 = .ok (.aload_n 0, 1) := dk_42 (dk_at dksX8_widest_3 8 rfl rfl)
theorem dX8_widest_75 : decode cX8_widest 75 = .ok (.iload 5, 2) := dk_21 5 (dk_at dksX8_widest_3 9 rfl rfl)
theorem dX8_widest_77 : decode cX8_widest 77 = .ok (.invokevirtual 496, 3) := dk_182 1 240 (dk_at dksX8_widest_3 11 rfl rfl)
theorem dX8_widest_80 : decode cX8_widest 80 = .ok (.iadd, 1) := dk_96 (dk_at dksX8_widest_3 14 rfl rfl)
theorem dX8_widest_81 : decode cX8_widest 81 = .ok (.aload_n 0, 1) := dk_42 (dk_at dksX8_widest_3 15 rfl rfl)
theorem dX8_widest_82 : decode cX8_widest 82 = .ok (.getfield 66, 3) := dk_180 0 66 (dk_at dksX8_widest_3 16 rfl rfl)
theorem dX8_widest_85 : decode cX8_widest 85 = .ok (.iload_n 1, 1) := dk_27 (dk_at dksX8_widest_3 19 rfl rfl)
theorem dX8_widest_86 : decode cX8_widest 86 = .ok (.iaload, 1) := dk_46 (dk_at dksX8_widest_3 20 rfl rfl)
theorem dX8_widest_87 : decode cX8_widest 87 = .ok (.if_icmp .gt 22, 3) := dk_163 0 22 (dk_at dksX8_widest_3 21 rfl rfl)
theorem dX8_widest_90 : decode cX8_widest 90 = .ok (.aload_n 0, 1) := dk_42 (dk_at dksX8_widest_4 0 rfl rfl)
theorem dX8_widest_91 : decode cX8_widest 91 = .ok (.iload 5, 2) := dk_21 5 (dk_at dksX8_widest_4 1 rfl rfl)
theorem dX8_widest_93 : decode cX8_widest 93 = .ok (.invokevirtual 496, 3) := dk_182 1 240 (dk_at dksX8_widest_4 3 rfl rfl)
theorem dX8_widest_96 : decode cX8_widest 96 = .ok (.aload_n 0, 1) := dk_42 (dk_at dksX8_widest_4 6 rfl rfl)
theorem dX8_widest_97 : decode cX8_widest 97 = .ok (.iload 4, 2) := dk_21 4 (dk_at dksX8_widest_4 7 rfl rfl)
theorem dX8_widest_99 : decode cX8_widest 99 = .ok (.invokevirtual 496, 3) := dk_182 1 240 (dk_at dksX8_widest_4 9 rfl rfl)
theorem dX8_widest_102 : decode cX8_widest 102 = .ok (.if_icmp .le 7, 3) := dk_164 0 7 (dk_at dksX8_widest_4 12 rfl rfl)
theorem dX8_widest_105 : decode cX8_widest 105 = .ok (.iload 5, 2) := dk_21 5 (dk_at dksX8_widest_4 15 rfl rfl)
theorem dX8_widest_107 : decode cX8_widest 107 = .ok (.istore 4, 2) := dk_54 4 (dk_at dksX8_widest_4 17 rfl rfl)
theorem dX8_widest_109 : decode cX8_widest 109 = .ok (.iinc 5 1, 3) := dk_132 5 1 (dk_at dksX8_widest_4 19 rfl rfl)
theorem dX8_widest_112 : decode cX8_widest 112 = .ok (.goto (-58), 3) := dk_167 255 198 (dk_at dksX8_widest_5 0 rfl rfl)
theorem dX8_widest_115 : decode cX8_widest 115 = .ok (.iload_n 2, 1) := dk_28 (dk_at dksX8_widest_5 3 rfl rfl)
theorem dX8_widest_116 : decode cX8_widest 116 = .ok (.ifCond .ne 12, 3) := dk_154 0 12 (dk_at dksX8_widest_5 4 rfl rfl)
theorem dX8_widest_119 : decode cX8_widest 119 = .ok (.aload_n 0, 1) := dk_42 (dk_at dksX8_widest_5 7 rfl rfl)
theorem dX8_widest_120 : decode cX8_widest 120 = .ok (.iload 4, 2) := dk_21 4 (dk_at dksX8_widest_5 8 rfl rfl)
theorem dX8_widest_122 : decode cX8_widest 122 = .ok (.invokevirtual 496, 3) := dk_182 1 240 (dk_at dksX8_widest_5 10 rfl rfl)
theorem dX8_widest_125 : decode cX8_widest 125 = .ok (.goto 5, 3) := dk_167 0 5 (dk_at dksX8_widest_5 13 rfl rfl)
theorem dX8_widest_128 : decode cX8_widest 128 = .ok (.iload 4, 2) := dk_21 4 (dk_at dksX8_widest_5 16 rfl rfl)
theorem dX8_widest_130 : decode cX8_widest 130 = .ok (.ireturn, 1) := dk_172 (dk_at dksX8_widest_5 18 rfl rfl)
abbrev cX8_wideOf : ByteArray := prog_20_method_84_code
def yX8_wideOf : MethodName := ⟨RX8, "wideOf", "(I)I"⟩
def dkwX8_wideOf_1 : List UInt8 := [180, 0, 75, 29, 46, 167, 0, 4, 3, 96, 61, 132, 3, 1, 167, 255, 223, 28, 172]
abbrev dktX8_wideOf_1 : List UInt8 := dkwX8_wideOf_1 ++ []
def dkwX8_wideOf_0 : List UInt8 := [3, 61, 3, 62, 29, 42, 180, 1, 65, 162, 0, 31, 28, 27, 29, 122, 4, 126, 4, 160, 0, 12, 42]
abbrev dktX8_wideOf_0 : List UInt8 := dkwX8_wideOf_0 ++ dktX8_wideOf_1
theorem dksX8_wideOf_0 : cX8_wideOf.data.toList.drop 0 = dktX8_wideOf_0 := by decide +kernel
theorem dksX8_wideOf_1 : cX8_wideOf.data.toList.drop 23 = dktX8_wideOf_1 := dk_seg dksX8_wideOf_0 23 rfl rfl
theorem dX8_wideOf_0 : decode cX8_wideOf 0 = .ok (.iconst 0, 1) := dk_3 (dk_at dksX8_wideOf_0 0 rfl rfl)
theorem dX8_wideOf_1 : decode cX8_wideOf 1 = .ok (.istore_n 2, 1) := dk_61 (dk_at dksX8_wideOf_0 1 rfl rfl)
theorem dX8_wideOf_2 : decode cX8_wideOf 2 = .ok (.iconst 0, 1) := dk_3 (dk_at dksX8_wideOf_0 2 rfl rfl)
theorem dX8_wideOf_3 : decode cX8_wideOf 3 = .ok (.istore_n 3, 1) := dk_62 (dk_at dksX8_wideOf_0 3 rfl rfl)
theorem dX8_wideOf_4 : decode cX8_wideOf 4 = .ok (.iload_n 3, 1) := dk_29 (dk_at dksX8_wideOf_0 4 rfl rfl)
theorem dX8_wideOf_5 : decode cX8_wideOf 5 = .ok (.aload_n 0, 1) := dk_42 (dk_at dksX8_wideOf_0 5 rfl rfl)
theorem dX8_wideOf_6 : decode cX8_wideOf 6 = .ok (.getfield 321, 3) := dk_180 1 65 (dk_at dksX8_wideOf_0 6 rfl rfl)
theorem dX8_wideOf_9 : decode cX8_wideOf 9 = .ok (.if_icmp .ge 31, 3) := dk_162 0 31 (dk_at dksX8_wideOf_0 9 rfl rfl)
theorem dX8_wideOf_12 : decode cX8_wideOf 12 = .ok (.iload_n 2, 1) := dk_28 (dk_at dksX8_wideOf_0 12 rfl rfl)
theorem dX8_wideOf_13 : decode cX8_wideOf 13 = .ok (.iload_n 1, 1) := dk_27 (dk_at dksX8_wideOf_0 13 rfl rfl)
theorem dX8_wideOf_14 : decode cX8_wideOf 14 = .ok (.iload_n 3, 1) := dk_29 (dk_at dksX8_wideOf_0 14 rfl rfl)
theorem dX8_wideOf_15 : decode cX8_wideOf 15 = .ok (.ishr, 1) := dk_122 (dk_at dksX8_wideOf_0 15 rfl rfl)
theorem dX8_wideOf_16 : decode cX8_wideOf 16 = .ok (.iconst 1, 1) := dk_4 (dk_at dksX8_wideOf_0 16 rfl rfl)
theorem dX8_wideOf_17 : decode cX8_wideOf 17 = .ok (.iand, 1) := dk_126 (dk_at dksX8_wideOf_0 17 rfl rfl)
theorem dX8_wideOf_18 : decode cX8_wideOf 18 = .ok (.iconst 1, 1) := dk_4 (dk_at dksX8_wideOf_0 18 rfl rfl)
theorem dX8_wideOf_19 : decode cX8_wideOf 19 = .ok (.if_icmp .ne 12, 3) := dk_160 0 12 (dk_at dksX8_wideOf_0 19 rfl rfl)
theorem dX8_wideOf_22 : decode cX8_wideOf 22 = .ok (.aload_n 0, 1) := dk_42 (dk_at dksX8_wideOf_0 22 rfl rfl)
theorem dX8_wideOf_23 : decode cX8_wideOf 23 = .ok (.getfield 75, 3) := dk_180 0 75 (dk_at dksX8_wideOf_1 0 rfl rfl)
theorem dX8_wideOf_26 : decode cX8_wideOf 26 = .ok (.iload_n 3, 1) := dk_29 (dk_at dksX8_wideOf_1 3 rfl rfl)
theorem dX8_wideOf_27 : decode cX8_wideOf 27 = .ok (.iaload, 1) := dk_46 (dk_at dksX8_wideOf_1 4 rfl rfl)
theorem dX8_wideOf_28 : decode cX8_wideOf 28 = .ok (.goto 4, 3) := dk_167 0 4 (dk_at dksX8_wideOf_1 5 rfl rfl)
theorem dX8_wideOf_31 : decode cX8_wideOf 31 = .ok (.iconst 0, 1) := dk_3 (dk_at dksX8_wideOf_1 8 rfl rfl)
theorem dX8_wideOf_32 : decode cX8_wideOf 32 = .ok (.iadd, 1) := dk_96 (dk_at dksX8_wideOf_1 9 rfl rfl)
theorem dX8_wideOf_33 : decode cX8_wideOf 33 = .ok (.istore_n 2, 1) := dk_61 (dk_at dksX8_wideOf_1 10 rfl rfl)
theorem dX8_wideOf_34 : decode cX8_wideOf 34 = .ok (.iinc 3 1, 3) := dk_132 3 1 (dk_at dksX8_wideOf_1 11 rfl rfl)
theorem dX8_wideOf_37 : decode cX8_wideOf 37 = .ok (.goto (-33), 3) := dk_167 255 223 (dk_at dksX8_wideOf_1 14 rfl rfl)
theorem dX8_wideOf_40 : decode cX8_wideOf 40 = .ok (.iload_n 2, 1) := dk_28 (dk_at dksX8_wideOf_1 17 rfl rfl)
theorem dX8_wideOf_41 : decode cX8_wideOf 41 = .ok (.ireturn, 1) := dk_172 (dk_at dksX8_wideOf_1 18 rfl rfl)
abbrev cX8_trips : ByteArray := prog_20_method_90_code
def yX8_trips : MethodName := ⟨RX8, "trips", "(I)I"⟩
def dkwX8_trips_7 : List UInt8 := [167, 0, 4, 29, 172]
abbrev dktX8_trips_7 : List UInt8 := dkwX8_trips_7 ++ []
def dkwX8_trips_6 : List UInt8 := [180, 1, 65, 181, 1, 167, 42, 28, 182, 1, 252, 54, 4, 167, 255, 160, 29, 19, 1, 233, 160, 0, 7, 2]
abbrev dktX8_trips_6 : List UInt8 := dkwX8_trips_6 ++ dktX8_trips_7
def dkwX8_trips_5 : List UInt8 := [160, 0, 13, 42, 180, 0, 99, 21, 6, 46, 167, 0, 4, 2, 79, 132, 6, 1, 167, 255, 216, 42, 42]
abbrev dktX8_trips_5 : List UInt8 := dkwX8_trips_5 ++ dktX8_trips_6
def dkwX8_trips_4 : List UInt8 := [21, 6, 42, 180, 1, 65, 162, 0, 37, 42, 180, 0, 96, 21, 6, 28, 21, 6, 122, 4, 126, 4]
abbrev dktX8_trips_4 : List UInt8 := dkwX8_trips_4 ++ dktX8_trips_5
def dkwX8_trips_3 : List UInt8 := [162, 0, 74, 42, 28, 42, 180, 0, 66, 27, 46, 182, 1, 249, 153, 0, 60, 21, 5, 62, 3, 54, 6]
abbrev dktX8_trips_3 : List UInt8 := dkwX8_trips_3 ++ dktX8_trips_4
def dkwX8_trips_2 : List UInt8 := [42, 28, 182, 1, 243, 87, 4, 54, 4, 21, 4, 153, 0, 97, 42, 28, 182, 1, 243, 54, 5, 21, 5, 29]
abbrev dktX8_trips_2 : List UInt8 := dkwX8_trips_2 ++ dktX8_trips_3
def dkwX8_trips_1 : List UInt8 := [3, 54, 4, 21, 4, 16, 7, 162, 0, 17, 42, 180, 0, 99, 21, 4, 3, 79, 132, 4, 1, 167, 255, 238]
abbrev dktX8_trips_1 : List UInt8 := dkwX8_trips_1 ++ dktX8_trips_2
def dkwX8_trips_0 : List UInt8 := [42, 3, 181, 1, 167, 42, 27, 182, 1, 188, 154, 0, 5, 2, 172, 42, 182, 1, 246, 61, 19, 1, 233, 62]
abbrev dktX8_trips_0 : List UInt8 := dkwX8_trips_0 ++ dktX8_trips_1
theorem dksX8_trips_0 : cX8_trips.data.toList.drop 0 = dktX8_trips_0 := by decide +kernel
theorem dksX8_trips_1 : cX8_trips.data.toList.drop 24 = dktX8_trips_1 := dk_seg dksX8_trips_0 24 rfl rfl
theorem dksX8_trips_2 : cX8_trips.data.toList.drop 48 = dktX8_trips_2 := dk_seg dksX8_trips_1 24 rfl rfl
theorem dksX8_trips_3 : cX8_trips.data.toList.drop 72 = dktX8_trips_3 := dk_seg dksX8_trips_2 24 rfl rfl
theorem dksX8_trips_4 : cX8_trips.data.toList.drop 95 = dktX8_trips_4 := dk_seg dksX8_trips_3 23 rfl rfl
theorem dksX8_trips_5 : cX8_trips.data.toList.drop 117 = dktX8_trips_5 := dk_seg dksX8_trips_4 22 rfl rfl
theorem dksX8_trips_6 : cX8_trips.data.toList.drop 140 = dktX8_trips_6 := dk_seg dksX8_trips_5 23 rfl rfl
theorem dksX8_trips_7 : cX8_trips.data.toList.drop 164 = dktX8_trips_7 := dk_seg dksX8_trips_6 24 rfl rfl
theorem dX8_trips_0 : decode cX8_trips 0 = .ok (.aload_n 0, 1) := dk_42 (dk_at dksX8_trips_0 0 rfl rfl)
theorem dX8_trips_1 : decode cX8_trips 1 = .ok (.iconst 0, 1) := dk_3 (dk_at dksX8_trips_0 1 rfl rfl)
theorem dX8_trips_2 : decode cX8_trips 2 = .ok (.putfield 423, 3) := dk_181 1 167 (dk_at dksX8_trips_0 2 rfl rfl)
theorem dX8_trips_5 : decode cX8_trips 5 = .ok (.aload_n 0, 1) := dk_42 (dk_at dksX8_trips_0 5 rfl rfl)
theorem dX8_trips_6 : decode cX8_trips 6 = .ok (.iload_n 1, 1) := dk_27 (dk_at dksX8_trips_0 6 rfl rfl)
theorem dX8_trips_7 : decode cX8_trips 7 = .ok (.invokevirtual 444, 3) := dk_182 1 188 (dk_at dksX8_trips_0 7 rfl rfl)
theorem dX8_trips_10 : decode cX8_trips 10 = .ok (.ifCond .ne 5, 3) := dk_154 0 5 (dk_at dksX8_trips_0 10 rfl rfl)
theorem dX8_trips_13 : decode cX8_trips 13 = .ok (.iconst (-1), 1) := dk_2 (dk_at dksX8_trips_0 13 rfl rfl)
theorem dX8_trips_14 : decode cX8_trips 14 = .ok (.ireturn, 1) := dk_172 (dk_at dksX8_trips_0 14 rfl rfl)
theorem dX8_trips_15 : decode cX8_trips 15 = .ok (.aload_n 0, 1) := dk_42 (dk_at dksX8_trips_0 15 rfl rfl)
theorem dX8_trips_16 : decode cX8_trips 16 = .ok (.invokevirtual 502, 3) := dk_182 1 246 (dk_at dksX8_trips_0 16 rfl rfl)
theorem dX8_trips_19 : decode cX8_trips 19 = .ok (.istore_n 2, 1) := dk_61 (dk_at dksX8_trips_0 19 rfl rfl)
theorem dX8_trips_20 : decode cX8_trips 20 = .ok (.ldc_w 489, 3) := dk_19 1 233 (dk_at dksX8_trips_0 20 rfl rfl)
theorem dX8_trips_23 : decode cX8_trips 23 = .ok (.istore_n 3, 1) := dk_62 (dk_at dksX8_trips_0 23 rfl rfl)
theorem dX8_trips_24 : decode cX8_trips 24 = .ok (.iconst 0, 1) := dk_3 (dk_at dksX8_trips_1 0 rfl rfl)
theorem dX8_trips_25 : decode cX8_trips 25 = .ok (.istore 4, 2) := dk_54 4 (dk_at dksX8_trips_1 1 rfl rfl)
theorem dX8_trips_27 : decode cX8_trips 27 = .ok (.iload 4, 2) := dk_21 4 (dk_at dksX8_trips_1 3 rfl rfl)
theorem dX8_trips_29 : decode cX8_trips 29 = .ok (.bipush 7, 2) := dk_16 7 (dk_at dksX8_trips_1 5 rfl rfl)
theorem dX8_trips_31 : decode cX8_trips 31 = .ok (.if_icmp .ge 17, 3) := dk_162 0 17 (dk_at dksX8_trips_1 7 rfl rfl)
theorem dX8_trips_34 : decode cX8_trips 34 = .ok (.aload_n 0, 1) := dk_42 (dk_at dksX8_trips_1 10 rfl rfl)
theorem dX8_trips_35 : decode cX8_trips 35 = .ok (.getfield 99, 3) := dk_180 0 99 (dk_at dksX8_trips_1 11 rfl rfl)
theorem dX8_trips_38 : decode cX8_trips 38 = .ok (.iload 4, 2) := dk_21 4 (dk_at dksX8_trips_1 14 rfl rfl)
theorem dX8_trips_40 : decode cX8_trips 40 = .ok (.iconst 0, 1) := dk_3 (dk_at dksX8_trips_1 16 rfl rfl)
theorem dX8_trips_41 : decode cX8_trips 41 = .ok (.iastore, 1) := dk_79 (dk_at dksX8_trips_1 17 rfl rfl)
theorem dX8_trips_42 : decode cX8_trips 42 = .ok (.iinc 4 1, 3) := dk_132 4 1 (dk_at dksX8_trips_1 18 rfl rfl)
theorem dX8_trips_45 : decode cX8_trips 45 = .ok (.goto (-18), 3) := dk_167 255 238 (dk_at dksX8_trips_1 21 rfl rfl)
theorem dX8_trips_48 : decode cX8_trips 48 = .ok (.aload_n 0, 1) := dk_42 (dk_at dksX8_trips_2 0 rfl rfl)
theorem dX8_trips_49 : decode cX8_trips 49 = .ok (.iload_n 2, 1) := dk_28 (dk_at dksX8_trips_2 1 rfl rfl)
theorem dX8_trips_50 : decode cX8_trips 50 = .ok (.invokevirtual 499, 3) := dk_182 1 243 (dk_at dksX8_trips_2 2 rfl rfl)
theorem dX8_trips_53 : decode cX8_trips 53 = .ok (.pop, 1) := dk_87 (dk_at dksX8_trips_2 5 rfl rfl)
theorem dX8_trips_54 : decode cX8_trips 54 = .ok (.iconst 1, 1) := dk_4 (dk_at dksX8_trips_2 6 rfl rfl)
theorem dX8_trips_55 : decode cX8_trips 55 = .ok (.istore 4, 2) := dk_54 4 (dk_at dksX8_trips_2 7 rfl rfl)
theorem dX8_trips_57 : decode cX8_trips 57 = .ok (.iload 4, 2) := dk_21 4 (dk_at dksX8_trips_2 9 rfl rfl)
theorem dX8_trips_59 : decode cX8_trips 59 = .ok (.ifCond .eq 97, 3) := dk_153 0 97 (dk_at dksX8_trips_2 11 rfl rfl)
theorem dX8_trips_62 : decode cX8_trips 62 = .ok (.aload_n 0, 1) := dk_42 (dk_at dksX8_trips_2 14 rfl rfl)
theorem dX8_trips_63 : decode cX8_trips 63 = .ok (.iload_n 2, 1) := dk_28 (dk_at dksX8_trips_2 15 rfl rfl)
theorem dX8_trips_64 : decode cX8_trips 64 = .ok (.invokevirtual 499, 3) := dk_182 1 243 (dk_at dksX8_trips_2 16 rfl rfl)
theorem dX8_trips_67 : decode cX8_trips 67 = .ok (.istore 5, 2) := dk_54 5 (dk_at dksX8_trips_2 19 rfl rfl)
theorem dX8_trips_69 : decode cX8_trips 69 = .ok (.iload 5, 2) := dk_21 5 (dk_at dksX8_trips_2 21 rfl rfl)
theorem dX8_trips_71 : decode cX8_trips 71 = .ok (.iload_n 3, 1) := dk_29 (dk_at dksX8_trips_2 23 rfl rfl)
theorem dX8_trips_72 : decode cX8_trips 72 = .ok (.if_icmp .ge 74, 3) := dk_162 0 74 (dk_at dksX8_trips_3 0 rfl rfl)
theorem dX8_trips_75 : decode cX8_trips 75 = .ok (.aload_n 0, 1) := dk_42 (dk_at dksX8_trips_3 3 rfl rfl)
theorem dX8_trips_76 : decode cX8_trips 76 = .ok (.iload_n 2, 1) := dk_28 (dk_at dksX8_trips_3 4 rfl rfl)
theorem dX8_trips_77 : decode cX8_trips 77 = .ok (.aload_n 0, 1) := dk_42 (dk_at dksX8_trips_3 5 rfl rfl)
theorem dX8_trips_78 : decode cX8_trips 78 = .ok (.getfield 66, 3) := dk_180 0 66 (dk_at dksX8_trips_3 6 rfl rfl)
theorem dX8_trips_81 : decode cX8_trips 81 = .ok (.iload_n 1, 1) := dk_27 (dk_at dksX8_trips_3 9 rfl rfl)
theorem dX8_trips_82 : decode cX8_trips 82 = .ok (.iaload, 1) := dk_46 (dk_at dksX8_trips_3 10 rfl rfl)
theorem dX8_trips_83 : decode cX8_trips 83 = .ok (.invokevirtual 505, 3) := dk_182 1 249 (dk_at dksX8_trips_3 11 rfl rfl)
theorem dX8_trips_86 : decode cX8_trips 86 = .ok (.ifCond .eq 60, 3) := dk_153 0 60 (dk_at dksX8_trips_3 14 rfl rfl)
theorem dX8_trips_89 : decode cX8_trips 89 = .ok (.iload 5, 2) := dk_21 5 (dk_at dksX8_trips_3 17 rfl rfl)
theorem dX8_trips_91 : decode cX8_trips 91 = .ok (.istore_n 3, 1) := dk_62 (dk_at dksX8_trips_3 19 rfl rfl)
theorem dX8_trips_92 : decode cX8_trips 92 = .ok (.iconst 0, 1) := dk_3 (dk_at dksX8_trips_3 20 rfl rfl)
theorem dX8_trips_93 : decode cX8_trips 93 = .ok (.istore 6, 2) := dk_54 6 (dk_at dksX8_trips_3 21 rfl rfl)
theorem dX8_trips_95 : decode cX8_trips 95 = .ok (.iload 6, 2) := dk_21 6 (dk_at dksX8_trips_4 0 rfl rfl)
theorem dX8_trips_97 : decode cX8_trips 97 = .ok (.aload_n 0, 1) := dk_42 (dk_at dksX8_trips_4 2 rfl rfl)
theorem dX8_trips_98 : decode cX8_trips 98 = .ok (.getfield 321, 3) := dk_180 1 65 (dk_at dksX8_trips_4 3 rfl rfl)
theorem dX8_trips_101 : decode cX8_trips 101 = .ok (.if_icmp .ge 37, 3) := dk_162 0 37 (dk_at dksX8_trips_4 6 rfl rfl)
theorem dX8_trips_104 : decode cX8_trips 104 = .ok (.aload_n 0, 1) := dk_42 (dk_at dksX8_trips_4 9 rfl rfl)
theorem dX8_trips_105 : decode cX8_trips 105 = .ok (.getfield 96, 3) := dk_180 0 96 (dk_at dksX8_trips_4 10 rfl rfl)
theorem dX8_trips_108 : decode cX8_trips 108 = .ok (.iload 6, 2) := dk_21 6 (dk_at dksX8_trips_4 13 rfl rfl)
theorem dX8_trips_110 : decode cX8_trips 110 = .ok (.iload_n 2, 1) := dk_28 (dk_at dksX8_trips_4 15 rfl rfl)
theorem dX8_trips_111 : decode cX8_trips 111 = .ok (.iload 6, 2) := dk_21 6 (dk_at dksX8_trips_4 16 rfl rfl)
theorem dX8_trips_113 : decode cX8_trips 113 = .ok (.ishr, 1) := dk_122 (dk_at dksX8_trips_4 18 rfl rfl)
theorem dX8_trips_114 : decode cX8_trips 114 = .ok (.iconst 1, 1) := dk_4 (dk_at dksX8_trips_4 19 rfl rfl)
theorem dX8_trips_115 : decode cX8_trips 115 = .ok (.iand, 1) := dk_126 (dk_at dksX8_trips_4 20 rfl rfl)
theorem dX8_trips_116 : decode cX8_trips 116 = .ok (.iconst 1, 1) := dk_4 (dk_at dksX8_trips_4 21 rfl rfl)
theorem dX8_trips_117 : decode cX8_trips 117 = .ok (.if_icmp .ne 13, 3) := dk_160 0 13 (dk_at dksX8_trips_5 0 rfl rfl)
theorem dX8_trips_120 : decode cX8_trips 120 = .ok (.aload_n 0, 1) := dk_42 (dk_at dksX8_trips_5 3 rfl rfl)
theorem dX8_trips_121 : decode cX8_trips 121 = .ok (.getfield 99, 3) := dk_180 0 99 (dk_at dksX8_trips_5 4 rfl rfl)
theorem dX8_trips_124 : decode cX8_trips 124 = .ok (.iload 6, 2) := dk_21 6 (dk_at dksX8_trips_5 7 rfl rfl)
theorem dX8_trips_126 : decode cX8_trips 126 = .ok (.iaload, 1) := dk_46 (dk_at dksX8_trips_5 9 rfl rfl)
theorem dX8_trips_127 : decode cX8_trips 127 = .ok (.goto 4, 3) := dk_167 0 4 (dk_at dksX8_trips_5 10 rfl rfl)
theorem dX8_trips_130 : decode cX8_trips 130 = .ok (.iconst (-1), 1) := dk_2 (dk_at dksX8_trips_5 13 rfl rfl)
theorem dX8_trips_131 : decode cX8_trips 131 = .ok (.iastore, 1) := dk_79 (dk_at dksX8_trips_5 14 rfl rfl)
theorem dX8_trips_132 : decode cX8_trips 132 = .ok (.iinc 6 1, 3) := dk_132 6 1 (dk_at dksX8_trips_5 15 rfl rfl)
theorem dX8_trips_135 : decode cX8_trips 135 = .ok (.goto (-40), 3) := dk_167 255 216 (dk_at dksX8_trips_5 18 rfl rfl)
theorem dX8_trips_138 : decode cX8_trips 138 = .ok (.aload_n 0, 1) := dk_42 (dk_at dksX8_trips_5 21 rfl rfl)
theorem dX8_trips_139 : decode cX8_trips 139 = .ok (.aload_n 0, 1) := dk_42 (dk_at dksX8_trips_5 22 rfl rfl)
theorem dX8_trips_140 : decode cX8_trips 140 = .ok (.getfield 321, 3) := dk_180 1 65 (dk_at dksX8_trips_6 0 rfl rfl)
theorem dX8_trips_143 : decode cX8_trips 143 = .ok (.putfield 423, 3) := dk_181 1 167 (dk_at dksX8_trips_6 3 rfl rfl)
theorem dX8_trips_146 : decode cX8_trips 146 = .ok (.aload_n 0, 1) := dk_42 (dk_at dksX8_trips_6 6 rfl rfl)
theorem dX8_trips_147 : decode cX8_trips 147 = .ok (.iload_n 2, 1) := dk_28 (dk_at dksX8_trips_6 7 rfl rfl)
theorem dX8_trips_148 : decode cX8_trips 148 = .ok (.invokevirtual 508, 3) := dk_182 1 252 (dk_at dksX8_trips_6 8 rfl rfl)
theorem dX8_trips_151 : decode cX8_trips 151 = .ok (.istore 4, 2) := dk_54 4 (dk_at dksX8_trips_6 11 rfl rfl)
theorem dX8_trips_153 : decode cX8_trips 153 = .ok (.goto (-96), 3) := dk_167 255 160 (dk_at dksX8_trips_6 13 rfl rfl)
theorem dX8_trips_156 : decode cX8_trips 156 = .ok (.iload_n 3, 1) := dk_29 (dk_at dksX8_trips_6 16 rfl rfl)
theorem dX8_trips_157 : decode cX8_trips 157 = .ok (.ldc_w 489, 3) := dk_19 1 233 (dk_at dksX8_trips_6 17 rfl rfl)
theorem dX8_trips_160 : decode cX8_trips 160 = .ok (.if_icmp .ne 7, 3) := dk_160 0 7 (dk_at dksX8_trips_6 20 rfl rfl)
theorem dX8_trips_163 : decode cX8_trips 163 = .ok (.iconst (-1), 1) := dk_2 (dk_at dksX8_trips_6 23 rfl rfl)
theorem dX8_trips_164 : decode cX8_trips 164 = .ok (.goto 4, 3) := dk_167 0 4 (dk_at dksX8_trips_7 0 rfl rfl)
theorem dX8_trips_167 : decode cX8_trips 167 = .ok (.iload_n 3, 1) := dk_29 (dk_at dksX8_trips_7 3 rfl rfl)
theorem dX8_trips_168 : decode cX8_trips 168 = .ok (.ireturn, 1) := dk_172 (dk_at dksX8_trips_7 4 rfl rfl)
abbrev cX8_nearLoads : ByteArray := prog_20_method_86_code
def yX8_nearLoads : MethodName := ⟨RX8, "nearLoads", "()I"⟩
def dkwX8_nearLoads_0 : List UInt8 := [42, 182, 1, 191, 42, 2, 182, 1, 194, 172]
abbrev dktX8_nearLoads_0 : List UInt8 := dkwX8_nearLoads_0 ++ []
theorem dksX8_nearLoads_0 : cX8_nearLoads.data.toList.drop 0 = dktX8_nearLoads_0 := by decide +kernel
theorem dX8_nearLoads_0 : decode cX8_nearLoads 0 = .ok (.aload_n 0, 1) := dk_42 (dk_at dksX8_nearLoads_0 0 rfl rfl)
theorem dX8_nearLoads_1 : decode cX8_nearLoads 1 = .ok (.invokevirtual 447, 3) := dk_182 1 191 (dk_at dksX8_nearLoads_0 1 rfl rfl)
theorem dX8_nearLoads_4 : decode cX8_nearLoads 4 = .ok (.aload_n 0, 1) := dk_42 (dk_at dksX8_nearLoads_0 4 rfl rfl)
theorem dX8_nearLoads_5 : decode cX8_nearLoads 5 = .ok (.iconst (-1), 1) := dk_2 (dk_at dksX8_nearLoads_0 5 rfl rfl)
theorem dX8_nearLoads_6 : decode cX8_nearLoads 6 = .ok (.invokevirtual 450, 3) := dk_182 1 194 (dk_at dksX8_nearLoads_0 6 rfl rfl)
theorem dX8_nearLoads_9 : decode cX8_nearLoads 9 = .ok (.ireturn, 1) := dk_172 (dk_at dksX8_nearLoads_0 9 rfl rfl)
abbrev cX8_layBefore : ByteArray := prog_20_method_89_code
def yX8_layBefore : MethodName := ⟨RX8, "layBefore", "(I)I"⟩
def dkwX8_layBefore_2 : List UInt8 := [172]
abbrev dktX8_layBefore_2 : List UInt8 := dkwX8_layBefore_2 ++ []
def dkwX8_layBefore_1 : List UInt8 := [4, 160, 0, 16, 42, 180, 0, 99, 29, 46, 28, 160, 0, 6, 132, 2, 1, 132, 3, 1, 167, 255, 216, 28]
abbrev dktX8_layBefore_1 : List UInt8 := dkwX8_layBefore_1 ++ dktX8_layBefore_2
def dkwX8_layBefore_0 : List UInt8 := [3, 61, 3, 62, 29, 42, 180, 1, 65, 162, 0, 38, 42, 180, 0, 102, 29, 28, 79, 27, 29, 122, 4, 126]
abbrev dktX8_layBefore_0 : List UInt8 := dkwX8_layBefore_0 ++ dktX8_layBefore_1
theorem dksX8_layBefore_0 : cX8_layBefore.data.toList.drop 0 = dktX8_layBefore_0 := by decide +kernel
theorem dksX8_layBefore_1 : cX8_layBefore.data.toList.drop 24 = dktX8_layBefore_1 := dk_seg dksX8_layBefore_0 24 rfl rfl
theorem dksX8_layBefore_2 : cX8_layBefore.data.toList.drop 48 = dktX8_layBefore_2 := dk_seg dksX8_layBefore_1 24 rfl rfl
theorem dX8_layBefore_0 : decode cX8_layBefore 0 = .ok (.iconst 0, 1) := dk_3 (dk_at dksX8_layBefore_0 0 rfl rfl)
theorem dX8_layBefore_1 : decode cX8_layBefore 1 = .ok (.istore_n 2, 1) := dk_61 (dk_at dksX8_layBefore_0 1 rfl rfl)
theorem dX8_layBefore_2 : decode cX8_layBefore 2 = .ok (.iconst 0, 1) := dk_3 (dk_at dksX8_layBefore_0 2 rfl rfl)
theorem dX8_layBefore_3 : decode cX8_layBefore 3 = .ok (.istore_n 3, 1) := dk_62 (dk_at dksX8_layBefore_0 3 rfl rfl)
theorem dX8_layBefore_4 : decode cX8_layBefore 4 = .ok (.iload_n 3, 1) := dk_29 (dk_at dksX8_layBefore_0 4 rfl rfl)
theorem dX8_layBefore_5 : decode cX8_layBefore 5 = .ok (.aload_n 0, 1) := dk_42 (dk_at dksX8_layBefore_0 5 rfl rfl)
theorem dX8_layBefore_6 : decode cX8_layBefore 6 = .ok (.getfield 321, 3) := dk_180 1 65 (dk_at dksX8_layBefore_0 6 rfl rfl)
theorem dX8_layBefore_9 : decode cX8_layBefore 9 = .ok (.if_icmp .ge 38, 3) := dk_162 0 38 (dk_at dksX8_layBefore_0 9 rfl rfl)
theorem dX8_layBefore_12 : decode cX8_layBefore 12 = .ok (.aload_n 0, 1) := dk_42 (dk_at dksX8_layBefore_0 12 rfl rfl)
theorem dX8_layBefore_13 : decode cX8_layBefore 13 = .ok (.getfield 102, 3) := dk_180 0 102 (dk_at dksX8_layBefore_0 13 rfl rfl)
theorem dX8_layBefore_16 : decode cX8_layBefore 16 = .ok (.iload_n 3, 1) := dk_29 (dk_at dksX8_layBefore_0 16 rfl rfl)
theorem dX8_layBefore_17 : decode cX8_layBefore 17 = .ok (.iload_n 2, 1) := dk_28 (dk_at dksX8_layBefore_0 17 rfl rfl)
theorem dX8_layBefore_18 : decode cX8_layBefore 18 = .ok (.iastore, 1) := dk_79 (dk_at dksX8_layBefore_0 18 rfl rfl)
theorem dX8_layBefore_19 : decode cX8_layBefore 19 = .ok (.iload_n 1, 1) := dk_27 (dk_at dksX8_layBefore_0 19 rfl rfl)
theorem dX8_layBefore_20 : decode cX8_layBefore 20 = .ok (.iload_n 3, 1) := dk_29 (dk_at dksX8_layBefore_0 20 rfl rfl)
theorem dX8_layBefore_21 : decode cX8_layBefore 21 = .ok (.ishr, 1) := dk_122 (dk_at dksX8_layBefore_0 21 rfl rfl)
theorem dX8_layBefore_22 : decode cX8_layBefore 22 = .ok (.iconst 1, 1) := dk_4 (dk_at dksX8_layBefore_0 22 rfl rfl)
theorem dX8_layBefore_23 : decode cX8_layBefore 23 = .ok (.iand, 1) := dk_126 (dk_at dksX8_layBefore_0 23 rfl rfl)
theorem dX8_layBefore_24 : decode cX8_layBefore 24 = .ok (.iconst 1, 1) := dk_4 (dk_at dksX8_layBefore_1 0 rfl rfl)
theorem dX8_layBefore_25 : decode cX8_layBefore 25 = .ok (.if_icmp .ne 16, 3) := dk_160 0 16 (dk_at dksX8_layBefore_1 1 rfl rfl)
theorem dX8_layBefore_28 : decode cX8_layBefore 28 = .ok (.aload_n 0, 1) := dk_42 (dk_at dksX8_layBefore_1 4 rfl rfl)
theorem dX8_layBefore_29 : decode cX8_layBefore 29 = .ok (.getfield 99, 3) := dk_180 0 99 (dk_at dksX8_layBefore_1 5 rfl rfl)
theorem dX8_layBefore_32 : decode cX8_layBefore 32 = .ok (.iload_n 3, 1) := dk_29 (dk_at dksX8_layBefore_1 8 rfl rfl)
theorem dX8_layBefore_33 : decode cX8_layBefore 33 = .ok (.iaload, 1) := dk_46 (dk_at dksX8_layBefore_1 9 rfl rfl)
theorem dX8_layBefore_34 : decode cX8_layBefore 34 = .ok (.iload_n 2, 1) := dk_28 (dk_at dksX8_layBefore_1 10 rfl rfl)
theorem dX8_layBefore_35 : decode cX8_layBefore 35 = .ok (.if_icmp .ne 6, 3) := dk_160 0 6 (dk_at dksX8_layBefore_1 11 rfl rfl)
theorem dX8_layBefore_38 : decode cX8_layBefore 38 = .ok (.iinc 2 1, 3) := dk_132 2 1 (dk_at dksX8_layBefore_1 14 rfl rfl)
theorem dX8_layBefore_41 : decode cX8_layBefore 41 = .ok (.iinc 3 1, 3) := dk_132 3 1 (dk_at dksX8_layBefore_1 17 rfl rfl)
theorem dX8_layBefore_44 : decode cX8_layBefore 44 = .ok (.goto (-40), 3) := dk_167 255 216 (dk_at dksX8_layBefore_1 20 rfl rfl)
theorem dX8_layBefore_47 : decode cX8_layBefore 47 = .ok (.iload_n 2, 1) := dk_28 (dk_at dksX8_layBefore_1 23 rfl rfl)
theorem dX8_layBefore_48 : decode cX8_layBefore 48 = .ok (.ireturn, 1) := dk_172 (dk_at dksX8_layBefore_2 0 rfl rfl)
abbrev cX8_isFlat : ByteArray := prog_20_method_87_code
def yX8_isFlat : MethodName := ⟨RX8, "isFlat", "(II)Z"⟩
def dkwX8_isFlat_4 : List UInt8 := [62, 132, 4, 1, 167, 255, 184, 29, 172]
abbrev dktX8_isFlat_4 : List UInt8 := dkwX8_isFlat_4 ++ []
def dkwX8_isFlat_3 : List UInt8 := [153, 0, 23, 42, 180, 0, 105, 42, 180, 0, 99, 21, 4, 46, 46, 28, 163, 0, 7, 4, 167, 0, 4, 3]
abbrev dktX8_isFlat_3 : List UInt8 := dkwX8_isFlat_3 ++ dktX8_isFlat_4
def dkwX8_isFlat_2 : List UInt8 := [180, 0, 105, 42, 180, 0, 99, 21, 4, 46, 92, 46, 42, 180, 0, 75, 21, 4, 46, 96, 79, 29]
abbrev dktX8_isFlat_2 : List UInt8 := dkwX8_isFlat_2 ++ dktX8_isFlat_3
def dkwX8_isFlat_1 : List UInt8 := [54, 4, 21, 4, 42, 180, 1, 65, 162, 0, 69, 27, 21, 4, 122, 4, 126, 154, 0, 6, 167, 0, 51, 42]
abbrev dktX8_isFlat_1 : List UInt8 := dkwX8_isFlat_1 ++ dktX8_isFlat_2
def dkwX8_isFlat_0 : List UInt8 := [3, 62, 29, 16, 8, 162, 0, 16, 42, 180, 0, 105, 29, 3, 79, 132, 3, 1, 167, 255, 240, 4, 62, 3]
abbrev dktX8_isFlat_0 : List UInt8 := dkwX8_isFlat_0 ++ dktX8_isFlat_1
theorem dksX8_isFlat_0 : cX8_isFlat.data.toList.drop 0 = dktX8_isFlat_0 := by decide +kernel
theorem dksX8_isFlat_1 : cX8_isFlat.data.toList.drop 24 = dktX8_isFlat_1 := dk_seg dksX8_isFlat_0 24 rfl rfl
theorem dksX8_isFlat_2 : cX8_isFlat.data.toList.drop 48 = dktX8_isFlat_2 := dk_seg dksX8_isFlat_1 24 rfl rfl
theorem dksX8_isFlat_3 : cX8_isFlat.data.toList.drop 70 = dktX8_isFlat_3 := dk_seg dksX8_isFlat_2 22 rfl rfl
theorem dksX8_isFlat_4 : cX8_isFlat.data.toList.drop 94 = dktX8_isFlat_4 := dk_seg dksX8_isFlat_3 24 rfl rfl
theorem dX8_isFlat_0 : decode cX8_isFlat 0 = .ok (.iconst 0, 1) := dk_3 (dk_at dksX8_isFlat_0 0 rfl rfl)
theorem dX8_isFlat_1 : decode cX8_isFlat 1 = .ok (.istore_n 3, 1) := dk_62 (dk_at dksX8_isFlat_0 1 rfl rfl)
theorem dX8_isFlat_2 : decode cX8_isFlat 2 = .ok (.iload_n 3, 1) := dk_29 (dk_at dksX8_isFlat_0 2 rfl rfl)
theorem dX8_isFlat_3 : decode cX8_isFlat 3 = .ok (.bipush 8, 2) := dk_16 8 (dk_at dksX8_isFlat_0 3 rfl rfl)
theorem dX8_isFlat_5 : decode cX8_isFlat 5 = .ok (.if_icmp .ge 16, 3) := dk_162 0 16 (dk_at dksX8_isFlat_0 5 rfl rfl)
theorem dX8_isFlat_8 : decode cX8_isFlat 8 = .ok (.aload_n 0, 1) := dk_42 (dk_at dksX8_isFlat_0 8 rfl rfl)
theorem dX8_isFlat_9 : decode cX8_isFlat 9 = .ok (.getfield 105, 3) := dk_180 0 105 (dk_at dksX8_isFlat_0 9 rfl rfl)
theorem dX8_isFlat_12 : decode cX8_isFlat 12 = .ok (.iload_n 3, 1) := dk_29 (dk_at dksX8_isFlat_0 12 rfl rfl)
theorem dX8_isFlat_13 : decode cX8_isFlat 13 = .ok (.iconst 0, 1) := dk_3 (dk_at dksX8_isFlat_0 13 rfl rfl)
theorem dX8_isFlat_14 : decode cX8_isFlat 14 = .ok (.iastore, 1) := dk_79 (dk_at dksX8_isFlat_0 14 rfl rfl)
theorem dX8_isFlat_15 : decode cX8_isFlat 15 = .ok (.iinc 3 1, 3) := dk_132 3 1 (dk_at dksX8_isFlat_0 15 rfl rfl)
theorem dX8_isFlat_18 : decode cX8_isFlat 18 = .ok (.goto (-16), 3) := dk_167 255 240 (dk_at dksX8_isFlat_0 18 rfl rfl)
theorem dX8_isFlat_21 : decode cX8_isFlat 21 = .ok (.iconst 1, 1) := dk_4 (dk_at dksX8_isFlat_0 21 rfl rfl)
theorem dX8_isFlat_22 : decode cX8_isFlat 22 = .ok (.istore_n 3, 1) := dk_62 (dk_at dksX8_isFlat_0 22 rfl rfl)
theorem dX8_isFlat_23 : decode cX8_isFlat 23 = .ok (.iconst 0, 1) := dk_3 (dk_at dksX8_isFlat_0 23 rfl rfl)
theorem dX8_isFlat_24 : decode cX8_isFlat 24 = .ok (.istore 4, 2) := dk_54 4 (dk_at dksX8_isFlat_1 0 rfl rfl)
theorem dX8_isFlat_26 : decode cX8_isFlat 26 = .ok (.iload 4, 2) := dk_21 4 (dk_at dksX8_isFlat_1 2 rfl rfl)
theorem dX8_isFlat_28 : decode cX8_isFlat 28 = .ok (.aload_n 0, 1) := dk_42 (dk_at dksX8_isFlat_1 4 rfl rfl)
theorem dX8_isFlat_29 : decode cX8_isFlat 29 = .ok (.getfield 321, 3) := dk_180 1 65 (dk_at dksX8_isFlat_1 5 rfl rfl)
theorem dX8_isFlat_32 : decode cX8_isFlat 32 = .ok (.if_icmp .ge 69, 3) := dk_162 0 69 (dk_at dksX8_isFlat_1 8 rfl rfl)
theorem dX8_isFlat_35 : decode cX8_isFlat 35 = .ok (.iload_n 1, 1) := dk_27 (dk_at dksX8_isFlat_1 11 rfl rfl)
theorem dX8_isFlat_36 : decode cX8_isFlat 36 = .ok (.iload 4, 2) := dk_21 4 (dk_at dksX8_isFlat_1 12 rfl rfl)
theorem dX8_isFlat_38 : decode cX8_isFlat 38 = .ok (.ishr, 1) := dk_122 (dk_at dksX8_isFlat_1 14 rfl rfl)
theorem dX8_isFlat_39 : decode cX8_isFlat 39 = .ok (.iconst 1, 1) := dk_4 (dk_at dksX8_isFlat_1 15 rfl rfl)
theorem dX8_isFlat_40 : decode cX8_isFlat 40 = .ok (.iand, 1) := dk_126 (dk_at dksX8_isFlat_1 16 rfl rfl)
theorem dX8_isFlat_41 : decode cX8_isFlat 41 = .ok (.ifCond .ne 6, 3) := dk_154 0 6 (dk_at dksX8_isFlat_1 17 rfl rfl)
theorem dX8_isFlat_44 : decode cX8_isFlat 44 = .ok (.goto 51, 3) := dk_167 0 51 (dk_at dksX8_isFlat_1 20 rfl rfl)
theorem dX8_isFlat_47 : decode cX8_isFlat 47 = .ok (.aload_n 0, 1) := dk_42 (dk_at dksX8_isFlat_1 23 rfl rfl)
theorem dX8_isFlat_48 : decode cX8_isFlat 48 = .ok (.getfield 105, 3) := dk_180 0 105 (dk_at dksX8_isFlat_2 0 rfl rfl)
theorem dX8_isFlat_51 : decode cX8_isFlat 51 = .ok (.aload_n 0, 1) := dk_42 (dk_at dksX8_isFlat_2 3 rfl rfl)
theorem dX8_isFlat_52 : decode cX8_isFlat 52 = .ok (.getfield 99, 3) := dk_180 0 99 (dk_at dksX8_isFlat_2 4 rfl rfl)
theorem dX8_isFlat_55 : decode cX8_isFlat 55 = .ok (.iload 4, 2) := dk_21 4 (dk_at dksX8_isFlat_2 7 rfl rfl)
theorem dX8_isFlat_57 : decode cX8_isFlat 57 = .ok (.iaload, 1) := dk_46 (dk_at dksX8_isFlat_2 9 rfl rfl)
theorem dX8_isFlat_58 : decode cX8_isFlat 58 = .ok (.dup2, 1) := dk_92 (dk_at dksX8_isFlat_2 10 rfl rfl)
theorem dX8_isFlat_59 : decode cX8_isFlat 59 = .ok (.iaload, 1) := dk_46 (dk_at dksX8_isFlat_2 11 rfl rfl)
theorem dX8_isFlat_60 : decode cX8_isFlat 60 = .ok (.aload_n 0, 1) := dk_42 (dk_at dksX8_isFlat_2 12 rfl rfl)
theorem dX8_isFlat_61 : decode cX8_isFlat 61 = .ok (.getfield 75, 3) := dk_180 0 75 (dk_at dksX8_isFlat_2 13 rfl rfl)
theorem dX8_isFlat_64 : decode cX8_isFlat 64 = .ok (.iload 4, 2) := dk_21 4 (dk_at dksX8_isFlat_2 16 rfl rfl)
theorem dX8_isFlat_66 : decode cX8_isFlat 66 = .ok (.iaload, 1) := dk_46 (dk_at dksX8_isFlat_2 18 rfl rfl)
theorem dX8_isFlat_67 : decode cX8_isFlat 67 = .ok (.iadd, 1) := dk_96 (dk_at dksX8_isFlat_2 19 rfl rfl)
theorem dX8_isFlat_68 : decode cX8_isFlat 68 = .ok (.iastore, 1) := dk_79 (dk_at dksX8_isFlat_2 20 rfl rfl)
theorem dX8_isFlat_69 : decode cX8_isFlat 69 = .ok (.iload_n 3, 1) := dk_29 (dk_at dksX8_isFlat_2 21 rfl rfl)
theorem dX8_isFlat_70 : decode cX8_isFlat 70 = .ok (.ifCond .eq 23, 3) := dk_153 0 23 (dk_at dksX8_isFlat_3 0 rfl rfl)
theorem dX8_isFlat_73 : decode cX8_isFlat 73 = .ok (.aload_n 0, 1) := dk_42 (dk_at dksX8_isFlat_3 3 rfl rfl)
theorem dX8_isFlat_74 : decode cX8_isFlat 74 = .ok (.getfield 105, 3) := dk_180 0 105 (dk_at dksX8_isFlat_3 4 rfl rfl)
theorem dX8_isFlat_77 : decode cX8_isFlat 77 = .ok (.aload_n 0, 1) := dk_42 (dk_at dksX8_isFlat_3 7 rfl rfl)
theorem dX8_isFlat_78 : decode cX8_isFlat 78 = .ok (.getfield 99, 3) := dk_180 0 99 (dk_at dksX8_isFlat_3 8 rfl rfl)
theorem dX8_isFlat_81 : decode cX8_isFlat 81 = .ok (.iload 4, 2) := dk_21 4 (dk_at dksX8_isFlat_3 11 rfl rfl)
theorem dX8_isFlat_83 : decode cX8_isFlat 83 = .ok (.iaload, 1) := dk_46 (dk_at dksX8_isFlat_3 13 rfl rfl)
theorem dX8_isFlat_84 : decode cX8_isFlat 84 = .ok (.iaload, 1) := dk_46 (dk_at dksX8_isFlat_3 14 rfl rfl)
theorem dX8_isFlat_85 : decode cX8_isFlat 85 = .ok (.iload_n 2, 1) := dk_28 (dk_at dksX8_isFlat_3 15 rfl rfl)
theorem dX8_isFlat_86 : decode cX8_isFlat 86 = .ok (.if_icmp .gt 7, 3) := dk_163 0 7 (dk_at dksX8_isFlat_3 16 rfl rfl)
theorem dX8_isFlat_89 : decode cX8_isFlat 89 = .ok (.iconst 1, 1) := dk_4 (dk_at dksX8_isFlat_3 19 rfl rfl)
theorem dX8_isFlat_90 : decode cX8_isFlat 90 = .ok (.goto 4, 3) := dk_167 0 4 (dk_at dksX8_isFlat_3 20 rfl rfl)
theorem dX8_isFlat_93 : decode cX8_isFlat 93 = .ok (.iconst 0, 1) := dk_3 (dk_at dksX8_isFlat_3 23 rfl rfl)
theorem dX8_isFlat_94 : decode cX8_isFlat 94 = .ok (.istore_n 3, 1) := dk_62 (dk_at dksX8_isFlat_4 0 rfl rfl)
theorem dX8_isFlat_95 : decode cX8_isFlat 95 = .ok (.iinc 4 1, 3) := dk_132 4 1 (dk_at dksX8_isFlat_4 1 rfl rfl)
theorem dX8_isFlat_98 : decode cX8_isFlat 98 = .ok (.goto (-72), 3) := dk_167 255 184 (dk_at dksX8_isFlat_4 4 rfl rfl)
theorem dX8_isFlat_101 : decode cX8_isFlat 101 = .ok (.iload_n 3, 1) := dk_29 (dk_at dksX8_isFlat_4 7 rfl rfl)
theorem dX8_isFlat_102 : decode cX8_isFlat 102 = .ok (.ireturn, 1) := dk_172 (dk_at dksX8_isFlat_4 8 rfl rfl)
abbrev cX8_nextTrips : ByteArray := prog_20_method_88_code
def yX8_nextTrips : MethodName := ⟨RX8, "nextTrips", "(I)Z"⟩
def dkwX8_nextTrips_3 : List UInt8 := [180, 0, 99, 29, 3, 79, 132, 3, 1, 167, 255, 238, 42, 27, 182, 1, 243, 87, 4, 172]
abbrev dktX8_nextTrips_3 : List UInt8 := dkwX8_nextTrips_3 ++ []
def dkwX8_nextTrips_2 : List UInt8 := [180, 0, 99, 28, 92, 46, 4, 96, 79, 28, 4, 96, 62, 29, 42, 180, 1, 65, 162, 0, 16, 42]
abbrev dktX8_nextTrips_2 : List UInt8 := dkwX8_nextTrips_2 ++ dktX8_nextTrips_3
def dkwX8_nextTrips_1 : List UInt8 := [46, 42, 180, 0, 102, 28, 46, 160, 0, 9, 132, 2, 255, 167, 255, 226, 28, 156, 0, 5, 3, 172, 42]
abbrev dktX8_nextTrips_1 : List UInt8 := dkwX8_nextTrips_1 ++ dktX8_nextTrips_2
def dkwX8_nextTrips_0 : List UInt8 := [42, 180, 1, 65, 4, 100, 61, 28, 155, 0, 32, 27, 28, 122, 4, 126, 153, 0, 18, 42, 180, 0, 99, 28]
abbrev dktX8_nextTrips_0 : List UInt8 := dkwX8_nextTrips_0 ++ dktX8_nextTrips_1
theorem dksX8_nextTrips_0 : cX8_nextTrips.data.toList.drop 0 = dktX8_nextTrips_0 := by decide +kernel
theorem dksX8_nextTrips_1 : cX8_nextTrips.data.toList.drop 24 = dktX8_nextTrips_1 := dk_seg dksX8_nextTrips_0 24 rfl rfl
theorem dksX8_nextTrips_2 : cX8_nextTrips.data.toList.drop 47 = dktX8_nextTrips_2 := dk_seg dksX8_nextTrips_1 23 rfl rfl
theorem dksX8_nextTrips_3 : cX8_nextTrips.data.toList.drop 69 = dktX8_nextTrips_3 := dk_seg dksX8_nextTrips_2 22 rfl rfl
theorem dX8_nextTrips_0 : decode cX8_nextTrips 0 = .ok (.aload_n 0, 1) := dk_42 (dk_at dksX8_nextTrips_0 0 rfl rfl)
theorem dX8_nextTrips_1 : decode cX8_nextTrips 1 = .ok (.getfield 321, 3) := dk_180 1 65 (dk_at dksX8_nextTrips_0 1 rfl rfl)
theorem dX8_nextTrips_4 : decode cX8_nextTrips 4 = .ok (.iconst 1, 1) := dk_4 (dk_at dksX8_nextTrips_0 4 rfl rfl)
theorem dX8_nextTrips_5 : decode cX8_nextTrips 5 = .ok (.isub, 1) := dk_100 (dk_at dksX8_nextTrips_0 5 rfl rfl)
theorem dX8_nextTrips_6 : decode cX8_nextTrips 6 = .ok (.istore_n 2, 1) := dk_61 (dk_at dksX8_nextTrips_0 6 rfl rfl)
theorem dX8_nextTrips_7 : decode cX8_nextTrips 7 = .ok (.iload_n 2, 1) := dk_28 (dk_at dksX8_nextTrips_0 7 rfl rfl)
theorem dX8_nextTrips_8 : decode cX8_nextTrips 8 = .ok (.ifCond .lt 32, 3) := dk_155 0 32 (dk_at dksX8_nextTrips_0 8 rfl rfl)
theorem dX8_nextTrips_11 : decode cX8_nextTrips 11 = .ok (.iload_n 1, 1) := dk_27 (dk_at dksX8_nextTrips_0 11 rfl rfl)
theorem dX8_nextTrips_12 : decode cX8_nextTrips 12 = .ok (.iload_n 2, 1) := dk_28 (dk_at dksX8_nextTrips_0 12 rfl rfl)
theorem dX8_nextTrips_13 : decode cX8_nextTrips 13 = .ok (.ishr, 1) := dk_122 (dk_at dksX8_nextTrips_0 13 rfl rfl)
theorem dX8_nextTrips_14 : decode cX8_nextTrips 14 = .ok (.iconst 1, 1) := dk_4 (dk_at dksX8_nextTrips_0 14 rfl rfl)
theorem dX8_nextTrips_15 : decode cX8_nextTrips 15 = .ok (.iand, 1) := dk_126 (dk_at dksX8_nextTrips_0 15 rfl rfl)
theorem dX8_nextTrips_16 : decode cX8_nextTrips 16 = .ok (.ifCond .eq 18, 3) := dk_153 0 18 (dk_at dksX8_nextTrips_0 16 rfl rfl)
theorem dX8_nextTrips_19 : decode cX8_nextTrips 19 = .ok (.aload_n 0, 1) := dk_42 (dk_at dksX8_nextTrips_0 19 rfl rfl)
theorem dX8_nextTrips_20 : decode cX8_nextTrips 20 = .ok (.getfield 99, 3) := dk_180 0 99 (dk_at dksX8_nextTrips_0 20 rfl rfl)
theorem dX8_nextTrips_23 : decode cX8_nextTrips 23 = .ok (.iload_n 2, 1) := dk_28 (dk_at dksX8_nextTrips_0 23 rfl rfl)
theorem dX8_nextTrips_24 : decode cX8_nextTrips 24 = .ok (.iaload, 1) := dk_46 (dk_at dksX8_nextTrips_1 0 rfl rfl)
theorem dX8_nextTrips_25 : decode cX8_nextTrips 25 = .ok (.aload_n 0, 1) := dk_42 (dk_at dksX8_nextTrips_1 1 rfl rfl)
theorem dX8_nextTrips_26 : decode cX8_nextTrips 26 = .ok (.getfield 102, 3) := dk_180 0 102 (dk_at dksX8_nextTrips_1 2 rfl rfl)
theorem dX8_nextTrips_29 : decode cX8_nextTrips 29 = .ok (.iload_n 2, 1) := dk_28 (dk_at dksX8_nextTrips_1 5 rfl rfl)
theorem dX8_nextTrips_30 : decode cX8_nextTrips 30 = .ok (.iaload, 1) := dk_46 (dk_at dksX8_nextTrips_1 6 rfl rfl)
theorem dX8_nextTrips_31 : decode cX8_nextTrips 31 = .ok (.if_icmp .ne 9, 3) := dk_160 0 9 (dk_at dksX8_nextTrips_1 7 rfl rfl)
theorem dX8_nextTrips_34 : decode cX8_nextTrips 34 = .ok (.iinc 2 (-1), 3) := dk_132 2 255 (dk_at dksX8_nextTrips_1 10 rfl rfl)
theorem dX8_nextTrips_37 : decode cX8_nextTrips 37 = .ok (.goto (-30), 3) := dk_167 255 226 (dk_at dksX8_nextTrips_1 13 rfl rfl)
theorem dX8_nextTrips_40 : decode cX8_nextTrips 40 = .ok (.iload_n 2, 1) := dk_28 (dk_at dksX8_nextTrips_1 16 rfl rfl)
theorem dX8_nextTrips_41 : decode cX8_nextTrips 41 = .ok (.ifCond .ge 5, 3) := dk_156 0 5 (dk_at dksX8_nextTrips_1 17 rfl rfl)
theorem dX8_nextTrips_44 : decode cX8_nextTrips 44 = .ok (.iconst 0, 1) := dk_3 (dk_at dksX8_nextTrips_1 20 rfl rfl)
theorem dX8_nextTrips_45 : decode cX8_nextTrips 45 = .ok (.ireturn, 1) := dk_172 (dk_at dksX8_nextTrips_1 21 rfl rfl)
theorem dX8_nextTrips_46 : decode cX8_nextTrips 46 = .ok (.aload_n 0, 1) := dk_42 (dk_at dksX8_nextTrips_1 22 rfl rfl)
theorem dX8_nextTrips_47 : decode cX8_nextTrips 47 = .ok (.getfield 99, 3) := dk_180 0 99 (dk_at dksX8_nextTrips_2 0 rfl rfl)
theorem dX8_nextTrips_50 : decode cX8_nextTrips 50 = .ok (.iload_n 2, 1) := dk_28 (dk_at dksX8_nextTrips_2 3 rfl rfl)
theorem dX8_nextTrips_51 : decode cX8_nextTrips 51 = .ok (.dup2, 1) := dk_92 (dk_at dksX8_nextTrips_2 4 rfl rfl)
theorem dX8_nextTrips_52 : decode cX8_nextTrips 52 = .ok (.iaload, 1) := dk_46 (dk_at dksX8_nextTrips_2 5 rfl rfl)
theorem dX8_nextTrips_53 : decode cX8_nextTrips 53 = .ok (.iconst 1, 1) := dk_4 (dk_at dksX8_nextTrips_2 6 rfl rfl)
theorem dX8_nextTrips_54 : decode cX8_nextTrips 54 = .ok (.iadd, 1) := dk_96 (dk_at dksX8_nextTrips_2 7 rfl rfl)
theorem dX8_nextTrips_55 : decode cX8_nextTrips 55 = .ok (.iastore, 1) := dk_79 (dk_at dksX8_nextTrips_2 8 rfl rfl)
theorem dX8_nextTrips_56 : decode cX8_nextTrips 56 = .ok (.iload_n 2, 1) := dk_28 (dk_at dksX8_nextTrips_2 9 rfl rfl)
theorem dX8_nextTrips_57 : decode cX8_nextTrips 57 = .ok (.iconst 1, 1) := dk_4 (dk_at dksX8_nextTrips_2 10 rfl rfl)
theorem dX8_nextTrips_58 : decode cX8_nextTrips 58 = .ok (.iadd, 1) := dk_96 (dk_at dksX8_nextTrips_2 11 rfl rfl)
theorem dX8_nextTrips_59 : decode cX8_nextTrips 59 = .ok (.istore_n 3, 1) := dk_62 (dk_at dksX8_nextTrips_2 12 rfl rfl)
theorem dX8_nextTrips_60 : decode cX8_nextTrips 60 = .ok (.iload_n 3, 1) := dk_29 (dk_at dksX8_nextTrips_2 13 rfl rfl)
theorem dX8_nextTrips_61 : decode cX8_nextTrips 61 = .ok (.aload_n 0, 1) := dk_42 (dk_at dksX8_nextTrips_2 14 rfl rfl)
theorem dX8_nextTrips_62 : decode cX8_nextTrips 62 = .ok (.getfield 321, 3) := dk_180 1 65 (dk_at dksX8_nextTrips_2 15 rfl rfl)
theorem dX8_nextTrips_65 : decode cX8_nextTrips 65 = .ok (.if_icmp .ge 16, 3) := dk_162 0 16 (dk_at dksX8_nextTrips_2 18 rfl rfl)
theorem dX8_nextTrips_68 : decode cX8_nextTrips 68 = .ok (.aload_n 0, 1) := dk_42 (dk_at dksX8_nextTrips_2 21 rfl rfl)
theorem dX8_nextTrips_69 : decode cX8_nextTrips 69 = .ok (.getfield 99, 3) := dk_180 0 99 (dk_at dksX8_nextTrips_3 0 rfl rfl)
theorem dX8_nextTrips_72 : decode cX8_nextTrips 72 = .ok (.iload_n 3, 1) := dk_29 (dk_at dksX8_nextTrips_3 3 rfl rfl)
theorem dX8_nextTrips_73 : decode cX8_nextTrips 73 = .ok (.iconst 0, 1) := dk_3 (dk_at dksX8_nextTrips_3 4 rfl rfl)
theorem dX8_nextTrips_74 : decode cX8_nextTrips 74 = .ok (.iastore, 1) := dk_79 (dk_at dksX8_nextTrips_3 5 rfl rfl)
theorem dX8_nextTrips_75 : decode cX8_nextTrips 75 = .ok (.iinc 3 1, 3) := dk_132 3 1 (dk_at dksX8_nextTrips_3 6 rfl rfl)
theorem dX8_nextTrips_78 : decode cX8_nextTrips 78 = .ok (.goto (-18), 3) := dk_167 255 238 (dk_at dksX8_nextTrips_3 9 rfl rfl)
theorem dX8_nextTrips_81 : decode cX8_nextTrips 81 = .ok (.aload_n 0, 1) := dk_42 (dk_at dksX8_nextTrips_3 12 rfl rfl)
theorem dX8_nextTrips_82 : decode cX8_nextTrips 82 = .ok (.iload_n 1, 1) := dk_27 (dk_at dksX8_nextTrips_3 13 rfl rfl)
theorem dX8_nextTrips_83 : decode cX8_nextTrips 83 = .ok (.invokevirtual 499, 3) := dk_182 1 243 (dk_at dksX8_nextTrips_3 14 rfl rfl)
theorem dX8_nextTrips_86 : decode cX8_nextTrips 86 = .ok (.pop, 1) := dk_87 (dk_at dksX8_nextTrips_3 17 rfl rfl)
theorem dX8_nextTrips_87 : decode cX8_nextTrips 87 = .ok (.iconst 1, 1) := dk_4 (dk_at dksX8_nextTrips_3 18 rfl rfl)
theorem dX8_nextTrips_88 : decode cX8_nextTrips 88 = .ok (.ireturn, 1) := dk_172 (dk_at dksX8_nextTrips_3 19 rfl rfl)
abbrev cX8_stowing : ByteArray := prog_20_method_92_code
def yX8_stowing : MethodName := ⟨RX8, "stowing", "()I"⟩
def dkwX8_stowing_5 : List UInt8 := [181, 1, 167, 132, 3, 1, 167, 255, 153, 28, 19, 1, 233, 160, 0, 7, 2, 167, 0, 4, 28, 172]
abbrev dktX8_stowing_5 : List UInt8 := dkwX8_stowing_5 ++ []
def dkwX8_stowing_4 : List UInt8 := [16, 20, 21, 5, 96, 46, 167, 0, 4, 2, 79, 132, 5, 1, 167, 255, 213, 42, 42, 180, 1, 65]
abbrev dktX8_stowing_4 : List UInt8 := dkwX8_stowing_4 ++ dktX8_stowing_5
def dkwX8_stowing_3 : List UInt8 := [162, 0, 40, 42, 180, 0, 96, 21, 5, 27, 21, 5, 122, 4, 126, 4, 160, 0, 16, 42, 180, 0, 87]
abbrev dktX8_stowing_3 : List UInt8 := dkwX8_stowing_3 ++ dktX8_stowing_4
def dkwX8_stowing_2 : List UInt8 := [28, 161, 0, 6, 167, 0, 66, 21, 4, 184, 2, 2, 61, 3, 54, 5, 21, 5, 42, 180, 1, 65]
abbrev dktX8_stowing_2 : List UInt8 := dkwX8_stowing_2 ++ dktX8_stowing_3
def dkwX8_stowing_1 : List UInt8 := [184, 1, 221, 162, 0, 97, 42, 27, 29, 182, 1, 255, 54, 4, 21, 4, 155, 0, 78, 21, 4, 184, 2, 2]
abbrev dktX8_stowing_1 : List UInt8 := dkwX8_stowing_1 ++ dktX8_stowing_2
def dkwX8_stowing_0 : List UInt8 := [42, 3, 181, 1, 167, 42, 182, 1, 246, 60, 19, 1, 233, 61, 3, 62, 29, 7, 42, 180, 1, 65]
abbrev dktX8_stowing_0 : List UInt8 := dkwX8_stowing_0 ++ dktX8_stowing_1
theorem dksX8_stowing_0 : cX8_stowing.data.toList.drop 0 = dktX8_stowing_0 := by decide +kernel
theorem dksX8_stowing_1 : cX8_stowing.data.toList.drop 22 = dktX8_stowing_1 := dk_seg dksX8_stowing_0 22 rfl rfl
theorem dksX8_stowing_2 : cX8_stowing.data.toList.drop 46 = dktX8_stowing_2 := dk_seg dksX8_stowing_1 24 rfl rfl
theorem dksX8_stowing_3 : cX8_stowing.data.toList.drop 68 = dktX8_stowing_3 := dk_seg dksX8_stowing_2 22 rfl rfl
theorem dksX8_stowing_4 : cX8_stowing.data.toList.drop 91 = dktX8_stowing_4 := dk_seg dksX8_stowing_3 23 rfl rfl
theorem dksX8_stowing_5 : cX8_stowing.data.toList.drop 113 = dktX8_stowing_5 := dk_seg dksX8_stowing_4 22 rfl rfl
theorem dX8_stowing_0 : decode cX8_stowing 0 = .ok (.aload_n 0, 1) := dk_42 (dk_at dksX8_stowing_0 0 rfl rfl)
theorem dX8_stowing_1 : decode cX8_stowing 1 = .ok (.iconst 0, 1) := dk_3 (dk_at dksX8_stowing_0 1 rfl rfl)
theorem dX8_stowing_2 : decode cX8_stowing 2 = .ok (.putfield 423, 3) := dk_181 1 167 (dk_at dksX8_stowing_0 2 rfl rfl)
theorem dX8_stowing_5 : decode cX8_stowing 5 = .ok (.aload_n 0, 1) := dk_42 (dk_at dksX8_stowing_0 5 rfl rfl)
theorem dX8_stowing_6 : decode cX8_stowing 6 = .ok (.invokevirtual 502, 3) := dk_182 1 246 (dk_at dksX8_stowing_0 6 rfl rfl)
theorem dX8_stowing_9 : decode cX8_stowing 9 = .ok (.istore_n 1, 1) := dk_60 (dk_at dksX8_stowing_0 9 rfl rfl)
theorem dX8_stowing_10 : decode cX8_stowing 10 = .ok (.ldc_w 489, 3) := dk_19 1 233 (dk_at dksX8_stowing_0 10 rfl rfl)
theorem dX8_stowing_13 : decode cX8_stowing 13 = .ok (.istore_n 2, 1) := dk_61 (dk_at dksX8_stowing_0 13 rfl rfl)
theorem dX8_stowing_14 : decode cX8_stowing 14 = .ok (.iconst 0, 1) := dk_3 (dk_at dksX8_stowing_0 14 rfl rfl)
theorem dX8_stowing_15 : decode cX8_stowing 15 = .ok (.istore_n 3, 1) := dk_62 (dk_at dksX8_stowing_0 15 rfl rfl)
theorem dX8_stowing_16 : decode cX8_stowing 16 = .ok (.iload_n 3, 1) := dk_29 (dk_at dksX8_stowing_0 16 rfl rfl)
theorem dX8_stowing_17 : decode cX8_stowing 17 = .ok (.iconst 4, 1) := dk_7 (dk_at dksX8_stowing_0 17 rfl rfl)
theorem dX8_stowing_18 : decode cX8_stowing 18 = .ok (.aload_n 0, 1) := dk_42 (dk_at dksX8_stowing_0 18 rfl rfl)
theorem dX8_stowing_19 : decode cX8_stowing 19 = .ok (.getfield 321, 3) := dk_180 1 65 (dk_at dksX8_stowing_0 19 rfl rfl)
theorem dX8_stowing_22 : decode cX8_stowing 22 = .ok (.invokestatic 477, 3) := dk_184 1 221 (dk_at dksX8_stowing_1 0 rfl rfl)
theorem dX8_stowing_25 : decode cX8_stowing 25 = .ok (.if_icmp .ge 97, 3) := dk_162 0 97 (dk_at dksX8_stowing_1 3 rfl rfl)
theorem dX8_stowing_28 : decode cX8_stowing 28 = .ok (.aload_n 0, 1) := dk_42 (dk_at dksX8_stowing_1 6 rfl rfl)
theorem dX8_stowing_29 : decode cX8_stowing 29 = .ok (.iload_n 1, 1) := dk_27 (dk_at dksX8_stowing_1 7 rfl rfl)
theorem dX8_stowing_30 : decode cX8_stowing 30 = .ok (.iload_n 3, 1) := dk_29 (dk_at dksX8_stowing_1 8 rfl rfl)
theorem dX8_stowing_31 : decode cX8_stowing 31 = .ok (.invokevirtual 511, 3) := dk_182 1 255 (dk_at dksX8_stowing_1 9 rfl rfl)
theorem dX8_stowing_34 : decode cX8_stowing 34 = .ok (.istore 4, 2) := dk_54 4 (dk_at dksX8_stowing_1 12 rfl rfl)
theorem dX8_stowing_36 : decode cX8_stowing 36 = .ok (.iload 4, 2) := dk_21 4 (dk_at dksX8_stowing_1 14 rfl rfl)
theorem dX8_stowing_38 : decode cX8_stowing 38 = .ok (.ifCond .lt 78, 3) := dk_155 0 78 (dk_at dksX8_stowing_1 16 rfl rfl)
theorem dX8_stowing_41 : decode cX8_stowing 41 = .ok (.iload 4, 2) := dk_21 4 (dk_at dksX8_stowing_1 19 rfl rfl)
theorem dX8_stowing_43 : decode cX8_stowing 43 = .ok (.invokestatic 514, 3) := dk_184 2 2 (dk_at dksX8_stowing_1 21 rfl rfl)
theorem dX8_stowing_46 : decode cX8_stowing 46 = .ok (.iload_n 2, 1) := dk_28 (dk_at dksX8_stowing_2 0 rfl rfl)
theorem dX8_stowing_47 : decode cX8_stowing 47 = .ok (.if_icmp .lt 6, 3) := dk_161 0 6 (dk_at dksX8_stowing_2 1 rfl rfl)
theorem dX8_stowing_50 : decode cX8_stowing 50 = .ok (.goto 66, 3) := dk_167 0 66 (dk_at dksX8_stowing_2 4 rfl rfl)
theorem dX8_stowing_53 : decode cX8_stowing 53 = .ok (.iload 4, 2) := dk_21 4 (dk_at dksX8_stowing_2 7 rfl rfl)
theorem dX8_stowing_55 : decode cX8_stowing 55 = .ok (.invokestatic 514, 3) := dk_184 2 2 (dk_at dksX8_stowing_2 9 rfl rfl)
theorem dX8_stowing_58 : decode cX8_stowing 58 = .ok (.istore_n 2, 1) := dk_61 (dk_at dksX8_stowing_2 12 rfl rfl)
theorem dX8_stowing_59 : decode cX8_stowing 59 = .ok (.iconst 0, 1) := dk_3 (dk_at dksX8_stowing_2 13 rfl rfl)
theorem dX8_stowing_60 : decode cX8_stowing 60 = .ok (.istore 5, 2) := dk_54 5 (dk_at dksX8_stowing_2 14 rfl rfl)
theorem dX8_stowing_62 : decode cX8_stowing 62 = .ok (.iload 5, 2) := dk_21 5 (dk_at dksX8_stowing_2 16 rfl rfl)
theorem dX8_stowing_64 : decode cX8_stowing 64 = .ok (.aload_n 0, 1) := dk_42 (dk_at dksX8_stowing_2 18 rfl rfl)
theorem dX8_stowing_65 : decode cX8_stowing 65 = .ok (.getfield 321, 3) := dk_180 1 65 (dk_at dksX8_stowing_2 19 rfl rfl)
theorem dX8_stowing_68 : decode cX8_stowing 68 = .ok (.if_icmp .ge 40, 3) := dk_162 0 40 (dk_at dksX8_stowing_3 0 rfl rfl)
theorem dX8_stowing_71 : decode cX8_stowing 71 = .ok (.aload_n 0, 1) := dk_42 (dk_at dksX8_stowing_3 3 rfl rfl)
theorem dX8_stowing_72 : decode cX8_stowing 72 = .ok (.getfield 96, 3) := dk_180 0 96 (dk_at dksX8_stowing_3 4 rfl rfl)
theorem dX8_stowing_75 : decode cX8_stowing 75 = .ok (.iload 5, 2) := dk_21 5 (dk_at dksX8_stowing_3 7 rfl rfl)
theorem dX8_stowing_77 : decode cX8_stowing 77 = .ok (.iload_n 1, 1) := dk_27 (dk_at dksX8_stowing_3 9 rfl rfl)
theorem dX8_stowing_78 : decode cX8_stowing 78 = .ok (.iload 5, 2) := dk_21 5 (dk_at dksX8_stowing_3 10 rfl rfl)
theorem dX8_stowing_80 : decode cX8_stowing 80 = .ok (.ishr, 1) := dk_122 (dk_at dksX8_stowing_3 12 rfl rfl)
theorem dX8_stowing_81 : decode cX8_stowing 81 = .ok (.iconst 1, 1) := dk_4 (dk_at dksX8_stowing_3 13 rfl rfl)
theorem dX8_stowing_82 : decode cX8_stowing 82 = .ok (.iand, 1) := dk_126 (dk_at dksX8_stowing_3 14 rfl rfl)
theorem dX8_stowing_83 : decode cX8_stowing 83 = .ok (.iconst 1, 1) := dk_4 (dk_at dksX8_stowing_3 15 rfl rfl)
theorem dX8_stowing_84 : decode cX8_stowing 84 = .ok (.if_icmp .ne 16, 3) := dk_160 0 16 (dk_at dksX8_stowing_3 16 rfl rfl)
theorem dX8_stowing_87 : decode cX8_stowing 87 = .ok (.aload_n 0, 1) := dk_42 (dk_at dksX8_stowing_3 19 rfl rfl)
theorem dX8_stowing_88 : decode cX8_stowing 88 = .ok (.getfield 87, 3) := dk_180 0 87 (dk_at dksX8_stowing_3 20 rfl rfl)
theorem dX8_stowing_91 : decode cX8_stowing 91 = .ok (.bipush 20, 2) := dk_16 20 (dk_at dksX8_stowing_4 0 rfl rfl)
theorem dX8_stowing_93 : decode cX8_stowing 93 = .ok (.iload 5, 2) := dk_21 5 (dk_at dksX8_stowing_4 2 rfl rfl)
theorem dX8_stowing_95 : decode cX8_stowing 95 = .ok (.iadd, 1) := dk_96 (dk_at dksX8_stowing_4 4 rfl rfl)
theorem dX8_stowing_96 : decode cX8_stowing 96 = .ok (.iaload, 1) := dk_46 (dk_at dksX8_stowing_4 5 rfl rfl)
theorem dX8_stowing_97 : decode cX8_stowing 97 = .ok (.goto 4, 3) := dk_167 0 4 (dk_at dksX8_stowing_4 6 rfl rfl)
theorem dX8_stowing_100 : decode cX8_stowing 100 = .ok (.iconst (-1), 1) := dk_2 (dk_at dksX8_stowing_4 9 rfl rfl)
theorem dX8_stowing_101 : decode cX8_stowing 101 = .ok (.iastore, 1) := dk_79 (dk_at dksX8_stowing_4 10 rfl rfl)
theorem dX8_stowing_102 : decode cX8_stowing 102 = .ok (.iinc 5 1, 3) := dk_132 5 1 (dk_at dksX8_stowing_4 11 rfl rfl)
theorem dX8_stowing_105 : decode cX8_stowing 105 = .ok (.goto (-43), 3) := dk_167 255 213 (dk_at dksX8_stowing_4 14 rfl rfl)
theorem dX8_stowing_108 : decode cX8_stowing 108 = .ok (.aload_n 0, 1) := dk_42 (dk_at dksX8_stowing_4 17 rfl rfl)
theorem dX8_stowing_109 : decode cX8_stowing 109 = .ok (.aload_n 0, 1) := dk_42 (dk_at dksX8_stowing_4 18 rfl rfl)
theorem dX8_stowing_110 : decode cX8_stowing 110 = .ok (.getfield 321, 3) := dk_180 1 65 (dk_at dksX8_stowing_4 19 rfl rfl)
theorem dX8_stowing_113 : decode cX8_stowing 113 = .ok (.putfield 423, 3) := dk_181 1 167 (dk_at dksX8_stowing_5 0 rfl rfl)
theorem dX8_stowing_116 : decode cX8_stowing 116 = .ok (.iinc 3 1, 3) := dk_132 3 1 (dk_at dksX8_stowing_5 3 rfl rfl)
theorem dX8_stowing_119 : decode cX8_stowing 119 = .ok (.goto (-103), 3) := dk_167 255 153 (dk_at dksX8_stowing_5 6 rfl rfl)
theorem dX8_stowing_122 : decode cX8_stowing 122 = .ok (.iload_n 2, 1) := dk_28 (dk_at dksX8_stowing_5 9 rfl rfl)
theorem dX8_stowing_123 : decode cX8_stowing 123 = .ok (.ldc_w 489, 3) := dk_19 1 233 (dk_at dksX8_stowing_5 10 rfl rfl)
theorem dX8_stowing_126 : decode cX8_stowing 126 = .ok (.if_icmp .ne 7, 3) := dk_160 0 7 (dk_at dksX8_stowing_5 13 rfl rfl)
theorem dX8_stowing_129 : decode cX8_stowing 129 = .ok (.iconst (-1), 1) := dk_2 (dk_at dksX8_stowing_5 16 rfl rfl)
theorem dX8_stowing_130 : decode cX8_stowing 130 = .ok (.goto 4, 3) := dk_167 0 4 (dk_at dksX8_stowing_5 17 rfl rfl)
theorem dX8_stowing_133 : decode cX8_stowing 133 = .ok (.iload_n 2, 1) := dk_28 (dk_at dksX8_stowing_5 20 rfl rfl)
theorem dX8_stowing_134 : decode cX8_stowing 134 = .ok (.ireturn, 1) := dk_172 (dk_at dksX8_stowing_5 21 rfl rfl)
abbrev cX8_stowBy : ByteArray := prog_20_method_91_code
def yX8_stowBy : MethodName := ⟨RX8, "stowBy", "(II)I"⟩
def dkwX8_stowBy_6 : List UInt8 := [167, 255, 215, 21, 4, 172]
abbrev dktX8_stowBy_6 : List UInt8 := dkwX8_stowBy_6 ++ []
def dkwX8_stowBy_5 : List UInt8 := [160, 0, 21, 42, 21, 5, 182, 1, 68, 42, 180, 0, 66, 21, 5, 46, 164, 0, 5, 2, 172, 132, 5, 1]
abbrev dktX8_stowBy_5 : List UInt8 := dkwX8_stowBy_5 ++ dktX8_stowBy_6
def dkwX8_stowBy_4 : List UInt8 := [167, 255, 179, 3, 54, 5, 21, 5, 42, 180, 1, 149, 162, 0, 38, 21, 4, 21, 5, 122, 4, 126, 4]
abbrev dktX8_stowBy_4 : List UInt8 := dkwX8_stowBy_4 ++ dktX8_stowBy_5
def dkwX8_stowBy_3 : List UInt8 := [180, 0, 87, 16, 20, 21, 5, 96, 21, 6, 79, 21, 4, 4, 21, 6, 120, 128, 54, 4, 132, 5, 255]
abbrev dktX8_stowBy_3 : List UInt8 := dkwX8_stowBy_3 ++ dktX8_stowBy_4
def dkwX8_stowBy_2 : List UInt8 := [21, 6, 42, 180, 1, 149, 162, 0, 15, 42, 180, 0, 84, 7, 21, 6, 96, 46, 158, 0, 5, 2, 172, 42]
abbrev dktX8_stowBy_2 : List UInt8 := dkwX8_stowBy_2 ++ dktX8_stowBy_3
def dkwX8_stowBy_1 : List UInt8 := [112, 54, 6, 29, 7, 108, 62, 27, 21, 5, 122, 4, 126, 154, 0, 10, 21, 6, 158, 0, 49, 2, 172]
abbrev dktX8_stowBy_1 : List UInt8 := dkwX8_stowBy_1 ++ dktX8_stowBy_2
def dkwX8_stowBy_0 : List UInt8 := [42, 182, 1, 191, 28, 62, 3, 54, 4, 42, 180, 1, 65, 4, 100, 54, 5, 21, 5, 155, 0, 78, 29, 7]
abbrev dktX8_stowBy_0 : List UInt8 := dkwX8_stowBy_0 ++ dktX8_stowBy_1
theorem dksX8_stowBy_0 : cX8_stowBy.data.toList.drop 0 = dktX8_stowBy_0 := by decide +kernel
theorem dksX8_stowBy_1 : cX8_stowBy.data.toList.drop 24 = dktX8_stowBy_1 := dk_seg dksX8_stowBy_0 24 rfl rfl
theorem dksX8_stowBy_2 : cX8_stowBy.data.toList.drop 47 = dktX8_stowBy_2 := dk_seg dksX8_stowBy_1 23 rfl rfl
theorem dksX8_stowBy_3 : cX8_stowBy.data.toList.drop 71 = dktX8_stowBy_3 := dk_seg dksX8_stowBy_2 24 rfl rfl
theorem dksX8_stowBy_4 : cX8_stowBy.data.toList.drop 94 = dktX8_stowBy_4 := dk_seg dksX8_stowBy_3 23 rfl rfl
theorem dksX8_stowBy_5 : cX8_stowBy.data.toList.drop 117 = dktX8_stowBy_5 := dk_seg dksX8_stowBy_4 23 rfl rfl
theorem dksX8_stowBy_6 : cX8_stowBy.data.toList.drop 141 = dktX8_stowBy_6 := dk_seg dksX8_stowBy_5 24 rfl rfl
theorem dX8_stowBy_0 : decode cX8_stowBy 0 = .ok (.aload_n 0, 1) := dk_42 (dk_at dksX8_stowBy_0 0 rfl rfl)
theorem dX8_stowBy_1 : decode cX8_stowBy 1 = .ok (.invokevirtual 447, 3) := dk_182 1 191 (dk_at dksX8_stowBy_0 1 rfl rfl)
theorem dX8_stowBy_4 : decode cX8_stowBy 4 = .ok (.iload_n 2, 1) := dk_28 (dk_at dksX8_stowBy_0 4 rfl rfl)
theorem dX8_stowBy_5 : decode cX8_stowBy 5 = .ok (.istore_n 3, 1) := dk_62 (dk_at dksX8_stowBy_0 5 rfl rfl)
theorem dX8_stowBy_6 : decode cX8_stowBy 6 = .ok (.iconst 0, 1) := dk_3 (dk_at dksX8_stowBy_0 6 rfl rfl)
theorem dX8_stowBy_7 : decode cX8_stowBy 7 = .ok (.istore 4, 2) := dk_54 4 (dk_at dksX8_stowBy_0 7 rfl rfl)
theorem dX8_stowBy_9 : decode cX8_stowBy 9 = .ok (.aload_n 0, 1) := dk_42 (dk_at dksX8_stowBy_0 9 rfl rfl)
theorem dX8_stowBy_10 : decode cX8_stowBy 10 = .ok (.getfield 321, 3) := dk_180 1 65 (dk_at dksX8_stowBy_0 10 rfl rfl)
theorem dX8_stowBy_13 : decode cX8_stowBy 13 = .ok (.iconst 1, 1) := dk_4 (dk_at dksX8_stowBy_0 13 rfl rfl)
theorem dX8_stowBy_14 : decode cX8_stowBy 14 = .ok (.isub, 1) := dk_100 (dk_at dksX8_stowBy_0 14 rfl rfl)
theorem dX8_stowBy_15 : decode cX8_stowBy 15 = .ok (.istore 5, 2) := dk_54 5 (dk_at dksX8_stowBy_0 15 rfl rfl)
theorem dX8_stowBy_17 : decode cX8_stowBy 17 = .ok (.iload 5, 2) := dk_21 5 (dk_at dksX8_stowBy_0 17 rfl rfl)
theorem dX8_stowBy_19 : decode cX8_stowBy 19 = .ok (.ifCond .lt 78, 3) := dk_155 0 78 (dk_at dksX8_stowBy_0 19 rfl rfl)
theorem dX8_stowBy_22 : decode cX8_stowBy 22 = .ok (.iload_n 3, 1) := dk_29 (dk_at dksX8_stowBy_0 22 rfl rfl)
theorem dX8_stowBy_23 : decode cX8_stowBy 23 = .ok (.iconst 4, 1) := dk_7 (dk_at dksX8_stowBy_0 23 rfl rfl)
theorem dX8_stowBy_24 : decode cX8_stowBy 24 = .ok (.irem, 1) := dk_112 (dk_at dksX8_stowBy_1 0 rfl rfl)
theorem dX8_stowBy_25 : decode cX8_stowBy 25 = .ok (.istore 6, 2) := dk_54 6 (dk_at dksX8_stowBy_1 1 rfl rfl)
theorem dX8_stowBy_27 : decode cX8_stowBy 27 = .ok (.iload_n 3, 1) := dk_29 (dk_at dksX8_stowBy_1 3 rfl rfl)
theorem dX8_stowBy_28 : decode cX8_stowBy 28 = .ok (.iconst 4, 1) := dk_7 (dk_at dksX8_stowBy_1 4 rfl rfl)
theorem dX8_stowBy_29 : decode cX8_stowBy 29 = .ok (.idiv, 1) := dk_108 (dk_at dksX8_stowBy_1 5 rfl rfl)
theorem dX8_stowBy_30 : decode cX8_stowBy 30 = .ok (.istore_n 3, 1) := dk_62 (dk_at dksX8_stowBy_1 6 rfl rfl)
theorem dX8_stowBy_31 : decode cX8_stowBy 31 = .ok (.iload_n 1, 1) := dk_27 (dk_at dksX8_stowBy_1 7 rfl rfl)
theorem dX8_stowBy_32 : decode cX8_stowBy 32 = .ok (.iload 5, 2) := dk_21 5 (dk_at dksX8_stowBy_1 8 rfl rfl)
theorem dX8_stowBy_34 : decode cX8_stowBy 34 = .ok (.ishr, 1) := dk_122 (dk_at dksX8_stowBy_1 10 rfl rfl)
theorem dX8_stowBy_35 : decode cX8_stowBy 35 = .ok (.iconst 1, 1) := dk_4 (dk_at dksX8_stowBy_1 11 rfl rfl)
theorem dX8_stowBy_36 : decode cX8_stowBy 36 = .ok (.iand, 1) := dk_126 (dk_at dksX8_stowBy_1 12 rfl rfl)
theorem dX8_stowBy_37 : decode cX8_stowBy 37 = .ok (.ifCond .ne 10, 3) := dk_154 0 10 (dk_at dksX8_stowBy_1 13 rfl rfl)
theorem dX8_stowBy_40 : decode cX8_stowBy 40 = .ok (.iload 6, 2) := dk_21 6 (dk_at dksX8_stowBy_1 16 rfl rfl)
theorem dX8_stowBy_42 : decode cX8_stowBy 42 = .ok (.ifCond .le 49, 3) := dk_158 0 49 (dk_at dksX8_stowBy_1 18 rfl rfl)
theorem dX8_stowBy_45 : decode cX8_stowBy 45 = .ok (.iconst (-1), 1) := dk_2 (dk_at dksX8_stowBy_1 21 rfl rfl)
theorem dX8_stowBy_46 : decode cX8_stowBy 46 = .ok (.ireturn, 1) := dk_172 (dk_at dksX8_stowBy_1 22 rfl rfl)
theorem dX8_stowBy_47 : decode cX8_stowBy 47 = .ok (.iload 6, 2) := dk_21 6 (dk_at dksX8_stowBy_2 0 rfl rfl)
theorem dX8_stowBy_49 : decode cX8_stowBy 49 = .ok (.aload_n 0, 1) := dk_42 (dk_at dksX8_stowBy_2 2 rfl rfl)
theorem dX8_stowBy_50 : decode cX8_stowBy 50 = .ok (.getfield 405, 3) := dk_180 1 149 (dk_at dksX8_stowBy_2 3 rfl rfl)
theorem dX8_stowBy_53 : decode cX8_stowBy 53 = .ok (.if_icmp .ge 15, 3) := dk_162 0 15 (dk_at dksX8_stowBy_2 6 rfl rfl)
theorem dX8_stowBy_56 : decode cX8_stowBy 56 = .ok (.aload_n 0, 1) := dk_42 (dk_at dksX8_stowBy_2 9 rfl rfl)
theorem dX8_stowBy_57 : decode cX8_stowBy 57 = .ok (.getfield 84, 3) := dk_180 0 84 (dk_at dksX8_stowBy_2 10 rfl rfl)
theorem dX8_stowBy_60 : decode cX8_stowBy 60 = .ok (.iconst 4, 1) := dk_7 (dk_at dksX8_stowBy_2 13 rfl rfl)
theorem dX8_stowBy_61 : decode cX8_stowBy 61 = .ok (.iload 6, 2) := dk_21 6 (dk_at dksX8_stowBy_2 14 rfl rfl)
theorem dX8_stowBy_63 : decode cX8_stowBy 63 = .ok (.iadd, 1) := dk_96 (dk_at dksX8_stowBy_2 16 rfl rfl)
theorem dX8_stowBy_64 : decode cX8_stowBy 64 = .ok (.iaload, 1) := dk_46 (dk_at dksX8_stowBy_2 17 rfl rfl)
theorem dX8_stowBy_65 : decode cX8_stowBy 65 = .ok (.ifCond .le 5, 3) := dk_158 0 5 (dk_at dksX8_stowBy_2 18 rfl rfl)
theorem dX8_stowBy_68 : decode cX8_stowBy 68 = .ok (.iconst (-1), 1) := dk_2 (dk_at dksX8_stowBy_2 21 rfl rfl)
theorem dX8_stowBy_69 : decode cX8_stowBy 69 = .ok (.ireturn, 1) := dk_172 (dk_at dksX8_stowBy_2 22 rfl rfl)
theorem dX8_stowBy_70 : decode cX8_stowBy 70 = .ok (.aload_n 0, 1) := dk_42 (dk_at dksX8_stowBy_2 23 rfl rfl)
theorem dX8_stowBy_71 : decode cX8_stowBy 71 = .ok (.getfield 87, 3) := dk_180 0 87 (dk_at dksX8_stowBy_3 0 rfl rfl)
theorem dX8_stowBy_74 : decode cX8_stowBy 74 = .ok (.bipush 20, 2) := dk_16 20 (dk_at dksX8_stowBy_3 3 rfl rfl)
theorem dX8_stowBy_76 : decode cX8_stowBy 76 = .ok (.iload 5, 2) := dk_21 5 (dk_at dksX8_stowBy_3 5 rfl rfl)
theorem dX8_stowBy_78 : decode cX8_stowBy 78 = .ok (.iadd, 1) := dk_96 (dk_at dksX8_stowBy_3 7 rfl rfl)
theorem dX8_stowBy_79 : decode cX8_stowBy 79 = .ok (.iload 6, 2) := dk_21 6 (dk_at dksX8_stowBy_3 8 rfl rfl)
theorem dX8_stowBy_81 : decode cX8_stowBy 81 = .ok (.iastore, 1) := dk_79 (dk_at dksX8_stowBy_3 10 rfl rfl)
theorem dX8_stowBy_82 : decode cX8_stowBy 82 = .ok (.iload 4, 2) := dk_21 4 (dk_at dksX8_stowBy_3 11 rfl rfl)
theorem dX8_stowBy_84 : decode cX8_stowBy 84 = .ok (.iconst 1, 1) := dk_4 (dk_at dksX8_stowBy_3 13 rfl rfl)
theorem dX8_stowBy_85 : decode cX8_stowBy 85 = .ok (.iload 6, 2) := dk_21 6 (dk_at dksX8_stowBy_3 14 rfl rfl)
theorem dX8_stowBy_87 : decode cX8_stowBy 87 = .ok (.ishl, 1) := dk_120 (dk_at dksX8_stowBy_3 16 rfl rfl)
theorem dX8_stowBy_88 : decode cX8_stowBy 88 = .ok (.ior, 1) := dk_128 (dk_at dksX8_stowBy_3 17 rfl rfl)
theorem dX8_stowBy_89 : decode cX8_stowBy 89 = .ok (.istore 4, 2) := dk_54 4 (dk_at dksX8_stowBy_3 18 rfl rfl)
theorem dX8_stowBy_91 : decode cX8_stowBy 91 = .ok (.iinc 5 (-1), 3) := dk_132 5 255 (dk_at dksX8_stowBy_3 20 rfl rfl)
theorem dX8_stowBy_94 : decode cX8_stowBy 94 = .ok (.goto (-77), 3) := dk_167 255 179 (dk_at dksX8_stowBy_4 0 rfl rfl)
theorem dX8_stowBy_97 : decode cX8_stowBy 97 = .ok (.iconst 0, 1) := dk_3 (dk_at dksX8_stowBy_4 3 rfl rfl)
theorem dX8_stowBy_98 : decode cX8_stowBy 98 = .ok (.istore 5, 2) := dk_54 5 (dk_at dksX8_stowBy_4 4 rfl rfl)
theorem dX8_stowBy_100 : decode cX8_stowBy 100 = .ok (.iload 5, 2) := dk_21 5 (dk_at dksX8_stowBy_4 6 rfl rfl)
theorem dX8_stowBy_102 : decode cX8_stowBy 102 = .ok (.aload_n 0, 1) := dk_42 (dk_at dksX8_stowBy_4 8 rfl rfl)
theorem dX8_stowBy_103 : decode cX8_stowBy 103 = .ok (.getfield 405, 3) := dk_180 1 149 (dk_at dksX8_stowBy_4 9 rfl rfl)
theorem dX8_stowBy_106 : decode cX8_stowBy 106 = .ok (.if_icmp .ge 38, 3) := dk_162 0 38 (dk_at dksX8_stowBy_4 12 rfl rfl)
theorem dX8_stowBy_109 : decode cX8_stowBy 109 = .ok (.iload 4, 2) := dk_21 4 (dk_at dksX8_stowBy_4 15 rfl rfl)
theorem dX8_stowBy_111 : decode cX8_stowBy 111 = .ok (.iload 5, 2) := dk_21 5 (dk_at dksX8_stowBy_4 17 rfl rfl)
theorem dX8_stowBy_113 : decode cX8_stowBy 113 = .ok (.ishr, 1) := dk_122 (dk_at dksX8_stowBy_4 19 rfl rfl)
theorem dX8_stowBy_114 : decode cX8_stowBy 114 = .ok (.iconst 1, 1) := dk_4 (dk_at dksX8_stowBy_4 20 rfl rfl)
theorem dX8_stowBy_115 : decode cX8_stowBy 115 = .ok (.iand, 1) := dk_126 (dk_at dksX8_stowBy_4 21 rfl rfl)
theorem dX8_stowBy_116 : decode cX8_stowBy 116 = .ok (.iconst 1, 1) := dk_4 (dk_at dksX8_stowBy_4 22 rfl rfl)
theorem dX8_stowBy_117 : decode cX8_stowBy 117 = .ok (.if_icmp .ne 21, 3) := dk_160 0 21 (dk_at dksX8_stowBy_5 0 rfl rfl)
theorem dX8_stowBy_120 : decode cX8_stowBy 120 = .ok (.aload_n 0, 1) := dk_42 (dk_at dksX8_stowBy_5 3 rfl rfl)
theorem dX8_stowBy_121 : decode cX8_stowBy 121 = .ok (.iload 5, 2) := dk_21 5 (dk_at dksX8_stowBy_5 4 rfl rfl)
theorem dX8_stowBy_123 : decode cX8_stowBy 123 = .ok (.invokevirtual 324, 3) := dk_182 1 68 (dk_at dksX8_stowBy_5 6 rfl rfl)
theorem dX8_stowBy_126 : decode cX8_stowBy 126 = .ok (.aload_n 0, 1) := dk_42 (dk_at dksX8_stowBy_5 9 rfl rfl)
theorem dX8_stowBy_127 : decode cX8_stowBy 127 = .ok (.getfield 66, 3) := dk_180 0 66 (dk_at dksX8_stowBy_5 10 rfl rfl)
theorem dX8_stowBy_130 : decode cX8_stowBy 130 = .ok (.iload 5, 2) := dk_21 5 (dk_at dksX8_stowBy_5 13 rfl rfl)
theorem dX8_stowBy_132 : decode cX8_stowBy 132 = .ok (.iaload, 1) := dk_46 (dk_at dksX8_stowBy_5 15 rfl rfl)
theorem dX8_stowBy_133 : decode cX8_stowBy 133 = .ok (.if_icmp .le 5, 3) := dk_164 0 5 (dk_at dksX8_stowBy_5 16 rfl rfl)
theorem dX8_stowBy_136 : decode cX8_stowBy 136 = .ok (.iconst (-1), 1) := dk_2 (dk_at dksX8_stowBy_5 19 rfl rfl)
theorem dX8_stowBy_137 : decode cX8_stowBy 137 = .ok (.ireturn, 1) := dk_172 (dk_at dksX8_stowBy_5 20 rfl rfl)
theorem dX8_stowBy_138 : decode cX8_stowBy 138 = .ok (.iinc 5 1, 3) := dk_132 5 1 (dk_at dksX8_stowBy_5 21 rfl rfl)
theorem dX8_stowBy_141 : decode cX8_stowBy 141 = .ok (.goto (-41), 3) := dk_167 255 215 (dk_at dksX8_stowBy_6 0 rfl rfl)
theorem dX8_stowBy_144 : decode cX8_stowBy 144 = .ok (.iload 4, 2) := dk_21 4 (dk_at dksX8_stowBy_6 3 rfl rfl)
theorem dX8_stowBy_146 : decode cX8_stowBy 146 = .ok (.ireturn, 1) := dk_172 (dk_at dksX8_stowBy_6 5 rfl rfl)
abbrev cX8_members : ByteArray := prog_20_method_50_code
def yX8_members : MethodName := ⟨RX8, "members", "(I)I"⟩
def dkwX8_members_1 : List UInt8 := [27, 172]
abbrev dktX8_members_1 : List UInt8 := dkwX8_members_1 ++ []
def dkwX8_members_0 : List UInt8 := [3, 60, 3, 61, 28, 16, 8, 162, 0, 17, 27, 26, 28, 122, 4, 126, 96, 60, 132, 2, 1, 167, 255, 239]
abbrev dktX8_members_0 : List UInt8 := dkwX8_members_0 ++ dktX8_members_1
theorem dksX8_members_0 : cX8_members.data.toList.drop 0 = dktX8_members_0 := by decide +kernel
theorem dksX8_members_1 : cX8_members.data.toList.drop 24 = dktX8_members_1 := dk_seg dksX8_members_0 24 rfl rfl
theorem dX8_members_0 : decode cX8_members 0 = .ok (.iconst 0, 1) := dk_3 (dk_at dksX8_members_0 0 rfl rfl)
theorem dX8_members_1 : decode cX8_members 1 = .ok (.istore_n 1, 1) := dk_60 (dk_at dksX8_members_0 1 rfl rfl)
theorem dX8_members_2 : decode cX8_members 2 = .ok (.iconst 0, 1) := dk_3 (dk_at dksX8_members_0 2 rfl rfl)
theorem dX8_members_3 : decode cX8_members 3 = .ok (.istore_n 2, 1) := dk_61 (dk_at dksX8_members_0 3 rfl rfl)
theorem dX8_members_4 : decode cX8_members 4 = .ok (.iload_n 2, 1) := dk_28 (dk_at dksX8_members_0 4 rfl rfl)
theorem dX8_members_5 : decode cX8_members 5 = .ok (.bipush 8, 2) := dk_16 8 (dk_at dksX8_members_0 5 rfl rfl)
theorem dX8_members_7 : decode cX8_members 7 = .ok (.if_icmp .ge 17, 3) := dk_162 0 17 (dk_at dksX8_members_0 7 rfl rfl)
theorem dX8_members_10 : decode cX8_members 10 = .ok (.iload_n 1, 1) := dk_27 (dk_at dksX8_members_0 10 rfl rfl)
theorem dX8_members_11 : decode cX8_members 11 = .ok (.iload_n 0, 1) := dk_26 (dk_at dksX8_members_0 11 rfl rfl)
theorem dX8_members_12 : decode cX8_members 12 = .ok (.iload_n 2, 1) := dk_28 (dk_at dksX8_members_0 12 rfl rfl)
theorem dX8_members_13 : decode cX8_members 13 = .ok (.ishr, 1) := dk_122 (dk_at dksX8_members_0 13 rfl rfl)
theorem dX8_members_14 : decode cX8_members 14 = .ok (.iconst 1, 1) := dk_4 (dk_at dksX8_members_0 14 rfl rfl)
theorem dX8_members_15 : decode cX8_members 15 = .ok (.iand, 1) := dk_126 (dk_at dksX8_members_0 15 rfl rfl)
theorem dX8_members_16 : decode cX8_members 16 = .ok (.iadd, 1) := dk_96 (dk_at dksX8_members_0 16 rfl rfl)
theorem dX8_members_17 : decode cX8_members 17 = .ok (.istore_n 1, 1) := dk_60 (dk_at dksX8_members_0 17 rfl rfl)
theorem dX8_members_18 : decode cX8_members 18 = .ok (.iinc 2 1, 3) := dk_132 2 1 (dk_at dksX8_members_0 18 rfl rfl)
theorem dX8_members_21 : decode cX8_members 21 = .ok (.goto (-17), 3) := dk_167 255 239 (dk_at dksX8_members_0 21 rfl rfl)
theorem dX8_members_24 : decode cX8_members 24 = .ok (.iload_n 1, 1) := dk_27 (dk_at dksX8_members_1 0 rfl rfl)
theorem dX8_members_25 : decode cX8_members 25 = .ok (.ireturn, 1) := dk_172 (dk_at dksX8_members_1 1 rfl rfl)
abbrev cX8_meet : ByteArray := prog_20_method_95_code
def yX8_meet : MethodName := ⟨RX8, "meet", "(II)I"⟩
def dkwX8_meet_5 : List UInt8 := [42, 42, 180, 0, 84, 7, 27, 96, 46, 29, 96, 182, 2, 11, 132, 3, 1, 167, 255, 212, 2, 172]
abbrev dktX8_meet_5 : List UInt8 := dkwX8_meet_5 ++ []
def dkwX8_meet_4 : List UInt8 := [182, 1, 218, 163, 0, 41, 42, 182, 2, 8, 153, 0, 5, 29, 172, 29, 42, 27, 182, 1, 218, 162, 0, 17]
abbrev dktX8_meet_4 : List UInt8 := dkwX8_meet_4 ++ dktX8_meet_5
def dkwX8_meet_3 : List UInt8 := [28, 46, 96, 160, 0, 7, 4, 167, 0, 4, 3, 84, 132, 3, 1, 167, 255, 216, 3, 62, 29, 42, 27]
abbrev dktX8_meet_3 : List UInt8 := dkwX8_meet_3 ++ dktX8_meet_4
def dkwX8_meet_2 : List UInt8 := [16, 64, 162, 0, 40, 42, 180, 0, 108, 29, 29, 16, 8, 42, 180, 0, 84, 27, 46, 104, 42, 180, 0, 84]
abbrev dktX8_meet_2 : List UInt8 := dkwX8_meet_2 ++ dktX8_meet_3
def dkwX8_meet_1 : List UInt8 := [180, 0, 84, 7, 27, 96, 46, 42, 180, 0, 84, 7, 28, 96, 46, 159, 0, 5, 2, 172, 3, 62, 29]
abbrev dktX8_meet_1 : List UInt8 := dkwX8_meet_1 ++ dktX8_meet_2
def dkwX8_meet_0 : List UInt8 := [42, 27, 182, 1, 188, 153, 0, 35, 42, 28, 182, 1, 188, 153, 0, 27, 27, 28, 159, 0, 22, 42]
abbrev dktX8_meet_0 : List UInt8 := dkwX8_meet_0 ++ dktX8_meet_1
theorem dksX8_meet_0 : cX8_meet.data.toList.drop 0 = dktX8_meet_0 := by decide +kernel
theorem dksX8_meet_1 : cX8_meet.data.toList.drop 22 = dktX8_meet_1 := dk_seg dksX8_meet_0 22 rfl rfl
theorem dksX8_meet_2 : cX8_meet.data.toList.drop 45 = dktX8_meet_2 := dk_seg dksX8_meet_1 23 rfl rfl
theorem dksX8_meet_3 : cX8_meet.data.toList.drop 69 = dktX8_meet_3 := dk_seg dksX8_meet_2 24 rfl rfl
theorem dksX8_meet_4 : cX8_meet.data.toList.drop 92 = dktX8_meet_4 := dk_seg dksX8_meet_3 23 rfl rfl
theorem dksX8_meet_5 : cX8_meet.data.toList.drop 116 = dktX8_meet_5 := dk_seg dksX8_meet_4 24 rfl rfl
theorem dX8_meet_0 : decode cX8_meet 0 = .ok (.aload_n 0, 1) := dk_42 (dk_at dksX8_meet_0 0 rfl rfl)
theorem dX8_meet_1 : decode cX8_meet 1 = .ok (.iload_n 1, 1) := dk_27 (dk_at dksX8_meet_0 1 rfl rfl)
theorem dX8_meet_2 : decode cX8_meet 2 = .ok (.invokevirtual 444, 3) := dk_182 1 188 (dk_at dksX8_meet_0 2 rfl rfl)
theorem dX8_meet_5 : decode cX8_meet 5 = .ok (.ifCond .eq 35, 3) := dk_153 0 35 (dk_at dksX8_meet_0 5 rfl rfl)
theorem dX8_meet_8 : decode cX8_meet 8 = .ok (.aload_n 0, 1) := dk_42 (dk_at dksX8_meet_0 8 rfl rfl)
theorem dX8_meet_9 : decode cX8_meet 9 = .ok (.iload_n 2, 1) := dk_28 (dk_at dksX8_meet_0 9 rfl rfl)
theorem dX8_meet_10 : decode cX8_meet 10 = .ok (.invokevirtual 444, 3) := dk_182 1 188 (dk_at dksX8_meet_0 10 rfl rfl)
theorem dX8_meet_13 : decode cX8_meet 13 = .ok (.ifCond .eq 27, 3) := dk_153 0 27 (dk_at dksX8_meet_0 13 rfl rfl)
theorem dX8_meet_16 : decode cX8_meet 16 = .ok (.iload_n 1, 1) := dk_27 (dk_at dksX8_meet_0 16 rfl rfl)
theorem dX8_meet_17 : decode cX8_meet 17 = .ok (.iload_n 2, 1) := dk_28 (dk_at dksX8_meet_0 17 rfl rfl)
theorem dX8_meet_18 : decode cX8_meet 18 = .ok (.if_icmp .eq 22, 3) := dk_159 0 22 (dk_at dksX8_meet_0 18 rfl rfl)
theorem dX8_meet_21 : decode cX8_meet 21 = .ok (.aload_n 0, 1) := dk_42 (dk_at dksX8_meet_0 21 rfl rfl)
theorem dX8_meet_22 : decode cX8_meet 22 = .ok (.getfield 84, 3) := dk_180 0 84 (dk_at dksX8_meet_1 0 rfl rfl)
theorem dX8_meet_25 : decode cX8_meet 25 = .ok (.iconst 4, 1) := dk_7 (dk_at dksX8_meet_1 3 rfl rfl)
theorem dX8_meet_26 : decode cX8_meet 26 = .ok (.iload_n 1, 1) := dk_27 (dk_at dksX8_meet_1 4 rfl rfl)
theorem dX8_meet_27 : decode cX8_meet 27 = .ok (.iadd, 1) := dk_96 (dk_at dksX8_meet_1 5 rfl rfl)
theorem dX8_meet_28 : decode cX8_meet 28 = .ok (.iaload, 1) := dk_46 (dk_at dksX8_meet_1 6 rfl rfl)
theorem dX8_meet_29 : decode cX8_meet 29 = .ok (.aload_n 0, 1) := dk_42 (dk_at dksX8_meet_1 7 rfl rfl)
theorem dX8_meet_30 : decode cX8_meet 30 = .ok (.getfield 84, 3) := dk_180 0 84 (dk_at dksX8_meet_1 8 rfl rfl)
theorem dX8_meet_33 : decode cX8_meet 33 = .ok (.iconst 4, 1) := dk_7 (dk_at dksX8_meet_1 11 rfl rfl)
theorem dX8_meet_34 : decode cX8_meet 34 = .ok (.iload_n 2, 1) := dk_28 (dk_at dksX8_meet_1 12 rfl rfl)
theorem dX8_meet_35 : decode cX8_meet 35 = .ok (.iadd, 1) := dk_96 (dk_at dksX8_meet_1 13 rfl rfl)
theorem dX8_meet_36 : decode cX8_meet 36 = .ok (.iaload, 1) := dk_46 (dk_at dksX8_meet_1 14 rfl rfl)
theorem dX8_meet_37 : decode cX8_meet 37 = .ok (.if_icmp .eq 5, 3) := dk_159 0 5 (dk_at dksX8_meet_1 15 rfl rfl)
theorem dX8_meet_40 : decode cX8_meet 40 = .ok (.iconst (-1), 1) := dk_2 (dk_at dksX8_meet_1 18 rfl rfl)
theorem dX8_meet_41 : decode cX8_meet 41 = .ok (.ireturn, 1) := dk_172 (dk_at dksX8_meet_1 19 rfl rfl)
theorem dX8_meet_42 : decode cX8_meet 42 = .ok (.iconst 0, 1) := dk_3 (dk_at dksX8_meet_1 20 rfl rfl)
theorem dX8_meet_43 : decode cX8_meet 43 = .ok (.istore_n 3, 1) := dk_62 (dk_at dksX8_meet_1 21 rfl rfl)
theorem dX8_meet_44 : decode cX8_meet 44 = .ok (.iload_n 3, 1) := dk_29 (dk_at dksX8_meet_1 22 rfl rfl)
theorem dX8_meet_45 : decode cX8_meet 45 = .ok (.bipush 64, 2) := dk_16 64 (dk_at dksX8_meet_2 0 rfl rfl)
theorem dX8_meet_47 : decode cX8_meet 47 = .ok (.if_icmp .ge 40, 3) := dk_162 0 40 (dk_at dksX8_meet_2 2 rfl rfl)
theorem dX8_meet_50 : decode cX8_meet 50 = .ok (.aload_n 0, 1) := dk_42 (dk_at dksX8_meet_2 5 rfl rfl)
theorem dX8_meet_51 : decode cX8_meet 51 = .ok (.getfield 108, 3) := dk_180 0 108 (dk_at dksX8_meet_2 6 rfl rfl)
theorem dX8_meet_54 : decode cX8_meet 54 = .ok (.iload_n 3, 1) := dk_29 (dk_at dksX8_meet_2 9 rfl rfl)
theorem dX8_meet_55 : decode cX8_meet 55 = .ok (.iload_n 3, 1) := dk_29 (dk_at dksX8_meet_2 10 rfl rfl)
theorem dX8_meet_56 : decode cX8_meet 56 = .ok (.bipush 8, 2) := dk_16 8 (dk_at dksX8_meet_2 11 rfl rfl)
theorem dX8_meet_58 : decode cX8_meet 58 = .ok (.aload_n 0, 1) := dk_42 (dk_at dksX8_meet_2 13 rfl rfl)
theorem dX8_meet_59 : decode cX8_meet 59 = .ok (.getfield 84, 3) := dk_180 0 84 (dk_at dksX8_meet_2 14 rfl rfl)
theorem dX8_meet_62 : decode cX8_meet 62 = .ok (.iload_n 1, 1) := dk_27 (dk_at dksX8_meet_2 17 rfl rfl)
theorem dX8_meet_63 : decode cX8_meet 63 = .ok (.iaload, 1) := dk_46 (dk_at dksX8_meet_2 18 rfl rfl)
theorem dX8_meet_64 : decode cX8_meet 64 = .ok (.imul, 1) := dk_104 (dk_at dksX8_meet_2 19 rfl rfl)
theorem dX8_meet_65 : decode cX8_meet 65 = .ok (.aload_n 0, 1) := dk_42 (dk_at dksX8_meet_2 20 rfl rfl)
theorem dX8_meet_66 : decode cX8_meet 66 = .ok (.getfield 84, 3) := dk_180 0 84 (dk_at dksX8_meet_2 21 rfl rfl)
theorem dX8_meet_69 : decode cX8_meet 69 = .ok (.iload_n 2, 1) := dk_28 (dk_at dksX8_meet_3 0 rfl rfl)
theorem dX8_meet_70 : decode cX8_meet 70 = .ok (.iaload, 1) := dk_46 (dk_at dksX8_meet_3 1 rfl rfl)
theorem dX8_meet_71 : decode cX8_meet 71 = .ok (.iadd, 1) := dk_96 (dk_at dksX8_meet_3 2 rfl rfl)
theorem dX8_meet_72 : decode cX8_meet 72 = .ok (.if_icmp .ne 7, 3) := dk_160 0 7 (dk_at dksX8_meet_3 3 rfl rfl)
theorem dX8_meet_75 : decode cX8_meet 75 = .ok (.iconst 1, 1) := dk_4 (dk_at dksX8_meet_3 6 rfl rfl)
theorem dX8_meet_76 : decode cX8_meet 76 = .ok (.goto 4, 3) := dk_167 0 4 (dk_at dksX8_meet_3 7 rfl rfl)
theorem dX8_meet_79 : decode cX8_meet 79 = .ok (.iconst 0, 1) := dk_3 (dk_at dksX8_meet_3 10 rfl rfl)
theorem dX8_meet_80 : decode cX8_meet 80 = .ok (.bastore, 1) := dk_84 (dk_at dksX8_meet_3 11 rfl rfl)
theorem dX8_meet_81 : decode cX8_meet 81 = .ok (.iinc 3 1, 3) := dk_132 3 1 (dk_at dksX8_meet_3 12 rfl rfl)
theorem dX8_meet_84 : decode cX8_meet 84 = .ok (.goto (-40), 3) := dk_167 255 216 (dk_at dksX8_meet_3 15 rfl rfl)
theorem dX8_meet_87 : decode cX8_meet 87 = .ok (.iconst 0, 1) := dk_3 (dk_at dksX8_meet_3 18 rfl rfl)
theorem dX8_meet_88 : decode cX8_meet 88 = .ok (.istore_n 3, 1) := dk_62 (dk_at dksX8_meet_3 19 rfl rfl)
theorem dX8_meet_89 : decode cX8_meet 89 = .ok (.iload_n 3, 1) := dk_29 (dk_at dksX8_meet_3 20 rfl rfl)
theorem dX8_meet_90 : decode cX8_meet 90 = .ok (.aload_n 0, 1) := dk_42 (dk_at dksX8_meet_3 21 rfl rfl)
theorem dX8_meet_91 : decode cX8_meet 91 = .ok (.iload_n 1, 1) := dk_27 (dk_at dksX8_meet_3 22 rfl rfl)
theorem dX8_meet_92 : decode cX8_meet 92 = .ok (.invokevirtual 474, 3) := dk_182 1 218 (dk_at dksX8_meet_4 0 rfl rfl)
theorem dX8_meet_95 : decode cX8_meet 95 = .ok (.if_icmp .gt 41, 3) := dk_163 0 41 (dk_at dksX8_meet_4 3 rfl rfl)
theorem dX8_meet_98 : decode cX8_meet 98 = .ok (.aload_n 0, 1) := dk_42 (dk_at dksX8_meet_4 6 rfl rfl)
theorem dX8_meet_99 : decode cX8_meet 99 = .ok (.invokevirtual 520, 3) := dk_182 2 8 (dk_at dksX8_meet_4 7 rfl rfl)
theorem dX8_meet_102 : decode cX8_meet 102 = .ok (.ifCond .eq 5, 3) := dk_153 0 5 (dk_at dksX8_meet_4 10 rfl rfl)
theorem dX8_meet_105 : decode cX8_meet 105 = .ok (.iload_n 3, 1) := dk_29 (dk_at dksX8_meet_4 13 rfl rfl)
theorem dX8_meet_106 : decode cX8_meet 106 = .ok (.ireturn, 1) := dk_172 (dk_at dksX8_meet_4 14 rfl rfl)
theorem dX8_meet_107 : decode cX8_meet 107 = .ok (.iload_n 3, 1) := dk_29 (dk_at dksX8_meet_4 15 rfl rfl)
theorem dX8_meet_108 : decode cX8_meet 108 = .ok (.aload_n 0, 1) := dk_42 (dk_at dksX8_meet_4 16 rfl rfl)
theorem dX8_meet_109 : decode cX8_meet 109 = .ok (.iload_n 1, 1) := dk_27 (dk_at dksX8_meet_4 17 rfl rfl)
theorem dX8_meet_110 : decode cX8_meet 110 = .ok (.invokevirtual 474, 3) := dk_182 1 218 (dk_at dksX8_meet_4 18 rfl rfl)
theorem dX8_meet_113 : decode cX8_meet 113 = .ok (.if_icmp .ge 17, 3) := dk_162 0 17 (dk_at dksX8_meet_4 21 rfl rfl)
theorem dX8_meet_116 : decode cX8_meet 116 = .ok (.aload_n 0, 1) := dk_42 (dk_at dksX8_meet_5 0 rfl rfl)
theorem dX8_meet_117 : decode cX8_meet 117 = .ok (.aload_n 0, 1) := dk_42 (dk_at dksX8_meet_5 1 rfl rfl)
theorem dX8_meet_118 : decode cX8_meet 118 = .ok (.getfield 84, 3) := dk_180 0 84 (dk_at dksX8_meet_5 2 rfl rfl)
theorem dX8_meet_121 : decode cX8_meet 121 = .ok (.iconst 4, 1) := dk_7 (dk_at dksX8_meet_5 5 rfl rfl)
theorem dX8_meet_122 : decode cX8_meet 122 = .ok (.iload_n 1, 1) := dk_27 (dk_at dksX8_meet_5 6 rfl rfl)
theorem dX8_meet_123 : decode cX8_meet 123 = .ok (.iadd, 1) := dk_96 (dk_at dksX8_meet_5 7 rfl rfl)
theorem dX8_meet_124 : decode cX8_meet 124 = .ok (.iaload, 1) := dk_46 (dk_at dksX8_meet_5 8 rfl rfl)
theorem dX8_meet_125 : decode cX8_meet 125 = .ok (.iload_n 3, 1) := dk_29 (dk_at dksX8_meet_5 9 rfl rfl)
theorem dX8_meet_126 : decode cX8_meet 126 = .ok (.iadd, 1) := dk_96 (dk_at dksX8_meet_5 10 rfl rfl)
theorem dX8_meet_127 : decode cX8_meet 127 = .ok (.invokevirtual 523, 3) := dk_182 2 11 (dk_at dksX8_meet_5 11 rfl rfl)
theorem dX8_meet_130 : decode cX8_meet 130 = .ok (.iinc 3 1, 3) := dk_132 3 1 (dk_at dksX8_meet_5 14 rfl rfl)
theorem dX8_meet_133 : decode cX8_meet 133 = .ok (.goto (-44), 3) := dk_167 255 212 (dk_at dksX8_meet_5 17 rfl rfl)
theorem dX8_meet_136 : decode cX8_meet 136 = .ok (.iconst (-1), 1) := dk_2 (dk_at dksX8_meet_5 20 rfl rfl)
theorem dX8_meet_137 : decode cX8_meet 137 = .ok (.ireturn, 1) := dk_172 (dk_at dksX8_meet_5 21 rfl rfl)
abbrev cX8_areBeside : ByteArray := prog_20_method_93_code
def yX8_areBeside : MethodName := ⟨RX8, "areBeside", "()Z"⟩
def dkwX8_areBeside_2 : List UInt8 := [167, 255, 212, 27, 172]
abbrev dktX8_areBeside_2 : List UInt8 := dkwX8_areBeside_2 ++ []
def dkwX8_areBeside_1 : List UInt8 := [16, 8, 108, 28, 16, 8, 112, 100, 184, 2, 5, 4, 160, 0, 7, 4, 167, 0, 4, 3, 60, 132, 2, 1]
abbrev dktX8_areBeside_1 : List UInt8 := dkwX8_areBeside_1 ++ dktX8_areBeside_2
def dkwX8_areBeside_0 : List UInt8 := [3, 60, 3, 61, 28, 16, 64, 162, 0, 44, 27, 154, 0, 28, 42, 180, 0, 108, 28, 51, 153, 0, 23, 28]
abbrev dktX8_areBeside_0 : List UInt8 := dkwX8_areBeside_0 ++ dktX8_areBeside_1
theorem dksX8_areBeside_0 : cX8_areBeside.data.toList.drop 0 = dktX8_areBeside_0 := by decide +kernel
theorem dksX8_areBeside_1 : cX8_areBeside.data.toList.drop 24 = dktX8_areBeside_1 := dk_seg dksX8_areBeside_0 24 rfl rfl
theorem dksX8_areBeside_2 : cX8_areBeside.data.toList.drop 48 = dktX8_areBeside_2 := dk_seg dksX8_areBeside_1 24 rfl rfl
theorem dX8_areBeside_0 : decode cX8_areBeside 0 = .ok (.iconst 0, 1) := dk_3 (dk_at dksX8_areBeside_0 0 rfl rfl)
theorem dX8_areBeside_1 : decode cX8_areBeside 1 = .ok (.istore_n 1, 1) := dk_60 (dk_at dksX8_areBeside_0 1 rfl rfl)
theorem dX8_areBeside_2 : decode cX8_areBeside 2 = .ok (.iconst 0, 1) := dk_3 (dk_at dksX8_areBeside_0 2 rfl rfl)
theorem dX8_areBeside_3 : decode cX8_areBeside 3 = .ok (.istore_n 2, 1) := dk_61 (dk_at dksX8_areBeside_0 3 rfl rfl)
theorem dX8_areBeside_4 : decode cX8_areBeside 4 = .ok (.iload_n 2, 1) := dk_28 (dk_at dksX8_areBeside_0 4 rfl rfl)
theorem dX8_areBeside_5 : decode cX8_areBeside 5 = .ok (.bipush 64, 2) := dk_16 64 (dk_at dksX8_areBeside_0 5 rfl rfl)
theorem dX8_areBeside_7 : decode cX8_areBeside 7 = .ok (.if_icmp .ge 44, 3) := dk_162 0 44 (dk_at dksX8_areBeside_0 7 rfl rfl)
theorem dX8_areBeside_10 : decode cX8_areBeside 10 = .ok (.iload_n 1, 1) := dk_27 (dk_at dksX8_areBeside_0 10 rfl rfl)
theorem dX8_areBeside_11 : decode cX8_areBeside 11 = .ok (.ifCond .ne 28, 3) := dk_154 0 28 (dk_at dksX8_areBeside_0 11 rfl rfl)
theorem dX8_areBeside_14 : decode cX8_areBeside 14 = .ok (.aload_n 0, 1) := dk_42 (dk_at dksX8_areBeside_0 14 rfl rfl)
theorem dX8_areBeside_15 : decode cX8_areBeside 15 = .ok (.getfield 108, 3) := dk_180 0 108 (dk_at dksX8_areBeside_0 15 rfl rfl)
theorem dX8_areBeside_18 : decode cX8_areBeside 18 = .ok (.iload_n 2, 1) := dk_28 (dk_at dksX8_areBeside_0 18 rfl rfl)
theorem dX8_areBeside_19 : decode cX8_areBeside 19 = .ok (.baload, 1) := dk_51 (dk_at dksX8_areBeside_0 19 rfl rfl)
theorem dX8_areBeside_20 : decode cX8_areBeside 20 = .ok (.ifCond .eq 23, 3) := dk_153 0 23 (dk_at dksX8_areBeside_0 20 rfl rfl)
theorem dX8_areBeside_23 : decode cX8_areBeside 23 = .ok (.iload_n 2, 1) := dk_28 (dk_at dksX8_areBeside_0 23 rfl rfl)
theorem dX8_areBeside_24 : decode cX8_areBeside 24 = .ok (.bipush 8, 2) := dk_16 8 (dk_at dksX8_areBeside_1 0 rfl rfl)
theorem dX8_areBeside_26 : decode cX8_areBeside 26 = .ok (.idiv, 1) := dk_108 (dk_at dksX8_areBeside_1 2 rfl rfl)
theorem dX8_areBeside_27 : decode cX8_areBeside 27 = .ok (.iload_n 2, 1) := dk_28 (dk_at dksX8_areBeside_1 3 rfl rfl)
theorem dX8_areBeside_28 : decode cX8_areBeside 28 = .ok (.bipush 8, 2) := dk_16 8 (dk_at dksX8_areBeside_1 4 rfl rfl)
theorem dX8_areBeside_30 : decode cX8_areBeside 30 = .ok (.irem, 1) := dk_112 (dk_at dksX8_areBeside_1 6 rfl rfl)
theorem dX8_areBeside_31 : decode cX8_areBeside 31 = .ok (.isub, 1) := dk_100 (dk_at dksX8_areBeside_1 7 rfl rfl)
theorem dX8_areBeside_32 : decode cX8_areBeside 32 = .ok (.invokestatic 517, 3) := dk_184 2 5 (dk_at dksX8_areBeside_1 8 rfl rfl)
theorem dX8_areBeside_35 : decode cX8_areBeside 35 = .ok (.iconst 1, 1) := dk_4 (dk_at dksX8_areBeside_1 11 rfl rfl)
theorem dX8_areBeside_36 : decode cX8_areBeside 36 = .ok (.if_icmp .ne 7, 3) := dk_160 0 7 (dk_at dksX8_areBeside_1 12 rfl rfl)
theorem dX8_areBeside_39 : decode cX8_areBeside 39 = .ok (.iconst 1, 1) := dk_4 (dk_at dksX8_areBeside_1 15 rfl rfl)
theorem dX8_areBeside_40 : decode cX8_areBeside 40 = .ok (.goto 4, 3) := dk_167 0 4 (dk_at dksX8_areBeside_1 16 rfl rfl)
theorem dX8_areBeside_43 : decode cX8_areBeside 43 = .ok (.iconst 0, 1) := dk_3 (dk_at dksX8_areBeside_1 19 rfl rfl)
theorem dX8_areBeside_44 : decode cX8_areBeside 44 = .ok (.istore_n 1, 1) := dk_60 (dk_at dksX8_areBeside_1 20 rfl rfl)
theorem dX8_areBeside_45 : decode cX8_areBeside 45 = .ok (.iinc 2 1, 3) := dk_132 2 1 (dk_at dksX8_areBeside_1 21 rfl rfl)
theorem dX8_areBeside_48 : decode cX8_areBeside 48 = .ok (.goto (-44), 3) := dk_167 255 212 (dk_at dksX8_areBeside_2 0 rfl rfl)
theorem dX8_areBeside_51 : decode cX8_areBeside 51 = .ok (.iload_n 1, 1) := dk_27 (dk_at dksX8_areBeside_2 3 rfl rfl)
theorem dX8_areBeside_52 : decode cX8_areBeside 52 = .ok (.ireturn, 1) := dk_172 (dk_at dksX8_areBeside_2 4 rfl rfl)
abbrev cX8_plain : ByteArray := prog_20_method_34_code
def yX8_plain : MethodName := ⟨RX8, "plain", "(I)I"⟩
def dkwX8_plain_0 : List UInt8 := [26, 156, 0, 8, 26, 116, 167, 0, 4, 26, 172]
abbrev dktX8_plain_0 : List UInt8 := dkwX8_plain_0 ++ []
theorem dksX8_plain_0 : cX8_plain.data.toList.drop 0 = dktX8_plain_0 := by decide +kernel
theorem dX8_plain_0 : decode cX8_plain 0 = .ok (.iload_n 0, 1) := dk_26 (dk_at dksX8_plain_0 0 rfl rfl)
theorem dX8_plain_1 : decode cX8_plain 1 = .ok (.ifCond .ge 8, 3) := dk_156 0 8 (dk_at dksX8_plain_0 1 rfl rfl)
theorem dX8_plain_4 : decode cX8_plain 4 = .ok (.iload_n 0, 1) := dk_26 (dk_at dksX8_plain_0 4 rfl rfl)
theorem dX8_plain_5 : decode cX8_plain 5 = .ok (.ineg, 1) := dk_116 (dk_at dksX8_plain_0 5 rfl rfl)
theorem dX8_plain_6 : decode cX8_plain 6 = .ok (.goto 4, 3) := dk_167 0 4 (dk_at dksX8_plain_0 6 rfl rfl)
theorem dX8_plain_9 : decode cX8_plain 9 = .ok (.iload_n 0, 1) := dk_26 (dk_at dksX8_plain_0 9 rfl rfl)
theorem dX8_plain_10 : decode cX8_plain 10 = .ok (.ireturn, 1) := dk_172 (dk_at dksX8_plain_0 10 rfl rfl)
abbrev cX8_goBoth : ByteArray := prog_20_method_94_code
def yX8_goBoth : MethodName := ⟨RX8, "goBoth", "(I)V"⟩
def dkwX8_goBoth_6 : List UInt8 := [28, 42, 180, 0, 112, 28, 51, 84, 132, 2, 1, 167, 255, 235, 177]
abbrev dktX8_goBoth_6 : List UInt8 := dkwX8_goBoth_6 ++ []
def dkwX8_goBoth_5 : List UInt8 := [132, 3, 1, 167, 255, 166, 132, 2, 1, 167, 255, 152, 3, 61, 28, 16, 64, 162, 0, 21, 42, 180, 0, 108]
abbrev dktX8_goBoth_5 : List UInt8 := dkwX8_goBoth_5 ++ dktX8_goBoth_6
def dkwX8_goBoth_4 : List UInt8 := [4, 96, 182, 1, 184, 154, 0, 17, 42, 180, 0, 112, 16, 8, 21, 4, 104, 21, 5, 96, 4, 84]
abbrev dktX8_goBoth_4 : List UInt8 := dkwX8_goBoth_4 ++ dktX8_goBoth_5
def dkwX8_goBoth_3 : List UInt8 := [4, 100, 4, 182, 1, 177, 54, 5, 42, 21, 4, 27, 4, 96, 182, 1, 184, 154, 0, 29, 42, 21, 5, 27]
abbrev dktX8_goBoth_3 : List UInt8 := dkwX8_goBoth_3 ++ dktX8_goBoth_4
def dkwX8_goBoth_2 : List UInt8 := [16, 8, 108, 27, 29, 6, 108, 4, 100, 4, 182, 1, 177, 54, 4, 42, 28, 16, 8, 112, 27, 29, 6, 112]
abbrev dktX8_goBoth_2 : List UInt8 := dkwX8_goBoth_2 ++ dktX8_goBoth_3
def dkwX8_goBoth_1 : List UInt8 := [16, 64, 162, 0, 104, 3, 62, 29, 16, 9, 162, 0, 90, 42, 180, 0, 108, 28, 51, 153, 0, 81, 42, 28]
abbrev dktX8_goBoth_1 : List UInt8 := dkwX8_goBoth_1 ++ dktX8_goBoth_2
def dkwX8_goBoth_0 : List UInt8 := [3, 61, 28, 16, 64, 162, 0, 16, 42, 180, 0, 112, 28, 3, 84, 132, 2, 1, 167, 255, 240, 3, 61, 28]
abbrev dktX8_goBoth_0 : List UInt8 := dkwX8_goBoth_0 ++ dktX8_goBoth_1
theorem dksX8_goBoth_0 : cX8_goBoth.data.toList.drop 0 = dktX8_goBoth_0 := by decide +kernel
theorem dksX8_goBoth_1 : cX8_goBoth.data.toList.drop 24 = dktX8_goBoth_1 := dk_seg dksX8_goBoth_0 24 rfl rfl
theorem dksX8_goBoth_2 : cX8_goBoth.data.toList.drop 48 = dktX8_goBoth_2 := dk_seg dksX8_goBoth_1 24 rfl rfl
theorem dksX8_goBoth_3 : cX8_goBoth.data.toList.drop 72 = dktX8_goBoth_3 := dk_seg dksX8_goBoth_2 24 rfl rfl
theorem dksX8_goBoth_4 : cX8_goBoth.data.toList.drop 96 = dktX8_goBoth_4 := dk_seg dksX8_goBoth_3 24 rfl rfl
theorem dksX8_goBoth_5 : cX8_goBoth.data.toList.drop 118 = dktX8_goBoth_5 := dk_seg dksX8_goBoth_4 22 rfl rfl
theorem dksX8_goBoth_6 : cX8_goBoth.data.toList.drop 142 = dktX8_goBoth_6 := dk_seg dksX8_goBoth_5 24 rfl rfl
theorem dX8_goBoth_0 : decode cX8_goBoth 0 = .ok (.iconst 0, 1) := dk_3 (dk_at dksX8_goBoth_0 0 rfl rfl)
theorem dX8_goBoth_1 : decode cX8_goBoth 1 = .ok (.istore_n 2, 1) := dk_61 (dk_at dksX8_goBoth_0 1 rfl rfl)
theorem dX8_goBoth_2 : decode cX8_goBoth 2 = .ok (.iload_n 2, 1) := dk_28 (dk_at dksX8_goBoth_0 2 rfl rfl)
theorem dX8_goBoth_3 : decode cX8_goBoth 3 = .ok (.bipush 64, 2) := dk_16 64 (dk_at dksX8_goBoth_0 3 rfl rfl)
theorem dX8_goBoth_5 : decode cX8_goBoth 5 = .ok (.if_icmp .ge 16, 3) := dk_162 0 16 (dk_at dksX8_goBoth_0 5 rfl rfl)
theorem dX8_goBoth_8 : decode cX8_goBoth 8 = .ok (.aload_n 0, 1) := dk_42 (dk_at dksX8_goBoth_0 8 rfl rfl)
theorem dX8_goBoth_9 : decode cX8_goBoth 9 = .ok (.getfield 112, 3) := dk_180 0 112 (dk_at dksX8_goBoth_0 9 rfl rfl)
theorem dX8_goBoth_12 : decode cX8_goBoth 12 = .ok (.iload_n 2, 1) := dk_28 (dk_at dksX8_goBoth_0 12 rfl rfl)
theorem dX8_goBoth_13 : decode cX8_goBoth 13 = .ok (.iconst 0, 1) := dk_3 (dk_at dksX8_goBoth_0 13 rfl rfl)
theorem dX8_goBoth_14 : decode cX8_goBoth 14 = .ok (.bastore, 1) := dk_84 (dk_at dksX8_goBoth_0 14 rfl rfl)
theorem dX8_goBoth_15 : decode cX8_goBoth 15 = .ok (.iinc 2 1, 3) := dk_132 2 1 (dk_at dksX8_goBoth_0 15 rfl rfl)
theorem dX8_goBoth_18 : decode cX8_goBoth 18 = .ok (.goto (-16), 3) := dk_167 255 240 (dk_at dksX8_goBoth_0 18 rfl rfl)
theorem dX8_goBoth_21 : decode cX8_goBoth 21 = .ok (.iconst 0, 1) := dk_3 (dk_at dksX8_goBoth_0 21 rfl rfl)
theorem dX8_goBoth_22 : decode cX8_goBoth 22 = .ok (.istore_n 2, 1) := dk_61 (dk_at dksX8_goBoth_0 22 rfl rfl)
theorem dX8_goBoth_23 : decode cX8_goBoth 23 = .ok (.iload_n 2, 1) := dk_28 (dk_at dksX8_goBoth_0 23 rfl rfl)
theorem dX8_goBoth_24 : decode cX8_goBoth 24 = .ok (.bipush 64, 2) := dk_16 64 (dk_at dksX8_goBoth_1 0 rfl rfl)
theorem dX8_goBoth_26 : decode cX8_goBoth 26 = .ok (.if_icmp .ge 104, 3) := dk_162 0 104 (dk_at dksX8_goBoth_1 2 rfl rfl)
theorem dX8_goBoth_29 : decode cX8_goBoth 29 = .ok (.iconst 0, 1) := dk_3 (dk_at dksX8_goBoth_1 5 rfl rfl)
theorem dX8_goBoth_30 : decode cX8_goBoth 30 = .ok (.istore_n 3, 1) := dk_62 (dk_at dksX8_goBoth_1 6 rfl rfl)
theorem dX8_goBoth_31 : decode cX8_goBoth 31 = .ok (.iload_n 3, 1) := dk_29 (dk_at dksX8_goBoth_1 7 rfl rfl)
theorem dX8_goBoth_32 : decode cX8_goBoth 32 = .ok (.bipush 9, 2) := dk_16 9 (dk_at dksX8_goBoth_1 8 rfl rfl)
theorem dX8_goBoth_34 : decode cX8_goBoth 34 = .ok (.if_icmp .ge 90, 3) := dk_162 0 90 (dk_at dksX8_goBoth_1 10 rfl rfl)
theorem dX8_goBoth_37 : decode cX8_goBoth 37 = .ok (.aload_n 0, 1) := dk_42 (dk_at dksX8_goBoth_1 13 rfl rfl)
theorem dX8_goBoth_38 : decode cX8_goBoth 38 = .ok (.getfield 108, 3) := dk_180 0 108 (dk_at dksX8_goBoth_1 14 rfl rfl)
theorem dX8_goBoth_41 : decode cX8_goBoth 41 = .ok (.iload_n 2, 1) := dk_28 (dk_at dksX8_goBoth_1 17 rfl rfl)
theorem dX8_goBoth_42 : decode cX8_goBoth 42 = .ok (.baload, 1) := dk_51 (dk_at dksX8_goBoth_1 18 rfl rfl)
theorem dX8_goBoth_43 : decode cX8_goBoth 43 = .ok (.ifCond .eq 81, 3) := dk_153 0 81 (dk_at dksX8_goBoth_1 19 rfl rfl)
theorem dX8_goBoth_46 : decode cX8_goBoth 46 = .ok (.aload_n 0, 1) := dk_42 (dk_at dksX8_goBoth_1 22 rfl rfl)
theorem dX8_goBoth_47 : decode cX8_goBoth 47 = .ok (.iload_n 2, 1) := dk_28 (dk_at dksX8_goBoth_1 23 rfl rfl)
theorem dX8_goBoth_48 : decode cX8_goBoth 48 = .ok (.bipush 8, 2) := dk_16 8 (dk_at dksX8_goBoth_2 0 rfl rfl)
theorem dX8_goBoth_50 : decode cX8_goBoth 50 = .ok (.idiv, 1) := dk_108 (dk_at dksX8_goBoth_2 2 rfl rfl)
theorem dX8_goBoth_51 : decode cX8_goBoth 51 = .ok (.iload_n 1, 1) := dk_27 (dk_at dksX8_goBoth_2 3 rfl rfl)
theorem dX8_goBoth_52 : decode cX8_goBoth 52 = .ok (.iload_n 3, 1) := dk_29 (dk_at dksX8_goBoth_2 4 rfl rfl)
theorem dX8_goBoth_53 : decode cX8_goBoth 53 = .ok (.iconst 3, 1) := dk_6 (dk_at dksX8_goBoth_2 5 rfl rfl)
theorem dX8_goBoth_54 : decode cX8_goBoth 54 = .ok (.idiv, 1) := dk_108 (dk_at dksX8_goBoth_2 6 rfl rfl)
theorem dX8_goBoth_55 : decode cX8_goBoth 55 = .ok (.iconst 1, 1) := dk_4 (dk_at dksX8_goBoth_2 7 rfl rfl)
theorem dX8_goBoth_56 : decode cX8_goBoth 56 = .ok (.isub, 1) := dk_100 (dk_at dksX8_goBoth_2 8 rfl rfl)
theorem dX8_goBoth_57 : decode cX8_goBoth 57 = .ok (.iconst 1, 1) := dk_4 (dk_at dksX8_goBoth_2 9 rfl rfl)
theorem dX8_goBoth_58 : decode cX8_goBoth 58 = .ok (.invokevirtual 433, 3) := dk_182 1 177 (dk_at dksX8_goBoth_2 10 rfl rfl)
theorem dX8_goBoth_61 : decode cX8_goBoth 61 = .ok (.istore 4, 2) := dk_54 4 (dk_at dksX8_goBoth_2 13 rfl rfl)
theorem dX8_goBoth_63 : decode cX8_goBoth 63 = .ok (.aload_n 0, 1) := dk_42 (dk_at dksX8_goBoth_2 15 rfl rfl)
theorem dX8_goBoth_64 : decode cX8_goBoth 64 = .ok (.iload_n 2, 1) := dk_28 (dk_at dksX8_goBoth_2 16 rfl rfl)
theorem dX8_goBoth_65 : decode cX8_goBoth 65 = .ok (.bipush 8, 2) := dk_16 8 (dk_at dksX8_goBoth_2 17 rfl rfl)
theorem dX8_goBoth_67 : decode cX8_goBoth 67 = .ok (.irem, 1) := dk_112 (dk_at dksX8_goBoth_2 19 rfl rfl)
theorem dX8_goBoth_68 : decode cX8_goBoth 68 = .ok (.iload_n 1, 1) := dk_27 (dk_at dksX8_goBoth_2 20 rfl rfl)
theorem dX8_goBoth_69 : decode cX8_goBoth 69 = .ok (.iload_n 3, 1) := dk_29 (dk_at dksX8_goBoth_2 21 rfl rfl)
theorem dX8_goBoth_70 : decode cX8_goBoth 70 = .ok (.iconst 3, 1) := dk_6 (dk_at dksX8_goBoth_2 22 rfl rfl)
theorem dX8_goBoth_71 : decode cX8_goBoth 71 = .ok (.irem, 1) := dk_112 (dk_at dksX8_goBoth_2 23 rfl rfl)
theorem dX8_goBoth_72 : decode cX8_goBoth 72 = .ok (.iconst 1, 1) := dk_4 (dk_at dksX8_goBoth_3 0 rfl rfl)
theorem dX8_goBoth_73 : decode cX8_goBoth 73 = .ok (.isub, 1) := dk_100 (dk_at dksX8_goBoth_3 1 rfl rfl)
theorem dX8_goBoth_74 : decode cX8_goBoth 74 = .ok (.iconst 1, 1) := dk_4 (dk_at dksX8_goBoth_3 2 rfl rfl)
theorem dX8_goBoth_75 : decode cX8_goBoth 75 = .ok (.invokevirtual 433, 3) := dk_182 1 177 (dk_at dksX8_goBoth_3 3 rfl rfl)
theorem dX8_goBoth_78 : decode cX8_goBoth 78 = .ok (.istore 5, 2) := dk_54 5 (dk_at dksX8_goBoth_3 6 rfl rfl)
theorem dX8_goBoth_80 : decode cX8_goBoth 80 = .ok (.aload_n 0, 1) := dk_42 (dk_at dksX8_goBoth_3 8 rfl rfl)
theorem dX8_goBoth_81 : decode cX8_goBoth 81 = .ok (.iload 4, 2) := dk_21 4 (dk_at dksX8_goBoth_3 9 rfl rfl)
theorem dX8_goBoth_83 : decode cX8_goBoth 83 = .ok (.iload_n 1, 1) := dk_27 (dk_at dksX8_goBoth_3 11 rfl rfl)
theorem dX8_goBoth_84 : decode cX8_goBoth 84 = .ok (.iconst 1, 1) := dk_4 (dk_at dksX8_goBoth_3 12 rfl rfl)
theorem dX8_goBoth_85 : decode cX8_goBoth 85 = .ok (.iadd, 1) := dk_96 (dk_at dksX8_goBoth_3 13 rfl rfl)
theorem dX8_goBoth_86 : decode cX8_goBoth 86 = .ok (.invokevirtual 440, 3) := dk_182 1 184 (dk_at dksX8_goBoth_3 14 rfl rfl)
theorem dX8_goBoth_89 : decode cX8_goBoth 89 = .ok (.ifCond .ne 29, 3) := dk_154 0 29 (dk_at dksX8_goBoth_3 17 rfl rfl)
theorem dX8_goBoth_92 : decode cX8_goBoth 92 = .ok (.aload_n 0, 1) := dk_42 (dk_at dksX8_goBoth_3 20 rfl rfl)
theorem dX8_goBoth_93 : decode cX8_goBoth 93 = .ok (.iload 5, 2) := dk_21 5 (dk_at dksX8_goBoth_3 21 rfl rfl)
theorem dX8_goBoth_95 : decode cX8_goBoth 95 = .ok (.iload_n 1, 1) := dk_27 (dk_at dksX8_goBoth_3 23 rfl rfl)
theorem dX8_goBoth_96 : decode cX8_goBoth 96 = .ok (.iconst 1, 1) := dk_4 (dk_at dksX8_goBoth_4 0 rfl rfl)
theorem dX8_goBoth_97 : decode cX8_goBoth 97 = .ok (.iadd, 1) := dk_96 (dk_at dksX8_goBoth_4 1 rfl rfl)
theorem dX8_goBoth_98 : decode cX8_goBoth 98 = .ok (.invokevirtual 440, 3) := dk_182 1 184 (dk_at dksX8_goBoth_4 2 rfl rfl)
theorem dX8_goBoth_101 : decode cX8_goBoth 101 = .ok (.ifCond .ne 17, 3) := dk_154 0 17 (dk_at dksX8_goBoth_4 5 rfl rfl)
theorem dX8_goBoth_104 : decode cX8_goBoth 104 = .ok (.aload_n 0, 1) := dk_42 (dk_at dksX8_goBoth_4 8 rfl rfl)
theorem dX8_goBoth_105 : decode cX8_goBoth 105 = .ok (.getfield 112, 3) := dk_180 0 112 (dk_at dksX8_goBoth_4 9 rfl rfl)
theorem dX8_goBoth_108 : decode cX8_goBoth 108 = .ok (.bipush 8, 2) := dk_16 8 (dk_at dksX8_goBoth_4 12 rfl rfl)
theorem dX8_goBoth_110 : decode cX8_goBoth 110 = .ok (.iload 4, 2) := dk_21 4 (dk_at dksX8_goBoth_4 14 rfl rfl)
theorem dX8_goBoth_112 : decode cX8_goBoth 112 = .ok (.imul, 1) := dk_104 (dk_at dksX8_goBoth_4 16 rfl rfl)
theorem dX8_goBoth_113 : decode cX8_goBoth 113 = .ok (.iload 5, 2) := dk_21 5 (dk_at dksX8_goBoth_4 17 rfl rfl)
theorem dX8_goBoth_115 : decode cX8_goBoth 115 = .ok (.iadd, 1) := dk_96 (dk_at dksX8_goBoth_4 19 rfl rfl)
theorem dX8_goBoth_116 : decode cX8_goBoth 116 = .ok (.iconst 1, 1) := dk_4 (dk_at dksX8_goBoth_4 20 rfl rfl)
theorem dX8_goBoth_117 : decode cX8_goBoth 117 = .ok (.bastore, 1) := dk_84 (dk_at dksX8_goBoth_4 21 rfl rfl)
theorem dX8_goBoth_118 : decode cX8_goBoth 118 = .ok (.iinc 3 1, 3) := dk_132 3 1 (dk_at dksX8_goBoth_5 0 rfl rfl)
theorem dX8_goBoth_121 : decode cX8_goBoth 121 = .ok (.goto (-90), 3) := dk_167 255 166 (dk_at dksX8_goBoth_5 3 rfl rfl)
theorem dX8_goBoth_124 : decode cX8_goBoth 124 = .ok (.iinc 2 1, 3) := dk_132 2 1 (dk_at dksX8_goBoth_5 6 rfl rfl)
theorem dX8_goBoth_127 : decode cX8_goBoth 127 = .ok (.goto (-104), 3) := dk_167 255 152 (dk_at dksX8_goBoth_5 9 rfl rfl)
theorem dX8_goBoth_130 : decode cX8_goBoth 130 = .ok (.iconst 0, 1) := dk_3 (dk_at dksX8_goBoth_5 12 rfl rfl)
theorem dX8_goBoth_131 : decode cX8_goBoth 131 = .ok (.istore_n 2, 1) := dk_61 (dk_at dksX8_goBoth_5 13 rfl rfl)
theorem dX8_goBoth_132 : decode cX8_goBoth 132 = .ok (.iload_n 2, 1) := dk_28 (dk_at dksX8_goBoth_5 14 rfl rfl)
theorem dX8_goBoth_133 : decode cX8_goBoth 133 = .ok (.bipush 64, 2) := dk_16 64 (dk_at dksX8_goBoth_5 15 rfl rfl)
theorem dX8_goBoth_135 : decode cX8_goBoth 135 = .ok (.if_icmp .ge 21, 3) := dk_162 0 21 (dk_at dksX8_goBoth_5 17 rfl rfl)
theorem dX8_goBoth_138 : decode cX8_goBoth 138 = .ok (.aload_n 0, 1) := dk_42 (dk_at dksX8_goBoth_5 20 rfl rfl)
theorem dX8_goBoth_139 : decode cX8_goBoth 139 = .ok (.getfield 108, 3) := dk_180 0 108 (dk_at dksX8_goBoth_5 21 rfl rfl)
theorem dX8_goBoth_142 : decode cX8_goBoth 142 = .ok (.iload_n 2, 1) := dk_28 (dk_at dksX8_goBoth_6 0 rfl rfl)
theorem dX8_goBoth_143 : decode cX8_goBoth 143 = .ok (.aload_n 0, 1) := dk_42 (dk_at dksX8_goBoth_6 1 rfl rfl)
theorem dX8_goBoth_144 : decode cX8_goBoth 144 = .ok (.getfield 112, 3) := dk_180 0 112 (dk_at dksX8_goBoth_6 2 rfl rfl)
theorem dX8_goBoth_147 : decode cX8_goBoth 147 = .ok (.iload_n 2, 1) := dk_28 (dk_at dksX8_goBoth_6 5 rfl rfl)
theorem dX8_goBoth_148 : decode cX8_goBoth 148 = .ok (.baload, 1) := dk_51 (dk_at dksX8_goBoth_6 6 rfl rfl)
theorem dX8_goBoth_149 : decode cX8_goBoth 149 = .ok (.bastore, 1) := dk_84 (dk_at dksX8_goBoth_6 7 rfl rfl)
theorem dX8_goBoth_150 : decode cX8_goBoth 150 = .ok (.iinc 2 1, 3) := dk_132 2 1 (dk_at dksX8_goBoth_6 8 rfl rfl)
theorem dX8_goBoth_153 : decode cX8_goBoth 153 = .ok (.goto (-21), 3) := dk_167 255 235 (dk_at dksX8_goBoth_6 11 rfl rfl)
theorem dX8_goBoth_156 : decode cX8_goBoth 156 = .ok (.return_, 1) := dk_177 (dk_at dksX8_goBoth_6 14 rfl rfl)
abbrev cX8_mooring : ByteArray := prog_20_method_98_code
def yX8_mooring : MethodName := ⟨RX8, "mooring", "(I)I"⟩
def dkwX8_mooring_8 : List UInt8 := [28, 167, 0, 4, 29, 172]
abbrev dktX8_mooring_8 : List UInt8 := dkwX8_mooring_8 ++ []
def dkwX8_mooring_7 : List UInt8 := [132, 6, 1, 167, 255, 214, 42, 42, 180, 1, 149, 181, 1, 167, 132, 4, 1, 167, 255, 139, 27, 154, 0, 7]
abbrev dktX8_mooring_7 : List UInt8 := dkwX8_mooring_7 ++ dktX8_mooring_8
def dkwX8_mooring_6 : List UInt8 := [180, 0, 118, 21, 6, 46, 16, 8, 160, 0, 7, 2, 167, 0, 10, 42, 180, 0, 118, 21, 6, 46, 79]
abbrev dktX8_mooring_6 : List UInt8 := dkwX8_mooring_6 ++ dktX8_mooring_7
def dkwX8_mooring_5 : List UInt8 := [182, 2, 17, 62, 3, 54, 6, 21, 6, 42, 180, 1, 149, 162, 0, 39, 42, 180, 0, 96, 21, 6, 42]
abbrev dktX8_mooring_5 : List UInt8 := dkwX8_mooring_5 ++ dktX8_mooring_6
def dkwX8_mooring_4 : List UInt8 := [161, 0, 84, 21, 5, 28, 160, 0, 14, 42, 182, 2, 17, 29, 161, 0, 6, 167, 0, 67, 21, 5, 61, 42]
abbrev dktX8_mooring_4 : List UInt8 := dkwX8_mooring_4 ++ dktX8_mooring_5
def dkwX8_mooring_3 : List UInt8 := [184, 1, 221, 162, 0, 109, 42, 21, 4, 182, 2, 14, 54, 5, 21, 5, 155, 0, 90, 21, 5, 28]
abbrev dktX8_mooring_3 : List UInt8 := dkwX8_mooring_3 ++ dktX8_mooring_4
def dkwX8_mooring_2 : List UInt8 := [79, 132, 2, 1, 167, 255, 219, 2, 61, 3, 62, 3, 54, 4, 21, 4, 16, 9, 42, 180, 1, 149]
abbrev dktX8_mooring_2 : List UInt8 := dkwX8_mooring_2 ++ dktX8_mooring_3
def dkwX8_mooring_1 : List UInt8 := [180, 0, 115, 28, 42, 180, 0, 84, 7, 28, 96, 46, 154, 0, 11, 42, 28, 182, 1, 227, 167, 0, 4, 3]
abbrev dktX8_mooring_1 : List UInt8 := dkwX8_mooring_1 ++ dktX8_mooring_2
def dkwX8_mooring_0 : List UInt8 := [27, 3, 4, 184, 1, 170, 154, 0, 5, 2, 172, 3, 61, 28, 42, 180, 1, 149, 162, 0, 35, 42]
abbrev dktX8_mooring_0 : List UInt8 := dkwX8_mooring_0 ++ dktX8_mooring_1
theorem dksX8_mooring_0 : cX8_mooring.data.toList.drop 0 = dktX8_mooring_0 := by decide +kernel
theorem dksX8_mooring_1 : cX8_mooring.data.toList.drop 22 = dktX8_mooring_1 := dk_seg dksX8_mooring_0 22 rfl rfl
theorem dksX8_mooring_2 : cX8_mooring.data.toList.drop 46 = dktX8_mooring_2 := dk_seg dksX8_mooring_1 24 rfl rfl
theorem dksX8_mooring_3 : cX8_mooring.data.toList.drop 68 = dktX8_mooring_3 := dk_seg dksX8_mooring_2 22 rfl rfl
theorem dksX8_mooring_4 : cX8_mooring.data.toList.drop 90 = dktX8_mooring_4 := dk_seg dksX8_mooring_3 22 rfl rfl
theorem dksX8_mooring_5 : cX8_mooring.data.toList.drop 114 = dktX8_mooring_5 := dk_seg dksX8_mooring_4 24 rfl rfl
theorem dksX8_mooring_6 : cX8_mooring.data.toList.drop 137 = dktX8_mooring_6 := dk_seg dksX8_mooring_5 23 rfl rfl
theorem dksX8_mooring_7 : cX8_mooring.data.toList.drop 160 = dktX8_mooring_7 := dk_seg dksX8_mooring_6 23 rfl rfl
theorem dksX8_mooring_8 : cX8_mooring.data.toList.drop 184 = dktX8_mooring_8 := dk_seg dksX8_mooring_7 24 rfl rfl
theorem dX8_mooring_0 : decode cX8_mooring 0 = .ok (.iload_n 1, 1) := dk_27 (dk_at dksX8_mooring_0 0 rfl rfl)
theorem dX8_mooring_1 : decode cX8_mooring 1 = .ok (.iconst 0, 1) := dk_3 (dk_at dksX8_mooring_0 1 rfl rfl)
theorem dX8_mooring_2 : decode cX8_mooring 2 = .ok (.iconst 1, 1) := dk_4 (dk_at dksX8_mooring_0 2 rfl rfl)
theorem dX8_mooring_3 : decode cX8_mooring 3 = .ok (.invokestatic 426, 3) := dk_184 1 170 (dk_at dksX8_mooring_0 3 rfl rfl)
theorem dX8_mooring_6 : decode cX8_mooring 6 = .ok (.ifCond .ne 5, 3) := dk_154 0 5 (dk_at dksX8_mooring_0 6 rfl rfl)
theorem dX8_mooring_9 : decode cX8_mooring 9 = .ok (.iconst (-1), 1) := dk_2 (dk_at dksX8_mooring_0 9 rfl rfl)
theorem dX8_mooring_10 : decode cX8_mooring 10 = .ok (.ireturn, 1) := dk_172 (dk_at dksX8_mooring_0 10 rfl rfl)
theorem dX8_mooring_11 : decode cX8_mooring 11 = .ok (.iconst 0, 1) := dk_3 (dk_at dksX8_mooring_0 11 rfl rfl)
theorem dX8_mooring_12 : decode cX8_mooring 12 = .ok (.istore_n 2, 1) := dk_61 (dk_at dksX8_mooring_0 12 rfl rfl)
theorem dX8_mooring_13 : decode cX8_mooring 13 = .ok (.iload_n 2, 1) := dk_28 (dk_at dksX8_mooring_0 13 rfl rfl)
theorem dX8_mooring_14 : decode cX8_mooring 14 = .ok (.aload_n 0, 1) := dk_42 (dk_at dksX8_mooring_0 14 rfl rfl)
theorem dX8_mooring_15 : decode cX8_mooring 15 = .ok (.getfield 405, 3) := dk_180 1 149 (dk_at dksX8_mooring_0 15 rfl rfl)
theorem dX8_mooring_18 : decode cX8_mooring 18 = .ok (.if_icmp .ge 35, 3) := dk_162 0 35 (dk_at dksX8_mooring_0 18 rfl rfl)
theorem dX8_mooring_21 : decode cX8_mooring 21 = .ok (.aload_n 0, 1) := dk_42 (dk_at dksX8_mooring_0 21 rfl rfl)
theorem dX8_mooring_22 : decode cX8_mooring 22 = .ok (.getfield 115, 3) := dk_180 0 115 (dk_at dksX8_mooring_1 0 rfl rfl)
theorem dX8_mooring_25 : decode cX8_mooring 25 = .ok (.iload_n 2, 1) := dk_28 (dk_at dksX8_mooring_1 3 rfl rfl)
theorem dX8_mooring_26 : decode cX8_mooring 26 = .ok (.aload_n 0, 1) := dk_42 (dk_at dksX8_mooring_1 4 rfl rfl)
theorem dX8_mooring_27 : decode cX8_mooring 27 = .ok (.getfield 84, 3) := dk_180 0 84 (dk_at dksX8_mooring_1 5 rfl rfl)
theorem dX8_mooring_30 : decode cX8_mooring 30 = .ok (.iconst 4, 1) := dk_7 (dk_at dksX8_mooring_1 8 rfl rfl)
theorem dX8_mooring_31 : decode cX8_mooring 31 = .ok (.iload_n 2, 1) := dk_28 (dk_at dksX8_mooring_1 9 rfl rfl)
theorem dX8_mooring_32 : decode cX8_mooring 32 = .ok (.iadd, 1) := dk_96 (dk_at dksX8_mooring_1 10 rfl rfl)
theorem dX8_mooring_33 : decode cX8_mooring 33 = .ok (.iaload, 1) := dk_46 (dk_at dksX8_mooring_1 11 rfl rfl)
theorem dX8_mooring_34 : decode cX8_mooring 34 = .ok (.ifCond .ne 11, 3) := dk_154 0 11 (dk_at dksX8_mooring_1 12 rfl rfl)
theorem dX8_mooring_37 : decode cX8_mooring 37 = .ok (.aload_n 0, 1) := dk_42 (dk_at dksX8_mooring_1 15 rfl rfl)
theorem dX8_mooring_38 : decode cX8_mooring 38 = .ok (.iload_n 2, 1) := dk_28 (dk_at dksX8_mooring_1 16 rfl rfl)
theorem dX8_mooring_39 : decode cX8_mooring 39 = .ok (.invokevirtual 483, 3) := dk_182 1 227 (dk_at dksX8_mooring_1 17 rfl rfl)
theorem dX8_mooring_42 : decode cX8_mooring 42 = .ok (.goto 4, 3) := dk_167 0 4 (dk_at dksX8_mooring_1 20 rfl rfl)
theorem dX8_mooring_45 : decode cX8_mooring 45 = .ok (.iconst 0, 1) := dk_3 (dk_at dksX8_mooring_1 23 rfl rfl)
theorem dX8_mooring_46 : decode cX8_mooring 46 = .ok (.iastore, 1) := dk_79 (dk_at dksX8_mooring_2 0 rfl rfl)
theorem dX8_mooring_47 : decode cX8_mooring 47 = .ok (.iinc 2 1, 3) := dk_132 2 1 (dk_at dksX8_mooring_2 1 rfl rfl)
theorem dX8_mooring_50 : decode cX8_mooring 50 = .ok (.goto (-37), 3) := dk_167 255 219 (dk_at dksX8_mooring_2 4 rfl rfl)
theorem dX8_mooring_53 : decode cX8_mooring 53 = .ok (.iconst (-1), 1) := dk_2 (dk_at dksX8_mooring_2 7 rfl rfl)
theorem dX8_mooring_54 : decode cX8_mooring 54 = .ok (.istore_n 2, 1) := dk_61 (dk_at dksX8_mooring_2 8 rfl rfl)
theorem dX8_mooring_55 : decode cX8_mooring 55 = .ok (.iconst 0, 1) := dk_3 (dk_at dksX8_mooring_2 9 rfl rfl)
theorem dX8_mooring_56 : decode cX8_mooring 56 = .ok (.istore_n 3, 1) := dk_62 (dk_at dksX8_mooring_2 10 rfl rfl)
theorem dX8_mooring_57 : decode cX8_mooring 57 = .ok (.iconst 0, 1) := dk_3 (dk_at dksX8_mooring_2 11 rfl rfl)
theorem dX8_mooring_58 : decode cX8_mooring 58 = .ok (.istore 4, 2) := dk_54 4 (dk_at dksX8_mooring_2 12 rfl rfl)
theorem dX8_mooring_60 : decode cX8_mooring 60 = .ok (.iload 4, 2) := dk_21 4 (dk_at dksX8_mooring_2 14 rfl rfl)
theorem dX8_mooring_62 : decode cX8_mooring 62 = .ok (.bipush 9, 2) := dk_16 9 (dk_at dksX8_mooring_2 16 rfl rfl)
theorem dX8_mooring_64 : decode cX8_mooring 64 = .ok (.aload_n 0, 1) := dk_42 (dk_at dksX8_mooring_2 18 rfl rfl)
theorem dX8_mooring_65 : decode cX8_mooring 65 = .ok (.getfield 405, 3) := dk_180 1 149 (dk_at dksX8_mooring_2 19 rfl rfl)
theorem dX8_mooring_68 : decode cX8_mooring 68 = .ok (.invokestatic 477, 3) := dk_184 1 221 (dk_at dksX8_mooring_3 0 rfl rfl)
theorem dX8_mooring_71 : decode cX8_mooring 71 = .ok (.if_icmp .ge 109, 3) := dk_162 0 109 (dk_at dksX8_mooring_3 3 rfl rfl)
theorem dX8_mooring_74 : decode cX8_mooring 74 = .ok (.aload_n 0, 1) := dk_42 (dk_at dksX8_mooring_3 6 rfl rfl)
theorem dX8_mooring_75 : decode cX8_mooring 75 = .ok (.iload 4, 2) := dk_21 4 (dk_at dksX8_mooring_3 7 rfl rfl)
theorem dX8_mooring_77 : decode cX8_mooring 77 = .ok (.invokevirtual 526, 3) := dk_182 2 14 (dk_at dksX8_mooring_3 9 rfl rfl)
theorem dX8_mooring_80 : decode cX8_mooring 80 = .ok (.istore 5, 2) := dk_54 5 (dk_at dksX8_mooring_3 12 rfl rfl)
theorem dX8_mooring_82 : decode cX8_mooring 82 = .ok (.iload 5, 2) := dk_21 5 (dk_at dksX8_mooring_3 14 rfl rfl)
theorem dX8_mooring_84 : decode cX8_mooring 84 = .ok (.ifCond .lt 90, 3) := dk_155 0 90 (dk_at dksX8_mooring_3 16 rfl rfl)
theorem dX8_mooring_87 : decode cX8_mooring 87 = .ok (.iload 5, 2) := dk_21 5 (dk_at dksX8_mooring_3 19 rfl rfl)
theorem dX8_mooring_89 : decode cX8_mooring 89 = .ok (.iload_n 2, 1) := dk_28 (dk_at dksX8_mooring_3 21 rfl rfl)
theorem dX8_mooring_90 : decode cX8_mooring 90 = .ok (.if_icmp .lt 84, 3) := dk_161 0 84 (dk_at dksX8_mooring_4 0 rfl rfl)
theorem dX8_mooring_93 : decode cX8_mooring 93 = .ok (.iload 5, 2) := dk_21 5 (dk_at dksX8_mooring_4 3 rfl rfl)
theorem dX8_mooring_95 : decode cX8_mooring 95 = .ok (.iload_n 2, 1) := dk_28 (dk_at dksX8_mooring_4 5 rfl rfl)
theorem dX8_mooring_96 : decode cX8_mooring 96 = .ok (.if_icmp .ne 14, 3) := dk_160 0 14 (dk_at dksX8_mooring_4 6 rfl rfl)
theorem dX8_mooring_99 : decode cX8_mooring 99 = .ok (.aload_n 0, 1) := dk_42 (dk_at dksX8_mooring_4 9 rfl rfl)
theorem dX8_mooring_100 : decode cX8_mooring 100 = .ok (.invokevirtual 529, 3) := dk_182 2 17 (dk_at dksX8_mooring_4 10 rfl rfl)
theorem dX8_mooring_103 : decode cX8_mooring 103 = .ok (.iload_n 3, 1) := dk_29 (dk_at dksX8_mooring_4 13 rfl rfl)
theorem dX8_mooring_104 : decode cX8_mooring 104 = .ok (.if_icmp .lt 6, 3) := dk_161 0 6 (dk_at dksX8_mooring_4 14 rfl rfl)
theorem dX8_mooring_107 : decode cX8_mooring 107 = .ok (.goto 67, 3) := dk_167 0 67 (dk_at dksX8_mooring_4 17 rfl rfl)
theorem dX8_mooring_110 : decode cX8_mooring 110 = .ok (.iload 5, 2) := dk_21 5 (dk_at dksX8_mooring_4 20 rfl rfl)
theorem dX8_mooring_112 : decode cX8_mooring 112 = .ok (.istore_n 2, 1) := dk_61 (dk_at dksX8_mooring_4 22 rfl rfl)
theorem dX8_mooring_113 : decode cX8_mooring 113 = .ok (.aload_n 0, 1) := dk_42 (dk_at dksX8_mooring_4 23 rfl rfl)
theorem dX8_mooring_114 : decode cX8_mooring 114 = .ok (.invokevirtual 529, 3) := dk_182 2 17 (dk_at dksX8_mooring_5 0 rfl rfl)
theorem dX8_mooring_117 : decode cX8_mooring 117 = .ok (.istore_n 3, 1) := dk_62 (dk_at dksX8_mooring_5 3 rfl rfl)
theorem dX8_mooring_118 : decode cX8_mooring 118 = .ok (.iconst 0, 1) := dk_3 (dk_at dksX8_mooring_5 4 rfl rfl)
theorem dX8_mooring_119 : decode cX8_mooring 119 = .ok (.istore 6, 2) := dk_54 6 (dk_at dksX8_mooring_5 5 rfl rfl)
theorem dX8_mooring_121 : decode cX8_mooring 121 = .ok (.iload 6, 2) := dk_21 6 (dk_at dksX8_mooring_5 7 rfl rfl)
theorem dX8_mooring_123 : decode cX8_mooring 123 = .ok (.aload_n 0, 1) := dk_42 (dk_at dksX8_mooring_5 9 rfl rfl)
theorem dX8_mooring_124 : decode cX8_mooring 124 = .ok (.getfield 405, 3) := dk_180 1 149 (dk_at dksX8_mooring_5 10 rfl rfl)
theorem dX8_mooring_127 : decode cX8_mooring 127 = .ok (.if_icmp .ge 39, 3) := dk_162 0 39 (dk_at dksX8_mooring_5 13 rfl rfl)
theorem dX8_mooring_130 : decode cX8_mooring 130 = .ok (.aload_n 0, 1) := dk_42 (dk_at dksX8_mooring_5 16 rfl rfl)
theorem dX8_mooring_131 : decode cX8_mooring 131 = .ok (.getfield 96, 3) := dk_180 0 96 (dk_at dksX8_mooring_5 17 rfl rfl)
theorem dX8_mooring_134 : decode cX8_mooring 134 = .ok (.iload 6, 2) := dk_21 6 (dk_at dksX8_mooring_5 20 rfl rfl)
theorem dX8_mooring_136 : decode cX8_mooring 136 = .ok (.aload_n 0, 1) := dk_42 (dk_at dksX8_mooring_5 22 rfl rfl)
theorem dX8_mooring_137 : decode cX8_mooring 137 = .ok (.getfield 118, 3) := dk_180 0 118 (dk_at dksX8_mooring_6 0 rfl rfl)
theorem dX8_mooring_140 : decode cX8_mooring 140 = .ok (.iload 6, 2) := dk_21 6 (dk_at dksX8_mooring_6 3 rfl rfl)
theorem dX8_mooring_142 : decode cX8_mooring 142 = .ok (.iaload, 1) := dk_46 (dk_at dksX8_mooring_6 5 rfl rfl)
theorem dX8_mooring_143 : decode cX8_mooring 143 = .ok (.bipush 8, 2) := dk_16 8 (dk_at dksX8_mooring_6 6 rfl rfl)
theorem dX8_mooring_145 : decode cX8_mooring 145 = .ok (.if_icmp .ne 7, 3) := dk_160 0 7 (dk_at dksX8_mooring_6 8 rfl rfl)
theorem dX8_mooring_148 : decode cX8_mooring 148 = .ok (.iconst (-1), 1) := dk_2 (dk_at dksX8_mooring_6 11 rfl rfl)
theorem dX8_mooring_149 : decode cX8_mooring 149 = .ok (.goto 10, 3) := dk_167 0 10 (dk_at dksX8_mooring_6 12 rfl rfl)
theorem dX8_mooring_152 : decode cX8_mooring 152 = .ok (.aload_n 0, 1) := dk_42 (dk_at dksX8_mooring_6 15 rfl rfl)
theorem dX8_mooring_153 : decode cX8_mooring 153 = .ok (.getfield 118, 3) := dk_180 0 118 (dk_at dksX8_mooring_6 16 rfl rfl)
theorem dX8_mooring_156 : decode cX8_mooring 156 = .ok (.iload 6, 2) := dk_21 6 (dk_at dksX8_mooring_6 19 rfl rfl)
theorem dX8_mooring_158 : decode cX8_mooring 158 = .ok (.iaload, 1) := dk_46 (dk_at dksX8_mooring_6 21 rfl rfl)
theorem dX8_mooring_159 : decode cX8_mooring 159 = .ok (.iastore, 1) := dk_79 (dk_at dksX8_mooring_6 22 rfl rfl)
theorem dX8_mooring_160 : decode cX8_mooring 160 = .ok (.iinc 6 1, 3) := dk_132 6 1 (dk_at dksX8_mooring_7 0 rfl rfl)
theorem dX8_mooring_163 : decode cX8_mooring 163 = .ok (.goto (-42), 3) := dk_167 255 214 (dk_at dksX8_mooring_7 3 rfl rfl)
theorem dX8_mooring_166 : decode cX8_mooring 166 = .ok (.aload_n 0, 1) := dk_42 (dk_at dksX8_mooring_7 6 rfl rfl)
theorem dX8_mooring_167 : decode cX8_mooring 167 = .ok (.aload_n 0, 1) := dk_42 (dk_at dksX8_mooring_7 7 rfl rfl)
theorem dX8_mooring_168 : decode cX8_mooring 168 = .ok (.getfield 405, 3) := dk_180 1 149 (dk_at dksX8_mooring_7 8 rfl rfl)
theorem dX8_mooring_171 : decode cX8_mooring 171 = .ok (.putfield 423, 3) := dk_181 1 167 (dk_at dksX8_mooring_7 11 rfl rfl)
theorem dX8_mooring_174 : decode cX8_mooring 174 = .ok (.iinc 4 1, 3) := dk_132 4 1 (dk_at dksX8_mooring_7 14 rfl rfl)
theorem dX8_mooring_177 : decode cX8_mooring 177 = .ok (.goto (-117), 3) := dk_167 255 139 (dk_at dksX8_mooring_7 17 rfl rfl)
theorem dX8_mooring_180 : decode cX8_mooring 180 = .ok (.iload_n 1, 1) := dk_27 (dk_at dksX8_mooring_7 20 rfl rfl)
theorem dX8_mooring_181 : decode cX8_mooring 181 = .ok (.ifCond .ne 7, 3) := dk_154 0 7 (dk_at dksX8_mooring_7 21 rfl rfl)
theorem dX8_mooring_184 : decode cX8_mooring 184 = .ok (.iload_n 2, 1) := dk_28 (dk_at dksX8_mooring_8 0 rfl rfl)
theorem dX8_mooring_185 : decode cX8_mooring 185 = .ok (.goto 4, 3) := dk_167 0 4 (dk_at dksX8_mooring_8 1 rfl rfl)
theorem dX8_mooring_188 : decode cX8_mooring 188 = .ok (.iload_n 3, 1) := dk_29 (dk_at dksX8_mooring_8 4 rfl rfl)
theorem dX8_mooring_189 : decode cX8_mooring 189 = .ok (.ireturn, 1) := dk_172 (dk_at dksX8_mooring_8 5 rfl rfl)
abbrev cX8_layMooring : ByteArray := prog_20_method_96_code
def yX8_layMooring : MethodName := ⟨RX8, "layMooring", "(I)I"⟩
def dkwX8_layMooring_4 : List UInt8 := [46, 120, 128, 62, 132, 4, 1, 132, 5, 255, 167, 255, 165, 21, 4, 172]
abbrev dktX8_layMooring_4 : List UInt8 := dkwX8_layMooring_4 ++ []
def dkwX8_layMooring_3 : List UInt8 := [42, 180, 0, 118, 21, 5, 46, 122, 4, 126, 4, 160, 0, 5, 2, 172, 29, 4, 42, 180, 0, 118, 21, 5]
abbrev dktX8_layMooring_3 : List UInt8 := dkwX8_layMooring_3 ++ dktX8_layMooring_4
def dkwX8_layMooring_2 : List UInt8 := [167, 0, 55, 42, 180, 0, 115, 21, 5, 46, 42, 180, 0, 118, 21, 5, 46, 122, 4, 126, 153, 0, 18, 29]
abbrev dktX8_layMooring_2 : List UInt8 := dkwX8_layMooring_2 ++ dktX8_layMooring_3
def dkwX8_layMooring_1 : List UInt8 := [21, 5, 28, 16, 9, 112, 79, 28, 16, 9, 108, 61, 42, 180, 0, 118, 21, 5, 46, 16, 8, 160, 0, 6]
abbrev dktX8_layMooring_1 : List UInt8 := dkwX8_layMooring_1 ++ dktX8_layMooring_2
def dkwX8_layMooring_0 : List UInt8 := [27, 61, 3, 62, 3, 54, 4, 42, 180, 1, 149, 4, 100, 54, 5, 21, 5, 155, 0, 92, 42, 180, 0, 118]
abbrev dktX8_layMooring_0 : List UInt8 := dkwX8_layMooring_0 ++ dktX8_layMooring_1
theorem dksX8_layMooring_0 : cX8_layMooring.data.toList.drop 0 = dktX8_layMooring_0 := by decide +kernel
theorem dksX8_layMooring_1 : cX8_layMooring.data.toList.drop 24 = dktX8_layMooring_1 := dk_seg dksX8_layMooring_0 24 rfl rfl
theorem dksX8_layMooring_2 : cX8_layMooring.data.toList.drop 48 = dktX8_layMooring_2 := dk_seg dksX8_layMooring_1 24 rfl rfl
theorem dksX8_layMooring_3 : cX8_layMooring.data.toList.drop 72 = dktX8_layMooring_3 := dk_seg dksX8_layMooring_2 24 rfl rfl
theorem dksX8_layMooring_4 : cX8_layMooring.data.toList.drop 96 = dktX8_layMooring_4 := dk_seg dksX8_layMooring_3 24 rfl rfl
theorem dX8_layMooring_0 : decode cX8_layMooring 0 = .ok (.iload_n 1, 1) := dk_27 (dk_at dksX8_layMooring_0 0 rfl rfl)
theorem dX8_layMooring_1 : decode cX8_layMooring 1 = .ok (.istore_n 2, 1) := dk_61 (dk_at dksX8_layMooring_0 1 rfl rfl)
theorem dX8_layMooring_2 : decode cX8_layMooring 2 = .ok (.iconst 0, 1) := dk_3 (dk_at dksX8_layMooring_0 2 rfl rfl)
theorem dX8_layMooring_3 : decode cX8_layMooring 3 = .ok (.istore_n 3, 1) := dk_62 (dk_at dksX8_layMooring_0 3 rfl rfl)
theorem dX8_layMooring_4 : decode cX8_layMooring 4 = .ok (.iconst 0, 1) := dk_3 (dk_at dksX8_layMooring_0 4 rfl rfl)
theorem dX8_layMooring_5 : decode cX8_layMooring 5 = .ok (.istore 4, 2) := dk_54 4 (dk_at dksX8_layMooring_0 5 rfl rfl)
theorem dX8_layMooring_7 : decode cX8_layMooring 7 = .ok (.aload_n 0, 1) := dk_42 (dk_at dksX8_layMooring_0 7 rfl rfl)
theorem dX8_layMooring_8 : decode cX8_layMooring 8 = .ok (.getfield 405, 3) := dk_180 1 149 (dk_at dksX8_layMooring_0 8 rfl rfl)
theorem dX8_layMooring_11 : decode cX8_layMooring 11 = .ok (.iconst 1, 1) := dk_4 (dk_at dksX8_layMooring_0 11 rfl rfl)
theorem dX8_layMooring_12 : decode cX8_layMooring 12 = .ok (.isub, 1) := dk_100 (dk_at dksX8_layMooring_0 12 rfl rfl)
theorem dX8_layMooring_13 : decode cX8_layMooring 13 = .ok (.istore 5, 2) := dk_54 5 (dk_at dksX8_layMooring_0 13 rfl rfl)
theorem dX8_layMooring_15 : decode cX8_layMooring 15 = .ok (.iload 5, 2) := dk_21 5 (dk_at dksX8_layMooring_0 15 rfl rfl)
theorem dX8_layMooring_17 : decode cX8_layMooring 17 = .ok (.ifCond .lt 92, 3) := dk_155 0 92 (dk_at dksX8_layMooring_0 17 rfl rfl)
theorem dX8_layMooring_20 : decode cX8_layMooring 20 = .ok (.aload_n 0, 1) := dk_42 (dk_at dksX8_layMooring_0 20 rfl rfl)
theorem dX8_layMooring_21 : decode cX8_layMooring 21 = .ok (.getfield 118, 3) := dk_180 0 118 (dk_at dksX8_layMooring_0 21 rfl rfl)
theorem dX8_layMooring_24 : decode cX8_layMooring 24 = .ok (.iload 5, 2) := dk_21 5 (dk_at dksX8_layMooring_1 0 rfl rfl)
theorem dX8_layMooring_26 : decode cX8_layMooring 26 = .ok (.iload_n 2, 1) := dk_28 (dk_at dksX8_layMooring_1 2 rfl rfl)
theorem dX8_layMooring_27 : decode cX8_layMooring 27 = .ok (.bipush 9, 2) := dk_16 9 (dk_at dksX8_layMooring_1 3 rfl rfl)
theorem dX8_layMooring_29 : decode cX8_layMooring 29 = .ok (.irem, 1) := dk_112 (dk_at dksX8_layMooring_1 5 rfl rfl)
theorem dX8_layMooring_30 : decode cX8_layMooring 30 = .ok (.iastore, 1) := dk_79 (dk_at dksX8_layMooring_1 6 rfl rfl)
theorem dX8_layMooring_31 : decode cX8_layMooring 31 = .ok (.iload_n 2, 1) := dk_28 (dk_at dksX8_layMooring_1 7 rfl rfl)
theorem dX8_layMooring_32 : decode cX8_layMooring 32 = .ok (.bipush 9, 2) := dk_16 9 (dk_at dksX8_layMooring_1 8 rfl rfl)
theorem dX8_layMooring_34 : decode cX8_layMooring 34 = .ok (.idiv, 1) := dk_108 (dk_at dksX8_layMooring_1 10 rfl rfl)
theorem dX8_layMooring_35 : decode cX8_layMooring 35 = .ok (.istore_n 2, 1) := dk_61 (dk_at dksX8_layMooring_1 11 rfl rfl)
theorem dX8_layMooring_36 : decode cX8_layMooring 36 = .ok (.aload_n 0, 1) := dk_42 (dk_at dksX8_layMooring_1 12 rfl rfl)
theorem dX8_layMooring_37 : decode cX8_layMooring 37 = .ok (.getfield 118, 3) := dk_180 0 118 (dk_at dksX8_layMooring_1 13 rfl rfl)
theorem dX8_layMooring_40 : decode cX8_layMooring 40 = .ok (.iload 5, 2) := dk_21 5 (dk_at dksX8_layMooring_1 16 rfl rfl)
theorem dX8_layMooring_42 : decode cX8_layMooring 42 = .ok (.iaload, 1) := dk_46 (dk_at dksX8_layMooring_1 18 rfl rfl)
theorem dX8_layMooring_43 : decode cX8_layMooring 43 = .ok (.bipush 8, 2) := dk_16 8 (dk_at dksX8_layMooring_1 19 rfl rfl)
theorem dX8_layMooring_45 : decode cX8_layMooring 45 = .ok (.if_icmp .ne 6, 3) := dk_160 0 6 (dk_at dksX8_layMooring_1 21 rfl rfl)
theorem dX8_layMooring_48 : decode cX8_layMooring 48 = .ok (.goto 55, 3) := dk_167 0 55 (dk_at dksX8_layMooring_2 0 rfl rfl)
theorem dX8_layMooring_51 : decode cX8_layMooring 51 = .ok (.aload_n 0, 1) := dk_42 (dk_at dksX8_layMooring_2 3 rfl rfl)
theorem dX8_layMooring_52 : decode cX8_layMooring 52 = .ok (.getfield 115, 3) := dk_180 0 115 (dk_at dksX8_layMooring_2 4 rfl rfl)
theorem dX8_layMooring_55 : decode cX8_layMooring 55 = .ok (.iload 5, 2) := dk_21 5 (dk_at dksX8_layMooring_2 7 rfl rfl)
theorem dX8_layMooring_57 : decode cX8_layMooring 57 = .ok (.iaload, 1) := dk_46 (dk_at dksX8_layMooring_2 9 rfl rfl)
theorem dX8_layMooring_58 : decode cX8_layMooring 58 = .ok (.aload_n 0, 1) := dk_42 (dk_at dksX8_layMooring_2 10 rfl rfl)
theorem dX8_layMooring_59 : decode cX8_layMooring 59 = .ok (.getfield 118, 3) := dk_180 0 118 (dk_at dksX8_layMooring_2 11 rfl rfl)
theorem dX8_layMooring_62 : decode cX8_layMooring 62 = .ok (.iload 5, 2) := dk_21 5 (dk_at dksX8_layMooring_2 14 rfl rfl)
theorem dX8_layMooring_64 : decode cX8_layMooring 64 = .ok (.iaload, 1) := dk_46 (dk_at dksX8_layMooring_2 16 rfl rfl)
theorem dX8_layMooring_65 : decode cX8_layMooring 65 = .ok (.ishr, 1) := dk_122 (dk_at dksX8_layMooring_2 17 rfl rfl)
theorem dX8_layMooring_66 : decode cX8_layMooring 66 = .ok (.iconst 1, 1) := dk_4 (dk_at dksX8_layMooring_2 18 rfl rfl)
theorem dX8_layMooring_67 : decode cX8_layMooring 67 = .ok (.iand, 1) := dk_126 (dk_at dksX8_layMooring_2 19 rfl rfl)
theorem dX8_layMooring_68 : decode cX8_layMooring 68 = .ok (.ifCond .eq 18, 3) := dk_153 0 18 (dk_at dksX8_layMooring_2 20 rfl rfl)
theorem dX8_layMooring_71 : decode cX8_layMooring 71 = .ok (.iload_n 3, 1) := dk_29 (dk_at dksX8_layMooring_2 23 rfl rfl)
theorem dX8_layMooring_72 : decode cX8_layMooring 72 = .ok (.aload_n 0, 1) := dk_42 (dk_at dksX8_layMooring_3 0 rfl rfl)
theorem dX8_layMooring_73 : decode cX8_layMooring 73 = .ok (.getfield 118, 3) := dk_180 0 118 (dk_at dksX8_layMooring_3 1 rfl rfl)
theorem dX8_layMooring_76 : decode cX8_layMooring 76 = .ok (.iload 5, 2) := dk_21 5 (dk_at dksX8_layMooring_3 4 rfl rfl)
theorem dX8_layMooring_78 : decode cX8_layMooring 78 = .ok (.iaload, 1) := dk_46 (dk_at dksX8_layMooring_3 6 rfl rfl)
theorem dX8_layMooring_79 : decode cX8_layMooring 79 = .ok (.ishr, 1) := dk_122 (dk_at dksX8_layMooring_3 7 rfl rfl)
theorem dX8_layMooring_80 : decode cX8_layMooring 80 = .ok (.iconst 1, 1) := dk_4 (dk_at dksX8_layMooring_3 8 rfl rfl)
theorem dX8_layMooring_81 : decode cX8_layMooring 81 = .ok (.iand, 1) := dk_126 (dk_at dksX8_layMooring_3 9 rfl rfl)
theorem dX8_layMooring_82 : decode cX8_layMooring 82 = .ok (.iconst 1, 1) := dk_4 (dk_at dksX8_layMooring_3 10 rfl rfl)
theorem dX8_layMooring_83 : decode cX8_layMooring 83 = .ok (.if_icmp .ne 5, 3) := dk_160 0 5 (dk_at dksX8_layMooring_3 11 rfl rfl)
theorem dX8_layMooring_86 : decode cX8_layMooring 86 = .ok (.iconst (-1), 1) := dk_2 (dk_at dksX8_layMooring_3 14 rfl rfl)
theorem dX8_layMooring_87 : decode cX8_layMooring 87 = .ok (.ireturn, 1) := dk_172 (dk_at dksX8_layMooring_3 15 rfl rfl)
theorem dX8_layMooring_88 : decode cX8_layMooring 88 = .ok (.iload_n 3, 1) := dk_29 (dk_at dksX8_layMooring_3 16 rfl rfl)
theorem dX8_layMooring_89 : decode cX8_layMooring 89 = .ok (.iconst 1, 1) := dk_4 (dk_at dksX8_layMooring_3 17 rfl rfl)
theorem dX8_layMooring_90 : decode cX8_layMooring 90 = .ok (.aload_n 0, 1) := dk_42 (dk_at dksX8_layMooring_3 18 rfl rfl)
theorem dX8_layMooring_91 : decode cX8_layMooring 91 = .ok (.getfield 118, 3) := dk_180 0 118 (dk_at dksX8_layMooring_3 19 rfl rfl)
theorem dX8_layMooring_94 : decode cX8_layMooring 94 = .ok (.iload 5, 2) := dk_21 5 (dk_at dksX8_layMooring_3 22 rfl rfl)
theorem dX8_layMooring_96 : decode cX8_layMooring 96 = .ok (.iaload, 1) := dk_46 (dk_at dksX8_layMooring_4 0 rfl rfl)
theorem dX8_layMooring_97 : decode cX8_layMooring 97 = .ok (.ishl, 1) := dk_120 (dk_at dksX8_layMooring_4 1 rfl rfl)
theorem dX8_layMooring_98 : decode cX8_layMooring 98 = .ok (.ior, 1) := dk_128 (dk_at dksX8_layMooring_4 2 rfl rfl)
theorem dX8_layMooring_99 : decode cX8_layMooring 99 = .ok (.istore_n 3, 1) := dk_62 (dk_at dksX8_layMooring_4 3 rfl rfl)
theorem dX8_layMooring_100 : decode cX8_layMooring 100 = .ok (.iinc 4 1, 3) := dk_132 4 1 (dk_at dksX8_layMooring_4 4 rfl rfl)
theorem dX8_layMooring_103 : decode cX8_layMooring 103 = .ok (.iinc 5 (-1), 3) := dk_132 5 255 (dk_at dksX8_layMooring_4 7 rfl rfl)
theorem dX8_layMooring_106 : decode cX8_layMooring 106 = .ok (.goto (-91), 3) := dk_167 255 165 (dk_at dksX8_layMooring_4 10 rfl rfl)
theorem dX8_layMooring_109 : decode cX8_layMooring 109 = .ok (.iload 4, 2) := dk_21 4 (dk_at dksX8_layMooring_4 13 rfl rfl)
theorem dX8_layMooring_111 : decode cX8_layMooring 111 = .ok (.ireturn, 1) := dk_172 (dk_at dksX8_layMooring_4 15 rfl rfl)
abbrev cX8_betweenAll : ByteArray := prog_20_method_97_code
def yX8_betweenAll : MethodName := ⟨RX8, "betweenAll", "()I"⟩
def dkwX8_betweenAll_2 : List UInt8 := [132, 2, 1, 167, 255, 211, 27, 172]
abbrev dktX8_betweenAll_2 : List UInt8 := dkwX8_betweenAll_2 ++ []
def dkwX8_betweenAll_1 : List UInt8 := [3, 167, 0, 19, 42, 180, 0, 118, 28, 46, 42, 180, 0, 84, 28, 46, 100, 184, 2, 5, 96, 60]
abbrev dktX8_betweenAll_1 : List UInt8 := dkwX8_betweenAll_1 ++ dktX8_betweenAll_2
def dkwX8_betweenAll_0 : List UInt8 := [3, 60, 3, 61, 28, 42, 180, 1, 149, 162, 0, 43, 27, 42, 180, 0, 118, 28, 46, 16, 8, 160, 0, 7]
abbrev dktX8_betweenAll_0 : List UInt8 := dkwX8_betweenAll_0 ++ dktX8_betweenAll_1
theorem dksX8_betweenAll_0 : cX8_betweenAll.data.toList.drop 0 = dktX8_betweenAll_0 := by decide +kernel
theorem dksX8_betweenAll_1 : cX8_betweenAll.data.toList.drop 24 = dktX8_betweenAll_1 := dk_seg dksX8_betweenAll_0 24 rfl rfl
theorem dksX8_betweenAll_2 : cX8_betweenAll.data.toList.drop 46 = dktX8_betweenAll_2 := dk_seg dksX8_betweenAll_1 22 rfl rfl
theorem dX8_betweenAll_0 : decode cX8_betweenAll 0 = .ok (.iconst 0, 1) := dk_3 (dk_at dksX8_betweenAll_0 0 rfl rfl)
theorem dX8_betweenAll_1 : decode cX8_betweenAll 1 = .ok (.istore_n 1, 1) := dk_60 (dk_at dksX8_betweenAll_0 1 rfl rfl)
theorem dX8_betweenAll_2 : decode cX8_betweenAll 2 = .ok (.iconst 0, 1) := dk_3 (dk_at dksX8_betweenAll_0 2 rfl rfl)
theorem dX8_betweenAll_3 : decode cX8_betweenAll 3 = .ok (.istore_n 2, 1) := dk_61 (dk_at dksX8_betweenAll_0 3 rfl rfl)
theorem dX8_betweenAll_4 : decode cX8_betweenAll 4 = .ok (.iload_n 2, 1) := dk_28 (dk_at dksX8_betweenAll_0 4 rfl rfl)
theorem dX8_betweenAll_5 : decode cX8_betweenAll 5 = .ok (.aload_n 0, 1) := dk_42 (dk_at dksX8_betweenAll_0 5 rfl rfl)
theorem dX8_betweenAll_6 : decode cX8_betweenAll 6 = .ok (.getfield 405, 3) := dk_180 1 149 (dk_at dksX8_betweenAll_0 6 rfl rfl)
theorem dX8_betweenAll_9 : decode cX8_betweenAll 9 = .ok (.if_icmp .ge 43, 3) := dk_162 0 43 (dk_at dksX8_betweenAll_0 9 rfl rfl)
theorem dX8_betweenAll_12 : decode cX8_betweenAll 12 = .ok (.iload_n 1, 1) := dk_27 (dk_at dksX8_betweenAll_0 12 rfl rfl)
theorem dX8_betweenAll_13 : decode cX8_betweenAll 13 = .ok (.aload_n 0, 1) := dk_42 (dk_at dksX8_betweenAll_0 13 rfl rfl)
theorem dX8_betweenAll_14 : decode cX8_betweenAll 14 = .ok (.getfield 118, 3) := dk_180 0 118 (dk_at dksX8_betweenAll_0 14 rfl rfl)
theorem dX8_betweenAll_17 : decode cX8_betweenAll 17 = .ok (.iload_n 2, 1) := dk_28 (dk_at dksX8_betweenAll_0 17 rfl rfl)
theorem dX8_betweenAll_18 : decode cX8_betweenAll 18 = .ok (.iaload, 1) := dk_46 (dk_at dksX8_betweenAll_0 18 rfl rfl)
theorem dX8_betweenAll_19 : decode cX8_betweenAll 19 = .ok (.bipush 8, 2) := dk_16 8 (dk_at dksX8_betweenAll_0 19 rfl rfl)
theorem dX8_betweenAll_21 : decode cX8_betweenAll 21 = .ok (.if_icmp .ne 7, 3) := dk_160 0 7 (dk_at dksX8_betweenAll_0 21 rfl rfl)
theorem dX8_betweenAll_24 : decode cX8_betweenAll 24 = .ok (.iconst 0, 1) := dk_3 (dk_at dksX8_betweenAll_1 0 rfl rfl)
theorem dX8_betweenAll_25 : decode cX8_betweenAll 25 = .ok (.goto 19, 3) := dk_167 0 19 (dk_at dksX8_betweenAll_1 1 rfl rfl)
theorem dX8_betweenAll_28 : decode cX8_betweenAll 28 = .ok (.aload_n 0, 1) := dk_42 (dk_at dksX8_betweenAll_1 4 rfl rfl)
theorem dX8_betweenAll_29 : decode cX8_betweenAll 29 = .ok (.getfield 118, 3) := dk_180 0 118 (dk_at dksX8_betweenAll_1 5 rfl rfl)
theorem dX8_betweenAll_32 : decode cX8_betweenAll 32 = .ok (.iload_n 2, 1) := dk_28 (dk_at dksX8_betweenAll_1 8 rfl rfl)
theorem dX8_betweenAll_33 : decode cX8_betweenAll 33 = .ok (.iaload, 1) := dk_46 (dk_at dksX8_betweenAll_1 9 rfl rfl)
theorem dX8_betweenAll_34 : decode cX8_betweenAll 34 = .ok (.aload_n 0, 1) := dk_42 (dk_at dksX8_betweenAll_1 10 rfl rfl)
theorem dX8_betweenAll_35 : decode cX8_betweenAll 35 = .ok (.getfield 84, 3) := dk_180 0 84 (dk_at dksX8_betweenAll_1 11 rfl rfl)
theorem dX8_betweenAll_38 : decode cX8_betweenAll 38 = .ok (.iload_n 2, 1) := dk_28 (dk_at dksX8_betweenAll_1 14 rfl rfl)
theorem dX8_betweenAll_39 : decode cX8_betweenAll 39 = .ok (.iaload, 1) := dk_46 (dk_at dksX8_betweenAll_1 15 rfl rfl)
theorem dX8_betweenAll_40 : decode cX8_betweenAll 40 = .ok (.isub, 1) := dk_100 (dk_at dksX8_betweenAll_1 16 rfl rfl)
theorem dX8_betweenAll_41 : decode cX8_betweenAll 41 = .ok (.invokestatic 517, 3) := dk_184 2 5 (dk_at dksX8_betweenAll_1 17 rfl rfl)
theorem dX8_betweenAll_44 : decode cX8_betweenAll 44 = .ok (.iadd, 1) := dk_96 (dk_at dksX8_betweenAll_1 20 rfl rfl)
theorem dX8_betweenAll_45 : decode cX8_betweenAll 45 = .ok (.istore_n 1, 1) := dk_60 (dk_at dksX8_betweenAll_1 21 rfl rfl)
theorem dX8_betweenAll_46 : decode cX8_betweenAll 46 = .ok (.iinc 2 1, 3) := dk_132 2 1 (dk_at dksX8_betweenAll_2 0 rfl rfl)
theorem dX8_betweenAll_49 : decode cX8_betweenAll 49 = .ok (.goto (-45), 3) := dk_167 255 211 (dk_at dksX8_betweenAll_2 3 rfl rfl)
theorem dX8_betweenAll_52 : decode cX8_betweenAll 52 = .ok (.iload_n 1, 1) := dk_27 (dk_at dksX8_betweenAll_2 6 rfl rfl)
theorem dX8_betweenAll_53 : decode cX8_betweenAll 53 = .ok (.ireturn, 1) := dk_172 (dk_at dksX8_betweenAll_2 7 rfl rfl)
abbrev cX8_guests : ByteArray := prog_20_method_101_code
def yX8_guests : MethodName := ⟨RX8, "guests", "(II)I"⟩
def dkwX8_guests_6 : List UInt8 := [181, 1, 167, 132, 5, 1, 132, 7, 1, 167, 255, 177, 132, 6, 1, 167, 255, 159, 21, 5, 172]
abbrev dktX8_guests_6 : List UInt8 := dkwX8_guests_6 ++ []
def dkwX8_guests_5 : List UInt8 := [21, 5, 154, 0, 24, 42, 180, 0, 96, 3, 21, 6, 79, 42, 180, 0, 96, 4, 21, 7, 79, 42, 5]
abbrev dktX8_guests_5 : List UInt8 := dkwX8_guests_5 ++ dktX8_guests_6
def dkwX8_guests_4 : List UInt8 := [126, 153, 0, 51, 42, 27, 29, 28, 21, 4, 21, 6, 21, 7, 182, 2, 23, 154, 0, 6, 167, 0, 32]
abbrev dktX8_guests_4 : List UInt8 := dkwX8_guests_4 ++ dktX8_guests_5
def dkwX8_guests_3 : List UInt8 := [21, 7, 42, 180, 0, 78, 162, 0, 76, 29, 21, 6, 122, 4, 126, 153, 0, 61, 21, 4, 21, 7, 122, 4]
abbrev dktX8_guests_3 : List UInt8 := dkwX8_guests_3 ++ dktX8_guests_4
def dkwX8_guests_2 : List UInt8 := [154, 0, 5, 2, 172, 3, 54, 5, 3, 54, 6, 21, 6, 42, 180, 0, 78, 162, 0, 94, 3, 54, 7]
abbrev dktX8_guests_2 : List UInt8 := dkwX8_guests_2 ++ dktX8_guests_3
def dkwX8_guests_1 : List UInt8 := [160, 0, 5, 2, 172, 42, 27, 182, 1, 227, 62, 42, 28, 182, 1, 227, 54, 4, 29, 153, 0, 8, 21, 4]
abbrev dktX8_guests_1 : List UInt8 := dkwX8_guests_1 ++ dktX8_guests_2
def dkwX8_guests_0 : List UInt8 := [42, 3, 181, 1, 167, 42, 27, 182, 1, 188, 153, 0, 16, 42, 28, 182, 1, 188, 153, 0, 8, 27, 28]
abbrev dktX8_guests_0 : List UInt8 := dkwX8_guests_0 ++ dktX8_guests_1
theorem dksX8_guests_0 : cX8_guests.data.toList.drop 0 = dktX8_guests_0 := by decide +kernel
theorem dksX8_guests_1 : cX8_guests.data.toList.drop 23 = dktX8_guests_1 := dk_seg dksX8_guests_0 23 rfl rfl
theorem dksX8_guests_2 : cX8_guests.data.toList.drop 47 = dktX8_guests_2 := dk_seg dksX8_guests_1 24 rfl rfl
theorem dksX8_guests_3 : cX8_guests.data.toList.drop 70 = dktX8_guests_3 := dk_seg dksX8_guests_2 23 rfl rfl
theorem dksX8_guests_4 : cX8_guests.data.toList.drop 94 = dktX8_guests_4 := dk_seg dksX8_guests_3 24 rfl rfl
theorem dksX8_guests_5 : cX8_guests.data.toList.drop 117 = dktX8_guests_5 := dk_seg dksX8_guests_4 23 rfl rfl
theorem dksX8_guests_6 : cX8_guests.data.toList.drop 140 = dktX8_guests_6 := dk_seg dksX8_guests_5 23 rfl rfl
theorem dX8_guests_0 : decode cX8_guests 0 = .ok (.aload_n 0, 1) := dk_42 (dk_at dksX8_guests_0 0 rfl rfl)
theorem dX8_guests_1 : decode cX8_guests 1 = .ok (.iconst 0, 1) := dk_3 (dk_at dksX8_guests_0 1 rfl rfl)
theorem dX8_guests_2 : decode cX8_guests 2 = .ok (.putfield 423, 3) := dk_181 1 167 (dk_at dksX8_guests_0 2 rfl rfl)
theorem dX8_guests_5 : decode cX8_guests 5 = .ok (.aload_n 0, 1) := dk_42 (dk_at dksX8_guests_0 5 rfl rfl)
theorem dX8_guests_6 : decode cX8_guests 6 = .ok (.iload_n 1, 1) := dk_27 (dk_at dksX8_guests_0 6 rfl rfl)
theorem dX8_guests_7 : decode cX8_guests 7 = .ok (.invokevirtual 444, 3) := dk_182 1 188 (dk_at dksX8_guests_0 7 rfl rfl)
theorem dX8_guests_10 : decode cX8_guests 10 = .ok (.ifCond .eq 16, 3) := dk_153 0 16 (dk_at dksX8_guests_0 10 rfl rfl)
theorem dX8_guests_13 : decode cX8_guests 13 = .ok (.aload_n 0, 1) := dk_42 (dk_at dksX8_guests_0 13 rfl rfl)
theorem dX8_guests_14 : decode cX8_guests 14 = .ok (.iload_n 2, 1) := dk_28 (dk_at dksX8_guests_0 14 rfl rfl)
theorem dX8_guests_15 : decode cX8_guests 15 = .ok (.invokevirtual 444, 3) := dk_182 1 188 (dk_at dksX8_guests_0 15 rfl rfl)
theorem dX8_guests_18 : decode cX8_guests 18 = .ok (.ifCond .eq 8, 3) := dk_153 0 8 (dk_at dksX8_guests_0 18 rfl rfl)
theorem dX8_guests_21 : decode cX8_guests 21 = .ok (.iload_n 1, 1) := dk_27 (dk_at dksX8_guests_0 21 rfl rfl)
theorem dX8_guests_22 : decode cX8_guests 22 = .ok (.iload_n 2, 1) := dk_28 (dk_at dksX8_guests_0 22 rfl rfl)
theorem dX8_guests_23 : decode cX8_guests 23 = .ok (.if_icmp .ne 5, 3) := dk_160 0 5 (dk_at dksX8_guests_1 0 rfl rfl)
theorem dX8_guests_26 : decode cX8_guests 26 = .ok (.iconst (-1), 1) := dk_2 (dk_at dksX8_guests_1 3 rfl rfl)
theorem dX8_guests_27 : decode cX8_guests 27 = .ok (.ireturn, 1) := dk_172 (dk_at dksX8_guests_1 4 rfl rfl)
theorem dX8_guests_28 : decode cX8_guests 28 = .ok (.aload_n 0, 1) := dk_42 (dk_at dksX8_guests_1 5 rfl rfl)
theorem dX8_guests_29 : decode cX8_guests 29 = .ok (.iload_n 1, 1) := dk_27 (dk_at dksX8_guests_1 6 rfl rfl)
theorem dX8_guests_30 : decode cX8_guests 30 = .ok (.invokevirtual 483, 3) := dk_182 1 227 (dk_at dksX8_guests_1 7 rfl rfl)
theorem dX8_guests_33 : decode cX8_guests 33 = .ok (.istore_n 3, 1) := dk_62 (dk_at dksX8_guests_1 10 rfl rfl)
theorem dX8_guests_34 : decode cX8_guests 34 = .ok (.aload_n 0, 1) := dk_42 (dk_at dksX8_guests_1 11 rfl rfl)
theorem dX8_guests_35 : decode cX8_guests 35 = .ok (.iload_n 2, 1) := dk_28 (dk_at dksX8_guests_1 12 rfl rfl)
theorem dX8_guests_36 : decode cX8_guests 36 = .ok (.invokevirtual 483, 3) := dk_182 1 227 (dk_at dksX8_guests_1 13 rfl rfl)
theorem dX8_guests_39 : decode cX8_guests 39 = .ok (.istore 4, 2) := dk_54 4 (dk_at dksX8_guests_1 16 rfl rfl)
theorem dX8_guests_41 : decode cX8_guests 41 = .ok (.iload_n 3, 1) := dk_29 (dk_at dksX8_guests_1 18 rfl rfl)
theorem dX8_guests_42 : decode cX8_guests 42 = .ok (.ifCond .eq 8, 3) := dk_153 0 8 (dk_at dksX8_guests_1 19 rfl rfl)
theorem dX8_guests_45 : decode cX8_guests 45 = .ok (.iload 4, 2) := dk_21 4 (dk_at dksX8_guests_1 22 rfl rfl)
theorem dX8_guests_47 : decode cX8_guests 47 = .ok (.ifCond .ne 5, 3) := dk_154 0 5 (dk_at dksX8_guests_2 0 rfl rfl)
theorem dX8_guests_50 : decode cX8_guests 50 = .ok (.iconst (-1), 1) := dk_2 (dk_at dksX8_guests_2 3 rfl rfl)
theorem dX8_guests_51 : decode cX8_guests 51 = .ok (.ireturn, 1) := dk_172 (dk_at dksX8_guests_2 4 rfl rfl)
theorem dX8_guests_52 : decode cX8_guests 52 = .ok (.iconst 0, 1) := dk_3 (dk_at dksX8_guests_2 5 rfl rfl)
theorem dX8_guests_53 : decode cX8_guests 53 = .ok (.istore 5, 2) := dk_54 5 (dk_at dksX8_guests_2 6 rfl rfl)
theorem dX8_guests_55 : decode cX8_guests 55 = .ok (.iconst 0, 1) := dk_3 (dk_at dksX8_guests_2 8 rfl rfl)
theorem dX8_guests_56 : decode cX8_guests 56 = .ok (.istore 6, 2) := dk_54 6 (dk_at dksX8_guests_2 9 rfl rfl)
theorem dX8_guests_58 : decode cX8_guests 58 = .ok (.iload 6, 2) := dk_21 6 (dk_at dksX8_guests_2 11 rfl rfl)
theorem dX8_guests_60 : decode cX8_guests 60 = .ok (.aload_n 0, 1) := dk_42 (dk_at dksX8_guests_2 13 rfl rfl)
theorem dX8_guests_61 : decode cX8_guests 61 = .ok (.getfield 78, 3) := dk_180 0 78 (dk_at dksX8_guests_2 14 rfl rfl)
theorem dX8_guests_64 : decode cX8_guests 64 = .ok (.if_icmp .ge 94, 3) := dk_162 0 94 (dk_at dksX8_guests_2 17 rfl rfl)
theorem dX8_guests_67 : decode cX8_guests 67 = .ok (.iconst 0, 1) := dk_3 (dk_at dksX8_guests_2 20 rfl rfl)
theorem dX8_guests_68 : decode cX8_guests 68 = .ok (.istore 7, 2) := dk_54 7 (dk_at dksX8_guests_2 21 rfl rfl)
theorem dX8_guests_70 : decode cX8_guests 70 = .ok (.iload 7, 2) := dk_21 7 (dk_at dksX8_guests_3 0 rfl rfl)
theorem dX8_guests_72 : decode cX8_guests 72 = .ok (.aload_n 0, 1) := dk_42 (dk_at dksX8_guests_3 2 rfl rfl)
theorem dX8_guests_73 : decode cX8_guests 73 = .ok (.getfield 78, 3) := dk_180 0 78 (dk_at dksX8_guests_3 3 rfl rfl)
theorem dX8_guests_76 : decode cX8_guests 76 = .ok (.if_icmp .ge 76, 3) := dk_162 0 76 (dk_at dksX8_guests_3 6 rfl rfl)
theorem dX8_guests_79 : decode cX8_guests 79 = .ok (.iload_n 3, 1) := dk_29 (dk_at dksX8_guests_3 9 rfl rfl)
theorem dX8_guests_80 : decode cX8_guests 80 = .ok (.iload 6, 2) := dk_21 6 (dk_at dksX8_guests_3 10 rfl rfl)
theorem dX8_guests_82 : decode cX8_guests 82 = .ok (.ishr, 1) := dk_122 (dk_at dksX8_guests_3 12 rfl rfl)
theorem dX8_guests_83 : decode cX8_guests 83 = .ok (.iconst 1, 1) := dk_4 (dk_at dksX8_guests_3 13 rfl rfl)
theorem dX8_guests_84 : decode cX8_guests 84 = .ok (.iand, 1) := dk_126 (dk_at dksX8_guests_3 14 rfl rfl)
theorem dX8_guests_85 : decode cX8_guests 85 = .ok (.ifCond .eq 61, 3) := dk_153 0 61 (dk_at dksX8_guests_3 15 rfl rfl)
theorem dX8_guests_88 : decode cX8_guests 88 = .ok (.iload 4, 2) := dk_21 4 (dk_at dksX8_guests_3 18 rfl rfl)
theorem dX8_guests_90 : decode cX8_guests 90 = .ok (.iload 7, 2) := dk_21 7 (dk_at dksX8_guests_3 20 rfl rfl)
theorem dX8_guests_92 : decode cX8_guests 92 = .ok (.ishr, 1) := dk_122 (dk_at dksX8_guests_3 22 rfl rfl)
theorem dX8_guests_93 : decode cX8_guests 93 = .ok (.iconst 1, 1) := dk_4 (dk_at dksX8_guests_3 23 rfl rfl)
theorem dX8_guests_94 : decode cX8_guests 94 = .ok (.iand, 1) := dk_126 (dk_at dksX8_guests_4 0 rfl rfl)
theorem dX8_guests_95 : decode cX8_guests 95 = .ok (.ifCond .eq 51, 3) := dk_153 0 51 (dk_at dksX8_guests_4 1 rfl rfl)
theorem dX8_guests_98 : decode cX8_guests 98 = .ok (.aload_n 0, 1) := dk_42 (dk_at dksX8_guests_4 4 rfl rfl)
theorem dX8_guests_99 : decode cX8_guests 99 = .ok (.iload_n 1, 1) := dk_27 (dk_at dksX8_guests_4 5 rfl rfl)
theorem dX8_guests_100 : decode cX8_guests 100 = .ok (.iload_n 3, 1) := dk_29 (dk_at dksX8_guests_4 6 rfl rfl)
theorem dX8_guests_101 : decode cX8_guests 101 = .ok (.iload_n 2, 1) := dk_28 (dk_at dksX8_guests_4 7 rfl rfl)
theorem dX8_guests_102 : decode cX8_guests 102 = .ok (.iload 4, 2) := dk_21 4 (dk_at dksX8_guests_4 8 rfl rfl)
theorem dX8_guests_104 : decode cX8_guests 104 = .ok (.iload 6, 2) := dk_21 6 (dk_at dksX8_guests_4 10 rfl rfl)
theorem dX8_guests_106 : decode cX8_guests 106 = .ok (.iload 7, 2) := dk_21 7 (dk_at dksX8_guests_4 12 rfl rfl)
theorem dX8_guests_108 : decode cX8_guests 108 = .ok (.invokevirtual 535, 3) := dk_182 2 23 (dk_at dksX8_guests_4 14 rfl rfl)
theorem dX8_guests_111 : decode cX8_guests 111 = .ok (.ifCond .ne 6, 3) := dk_154 0 6 (dk_at dksX8_guests_4 17 rfl rfl)
theorem dX8_guests_114 : decode cX8_guests 114 = .ok (.goto 32, 3) := dk_167 0 32 (dk_at dksX8_guests_4 20 rfl rfl)
theorem dX8_guests_117 : decode cX8_guests 117 = .ok (.iload 5, 2) := dk_21 5 (dk_at dksX8_guests_5 0 rfl rfl)
theorem dX8_guests_119 : decode cX8_guests 119 = .ok (.ifCond .ne 24, 3) := dk_154 0 24 (dk_at dksX8_guests_5 2 rfl rfl)
theorem dX8_guests_122 : decode cX8_guests 122 = .ok (.aload_n 0, 1) := dk_42 (dk_at dksX8_guests_5 5 rfl rfl)
theorem dX8_guests_123 : decode cX8_guests 123 = .ok (.getfield 96, 3) := dk_180 0 96 (dk_at dksX8_guests_5 6 rfl rfl)
theorem dX8_guests_126 : decode cX8_guests 126 = .ok (.iconst 0, 1) := dk_3 (dk_at dksX8_guests_5 9 rfl rfl)
theorem dX8_guests_127 : decode cX8_guests 127 = .ok (.iload 6, 2) := dk_21 6 (dk_at dksX8_guests_5 10 rfl rfl)
theorem dX8_guests_129 : decode cX8_guests 129 = .ok (.iastore, 1) := dk_79 (dk_at dksX8_guests_5 12 rfl rfl)
theorem dX8_guests_130 : decode cX8_guests 130 = .ok (.aload_n 0, 1) := dk_42 (dk_at dksX8_guests_5 13 rfl rfl)
theorem dX8_guests_131 : decode cX8_guests 131 = .ok (.getfield 96, 3) := dk_180 0 96 (dk_at dksX8_guests_5 14 rfl rfl)
theorem dX8_guests_134 : decode cX8_guests 134 = .ok (.iconst 1, 1) := dk_4 (dk_at dksX8_guests_5 17 rfl rfl)
theorem dX8_guests_135 : decode cX8_guests 135 = .ok (.iload 7, 2) := dk_21 7 (dk_at dksX8_guests_5 18 rfl rfl)
theorem dX8_guests_137 : decode cX8_guests 137 = .ok (.iastore, 1) := dk_79 (dk_at dksX8_guests_5 20 rfl rfl)
theorem dX8_guests_138 : decode cX8_guests 138 = .ok (.aload_n 0, 1) := dk_42 (dk_at dksX8_guests_5 21 rfl rfl)
theorem dX8_guests_139 : decode cX8_guests 139 = .ok (.iconst 2, 1) := dk_5 (dk_at dksX8_guests_5 22 rfl rfl)
theorem dX8_guests_140 : decode cX8_guests 140 = .ok (.putfield 423, 3) := dk_181 1 167 (dk_at dksX8_guests_6 0 rfl rfl)
theorem dX8_guests_143 : decode cX8_guests 143 = .ok (.iinc 5 1, 3) := dk_132 5 1 (dk_at dksX8_guests_6 3 rfl rfl)
theorem dX8_guests_146 : decode cX8_guests 146 = .ok (.iinc 7 1, 3) := dk_132 7 1 (dk_at dksX8_guests_6 6 rfl rfl)
theorem dX8_guests_149 : decode cX8_guests 149 = .ok (.goto (-79), 3) := dk_167 255 177 (dk_at dksX8_guests_6 9 rfl rfl)
theorem dX8_guests_152 : decode cX8_guests 152 = .ok (.iinc 6 1, 3) := dk_132 6 1 (dk_at dksX8_guests_6 12 rfl rfl)
theorem dX8_guests_155 : decode cX8_guests 155 = .ok (.goto (-97), 3) := dk_167 255 159 (dk_at dksX8_guests_6 15 rfl rfl)
theorem dX8_guests_158 : decode cX8_guests 158 = .ok (.iload 5, 2) := dk_21 5 (dk_at dksX8_guests_6 18 rfl rfl)
theorem dX8_guests_160 : decode cX8_guests 160 = .ok (.ireturn, 1) := dk_172 (dk_at dksX8_guests_6 20 rfl rfl)
abbrev cX8_isRest : ByteArray := prog_20_method_100_code
def yX8_isRest : MethodName := ⟨RX8, "isRest", "(IIIIII)Z"⟩
def dkwX8_isRest_4 : List UInt8 := [163, 0, 7, 4, 167, 0, 4, 3, 54, 7, 132, 8, 1, 167, 255, 157, 21, 7, 172]
abbrev dktX8_isRest_4 : List UInt8 := dkwX8_isRest_4 ++ []
def dkwX8_isRest_3 : List UInt8 := [21, 7, 153, 0, 28, 42, 29, 21, 8, 21, 5, 182, 2, 20, 42, 29, 21, 6, 21, 5, 182, 2, 20]
abbrev dktX8_isRest_3 : List UInt8 := dkwX8_isRest_3 ++ dktX8_isRest_4
def dkwX8_isRest_2 : List UInt8 := [182, 2, 20, 163, 0, 7, 4, 167, 0, 4, 3, 54, 7, 21, 4, 21, 8, 122, 4, 126, 4, 160, 0, 36]
abbrev dktX8_isRest_2 : List UInt8 := dkwX8_isRest_2 ++ dktX8_isRest_3
def dkwX8_isRest_1 : List UInt8 := [160, 0, 36, 21, 7, 153, 0, 28, 42, 27, 21, 8, 21, 6, 182, 2, 20, 42, 27, 21, 5, 21, 6]
abbrev dktX8_isRest_1 : List UInt8 := dkwX8_isRest_1 ++ dktX8_isRest_2
def dkwX8_isRest_0 : List UInt8 := [4, 54, 7, 3, 54, 8, 21, 8, 42, 180, 0, 78, 162, 0, 96, 28, 21, 8, 122, 4, 126, 4]
abbrev dktX8_isRest_0 : List UInt8 := dkwX8_isRest_0 ++ dktX8_isRest_1
theorem dksX8_isRest_0 : cX8_isRest.data.toList.drop 0 = dktX8_isRest_0 := by decide +kernel
theorem dksX8_isRest_1 : cX8_isRest.data.toList.drop 22 = dktX8_isRest_1 := dk_seg dksX8_isRest_0 22 rfl rfl
theorem dksX8_isRest_2 : cX8_isRest.data.toList.drop 45 = dktX8_isRest_2 := dk_seg dksX8_isRest_1 23 rfl rfl
theorem dksX8_isRest_3 : cX8_isRest.data.toList.drop 69 = dktX8_isRest_3 := dk_seg dksX8_isRest_2 24 rfl rfl
theorem dksX8_isRest_4 : cX8_isRest.data.toList.drop 92 = dktX8_isRest_4 := dk_seg dksX8_isRest_3 23 rfl rfl
theorem dX8_isRest_0 : decode cX8_isRest 0 = .ok (.iconst 1, 1) := dk_4 (dk_at dksX8_isRest_0 0 rfl rfl)
theorem dX8_isRest_1 : decode cX8_isRest 1 = .ok (.istore 7, 2) := dk_54 7 (dk_at dksX8_isRest_0 1 rfl rfl)
theorem dX8_isRest_3 : decode cX8_isRest 3 = .ok (.iconst 0, 1) := dk_3 (dk_at dksX8_isRest_0 3 rfl rfl)
theorem dX8_isRest_4 : decode cX8_isRest 4 = .ok (.istore 8, 2) := dk_54 8 (dk_at dksX8_isRest_0 4 rfl rfl)
theorem dX8_isRest_6 : decode cX8_isRest 6 = .ok (.iload 8, 2) := dk_21 8 (dk_at dksX8_isRest_0 6 rfl rfl)
theorem dX8_isRest_8 : decode cX8_isRest 8 = .ok (.aload_n 0, 1) := dk_42 (dk_at dksX8_isRest_0 8 rfl rfl)
theorem dX8_isRest_9 : decode cX8_isRest 9 = .ok (.getfield 78, 3) := dk_180 0 78 (dk_at dksX8_isRest_0 9 rfl rfl)
theorem dX8_isRest_12 : decode cX8_isRest 12 = .ok (.if_icmp .ge 96, 3) := dk_162 0 96 (dk_at dksX8_isRest_0 12 rfl rfl)
theorem dX8_isRest_15 : decode cX8_isRest 15 = .ok (.iload_n 2, 1) := dk_28 (dk_at dksX8_isRest_0 15 rfl rfl)
theorem dX8_isRest_16 : decode cX8_isRest 16 = .ok (.iload 8, 2) := dk_21 8 (dk_at dksX8_isRest_0 16 rfl rfl)
theorem dX8_isRest_18 : decode cX8_isRest 18 = .ok (.ishr, 1) := dk_122 (dk_at dksX8_isRest_0 18 rfl rfl)
theorem dX8_isRest_19 : decode cX8_isRest 19 = .ok (.iconst 1, 1) := dk_4 (dk_at dksX8_isRest_0 19 rfl rfl)
theorem dX8_isRest_20 : decode cX8_isRest 20 = .ok (.iand, 1) := dk_126 (dk_at dksX8_isRest_0 20 rfl rfl)
theorem dX8_isRest_21 : decode cX8_isRest 21 = .ok (.iconst 1, 1) := dk_4 (dk_at dksX8_isRest_0 21 rfl rfl)
theorem dX8_isRest_22 : decode cX8_isRest 22 = .ok (.if_icmp .ne 36, 3) := dk_160 0 36 (dk_at dksX8_isRest_1 0 rfl rfl)
theorem dX8_isRest_25 : decode cX8_isRest 25 = .ok (.iload 7, 2) := dk_21 7 (dk_at dksX8_isRest_1 3 rfl rfl)
theorem dX8_isRest_27 : decode cX8_isRest 27 = .ok (.ifCond .eq 28, 3) := dk_153 0 28 (dk_at dksX8_isRest_1 5 rfl rfl)
theorem dX8_isRest_30 : decode cX8_isRest 30 = .ok (.aload_n 0, 1) := dk_42 (dk_at dksX8_isRest_1 8 rfl rfl)
theorem dX8_isRest_31 : decode cX8_isRest 31 = .ok (.iload_n 1, 1) := dk_27 (dk_at dksX8_isRest_1 9 rfl rfl)
theorem dX8_isRest_32 : decode cX8_isRest 32 = .ok (.iload 8, 2) := dk_21 8 (dk_at dksX8_isRest_1 10 rfl rfl)
theorem dX8_isRest_34 : decode cX8_isRest 34 = .ok (.iload 6, 2) := dk_21 6 (dk_at dksX8_isRest_1 12 rfl rfl)
theorem dX8_isRest_36 : decode cX8_isRest 36 = .ok (.invokevirtual 532, 3) := dk_182 2 20 (dk_at dksX8_isRest_1 14 rfl rfl)
theorem dX8_isRest_39 : decode cX8_isRest 39 = .ok (.aload_n 0, 1) := dk_42 (dk_at dksX8_isRest_1 17 rfl rfl)
theorem dX8_isRest_40 : decode cX8_isRest 40 = .ok (.iload_n 1, 1) := dk_27 (dk_at dksX8_isRest_1 18 rfl rfl)
theorem dX8_isRest_41 : decode cX8_isRest 41 = .ok (.iload 5, 2) := dk_21 5 (dk_at dksX8_isRest_1 19 rfl rfl)
theorem dX8_isRest_43 : decode cX8_isRest 43 = .ok (.iload 6, 2) := dk_21 6 (dk_at dksX8_isRest_1 21 rfl rfl)
theorem dX8_isRest_45 : decode cX8_isRest 45 = .ok (.invokevirtual 532, 3) := dk_182 2 20 (dk_at dksX8_isRest_2 0 rfl rfl)
theorem dX8_isRest_48 : decode cX8_isRest 48 = .ok (.if_icmp .gt 7, 3) := dk_163 0 7 (dk_at dksX8_isRest_2 3 rfl rfl)
theorem dX8_isRest_51 : decode cX8_isRest 51 = .ok (.iconst 1, 1) := dk_4 (dk_at dksX8_isRest_2 6 rfl rfl)
theorem dX8_isRest_52 : decode cX8_isRest 52 = .ok (.goto 4, 3) := dk_167 0 4 (dk_at dksX8_isRest_2 7 rfl rfl)
theorem dX8_isRest_55 : decode cX8_isRest 55 = .ok (.iconst 0, 1) := dk_3 (dk_at dksX8_isRest_2 10 rfl rfl)
theorem dX8_isRest_56 : decode cX8_isRest 56 = .ok (.istore 7, 2) := dk_54 7 (dk_at dksX8_isRest_2 11 rfl rfl)
theorem dX8_isRest_58 : decode cX8_isRest 58 = .ok (.iload 4, 2) := dk_21 4 (dk_at dksX8_isRest_2 13 rfl rfl)
theorem dX8_isRest_60 : decode cX8_isRest 60 = .ok (.iload 8, 2) := dk_21 8 (dk_at dksX8_isRest_2 15 rfl rfl)
theorem dX8_isRest_62 : decode cX8_isRest 62 = .ok (.ishr, 1) := dk_122 (dk_at dksX8_isRest_2 17 rfl rfl)
theorem dX8_isRest_63 : decode cX8_isRest 63 = .ok (.iconst 1, 1) := dk_4 (dk_at dksX8_isRest_2 18 rfl rfl)
theorem dX8_isRest_64 : decode cX8_isRest 64 = .ok (.iand, 1) := dk_126 (dk_at dksX8_isRest_2 19 rfl rfl)
theorem dX8_isRest_65 : decode cX8_isRest 65 = .ok (.iconst 1, 1) := dk_4 (dk_at dksX8_isRest_2 20 rfl rfl)
theorem dX8_isRest_66 : decode cX8_isRest 66 = .ok (.if_icmp .ne 36, 3) := dk_160 0 36 (dk_at dksX8_isRest_2 21 rfl rfl)
theorem dX8_isRest_69 : decode cX8_isRest 69 = .ok (.iload 7, 2) := dk_21 7 (dk_at dksX8_isRest_3 0 rfl rfl)
theorem dX8_isRest_71 : decode cX8_isRest 71 = .ok (.ifCond .eq 28, 3) := dk_153 0 28 (dk_at dksX8_isRest_3 2 rfl rfl)
theorem dX8_isRest_74 : decode cX8_isRest 74 = .ok (.aload_n 0, 1) := dk_42 (dk_at dksX8_isRest_3 5 rfl rfl)
theorem dX8_isRest_75 : decode cX8_isRest 75 = .ok (.iload_n 3, 1) := dk_29 (dk_at dksX8_isRest_3 6 rfl rfl)
theorem dX8_isRest_76 : decode cX8_isRest 76 = .ok (.iload 8, 2) := dk_21 8 (dk_at dksX8_isRest_3 7 rfl rfl)
theorem dX8_isRest_78 : decode cX8_isRest 78 = .ok (.iload 5, 2) := dk_21 5 (dk_at dksX8_isRest_3 9 rfl rfl)
theorem dX8_isRest_80 : decode cX8_isRest 80 = .ok (.invokevirtual 532, 3) := dk_182 2 20 (dk_at dksX8_isRest_3 11 rfl rfl)
theorem dX8_isRest_83 : decode cX8_isRest 83 = .ok (.aload_n 0, 1) := dk_42 (dk_at dksX8_isRest_3 14 rfl rfl)
theorem dX8_isRest_84 : decode cX8_isRest 84 = .ok (.iload_n 3, 1) := dk_29 (dk_at dksX8_isRest_3 15 rfl rfl)
theorem dX8_isRest_85 : decode cX8_isRest 85 = .ok (.iload 6, 2) := dk_21 6 (dk_at dksX8_isRest_3 16 rfl rfl)
theorem dX8_isRest_87 : decode cX8_isRest 87 = .ok (.iload 5, 2) := dk_21 5 (dk_at dksX8_isRest_3 18 rfl rfl)
theorem dX8_isRest_89 : decode cX8_isRest 89 = .ok (.invokevirtual 532, 3) := dk_182 2 20 (dk_at dksX8_isRest_3 20 rfl rfl)
theorem dX8_isRest_92 : decode cX8_isRest 92 = .ok (.if_icmp .gt 7, 3) := dk_163 0 7 (dk_at dksX8_isRest_4 0 rfl rfl)
theorem dX8_isRest_95 : decode cX8_isRest 95 = .ok (.iconst 1, 1) := dk_4 (dk_at dksX8_isRest_4 3 rfl rfl)
theorem dX8_isRest_96 : decode cX8_isRest 96 = .ok (.goto 4, 3) := dk_167 0 4 (dk_at dksX8_isRest_4 4 rfl rfl)
theorem dX8_isRest_99 : decode cX8_isRest 99 = .ok (.iconst 0, 1) := dk_3 (dk_at dksX8_isRest_4 7 rfl rfl)
theorem dX8_isRest_100 : decode cX8_isRest 100 = .ok (.istore 7, 2) := dk_54 7 (dk_at dksX8_isRest_4 8 rfl rfl)
theorem dX8_isRest_102 : decode cX8_isRest 102 = .ok (.iinc 8 1, 3) := dk_132 8 1 (dk_at dksX8_isRest_4 10 rfl rfl)
theorem dX8_isRest_105 : decode cX8_isRest 105 = .ok (.goto (-99), 3) := dk_167 255 157 (dk_at dksX8_isRest_4 13 rfl rfl)
theorem dX8_isRest_108 : decode cX8_isRest 108 = .ok (.iload 7, 2) := dk_21 7 (dk_at dksX8_isRest_4 16 rfl rfl)
theorem dX8_isRest_110 : decode cX8_isRest 110 = .ok (.ireturn, 1) := dk_172 (dk_at dksX8_isRest_4 18 rfl rfl)
abbrev cX8_guestWorth : ByteArray := prog_20_method_99_code
def yX8_guestWorth : MethodName := ⟨RX8, "guestWorth", "(III)I"⟩
def dkwX8_guestWorth_0 : List UInt8 := [28, 29, 160, 0, 7, 6, 167, 0, 5, 16, 9, 28, 42, 180, 0, 84, 27, 46, 100, 184, 2, 5, 100, 172]
abbrev dktX8_guestWorth_0 : List UInt8 := dkwX8_guestWorth_0 ++ []
theorem dksX8_guestWorth_0 : cX8_guestWorth.data.toList.drop 0 = dktX8_guestWorth_0 := by decide +kernel
theorem dX8_guestWorth_0 : decode cX8_guestWorth 0 = .ok (.iload_n 2, 1) := dk_28 (dk_at dksX8_guestWorth_0 0 rfl rfl)
theorem dX8_guestWorth_1 : decode cX8_guestWorth 1 = .ok (.iload_n 3, 1) := dk_29 (dk_at dksX8_guestWorth_0 1 rfl rfl)
theorem dX8_guestWorth_2 : decode cX8_guestWorth 2 = .ok (.if_icmp .ne 7, 3) := dk_160 0 7 (dk_at dksX8_guestWorth_0 2 rfl rfl)
theorem dX8_guestWorth_5 : decode cX8_guestWorth 5 = .ok (.iconst 3, 1) := dk_6 (dk_at dksX8_guestWorth_0 5 rfl rfl)
theorem dX8_guestWorth_6 : decode cX8_guestWorth 6 = .ok (.goto 5, 3) := dk_167 0 5 (dk_at dksX8_guestWorth_0 6 rfl rfl)
theorem dX8_guestWorth_9 : decode cX8_guestWorth 9 = .ok (.bipush 9, 2) := dk_16 9 (dk_at dksX8_guestWorth_0 9 rfl rfl)
theorem dX8_guestWorth_11 : decode cX8_guestWorth 11 = .ok (.iload_n 2, 1) := dk_28 (dk_at dksX8_guestWorth_0 11 rfl rfl)
theorem dX8_guestWorth_12 : decode cX8_guestWorth 12 = .ok (.aload_n 0, 1) := dk_42 (dk_at dksX8_guestWorth_0 12 rfl rfl)
theorem dX8_guestWorth_13 : decode cX8_guestWorth 13 = .ok (.getfield 84, 3) := dk_180 0 84 (dk_at dksX8_guestWorth_0 13 rfl rfl)
theorem dX8_guestWorth_16 : decode cX8_guestWorth 16 = .ok (.iload_n 1, 1) := dk_27 (dk_at dksX8_guestWorth_0 16 rfl rfl)
theorem dX8_guestWorth_17 : decode cX8_guestWorth 17 = .ok (.iaload, 1) := dk_46 (dk_at dksX8_guestWorth_0 17 rfl rfl)
theorem dX8_guestWorth_18 : decode cX8_guestWorth 18 = .ok (.isub, 1) := dk_100 (dk_at dksX8_guestWorth_0 18 rfl rfl)
theorem dX8_guestWorth_19 : decode cX8_guestWorth 19 = .ok (.invokestatic 517, 3) := dk_184 2 5 (dk_at dksX8_guestWorth_0 19 rfl rfl)
theorem dX8_guestWorth_22 : decode cX8_guestWorth 22 = .ok (.isub, 1) := dk_100 (dk_at dksX8_guestWorth_0 22 rfl rfl)
theorem dX8_guestWorth_23 : decode cX8_guestWorth 23 = .ok (.ireturn, 1) := dk_172 (dk_at dksX8_guestWorth_0 23 rfl rfl)
abbrev cX8_singe : ByteArray := prog_20_method_102_code
def yX8_singe : MethodName := ⟨RX8, "singe", "(I)I"⟩
def dkwX8_singe_2 : List UInt8 := [160, 0, 5, 28, 172, 132, 2, 1, 167, 255, 219, 2, 172]
abbrev dktX8_singe_2 : List UInt8 := dkwX8_singe_2 ++ []
def dkwX8_singe_1 : List UInt8 := [163, 0, 34, 42, 27, 3, 4, 4, 182, 1, 203, 62, 29, 5, 112, 4, 160, 0, 5, 2, 172, 29, 5]
abbrev dktX8_singe_1 : List UInt8 := dkwX8_singe_1 ++ dktX8_singe_2
def dkwX8_singe_0 : List UInt8 := [42, 27, 182, 1, 188, 154, 0, 5, 2, 172, 42, 182, 1, 191, 4, 61, 28, 42, 27, 182, 1, 218]
abbrev dktX8_singe_0 : List UInt8 := dkwX8_singe_0 ++ dktX8_singe_1
theorem dksX8_singe_0 : cX8_singe.data.toList.drop 0 = dktX8_singe_0 := by decide +kernel
theorem dksX8_singe_1 : cX8_singe.data.toList.drop 22 = dktX8_singe_1 := dk_seg dksX8_singe_0 22 rfl rfl
theorem dksX8_singe_2 : cX8_singe.data.toList.drop 45 = dktX8_singe_2 := dk_seg dksX8_singe_1 23 rfl rfl
theorem dX8_singe_0 : decode cX8_singe 0 = .ok (.aload_n 0, 1) := dk_42 (dk_at dksX8_singe_0 0 rfl rfl)
theorem dX8_singe_1 : decode cX8_singe 1 = .ok (.iload_n 1, 1) := dk_27 (dk_at dksX8_singe_0 1 rfl rfl)
theorem dX8_singe_2 : decode cX8_singe 2 = .ok (.invokevirtual 444, 3) := dk_182 1 188 (dk_at dksX8_singe_0 2 rfl rfl)
theorem dX8_singe_5 : decode cX8_singe 5 = .ok (.ifCond .ne 5, 3) := dk_154 0 5 (dk_at dksX8_singe_0 5 rfl rfl)
theorem dX8_singe_8 : decode cX8_singe 8 = .ok (.iconst (-1), 1) := dk_2 (dk_at dksX8_singe_0 8 rfl rfl)
theorem dX8_singe_9 : decode cX8_singe 9 = .ok (.ireturn, 1) := dk_172 (dk_at dksX8_singe_0 9 rfl rfl)
theorem dX8_singe_10 : decode cX8_singe 10 = .ok (.aload_n 0, 1) := dk_42 (dk_at dksX8_singe_0 10 rfl rfl)
theorem dX8_singe_11 : decode cX8_singe 11 = .ok (.invokevirtual 447, 3) := dk_182 1 191 (dk_at dksX8_singe_0 11 rfl rfl)
theorem dX8_singe_14 : decode cX8_singe 14 = .ok (.iconst 1, 1) := dk_4 (dk_at dksX8_singe_0 14 rfl rfl)
theorem dX8_singe_15 : decode cX8_singe 15 = .ok (.istore_n 2, 1) := dk_61 (dk_at dksX8_singe_0 15 rfl rfl)
theorem dX8_singe_16 : decode cX8_singe 16 = .ok (.iload_n 2, 1) := dk_28 (dk_at dksX8_singe_0 16 rfl rfl)
theorem dX8_singe_17 : decode cX8_singe 17 = .ok (.aload_n 0, 1) := dk_42 (dk_at dksX8_singe_0 17 rfl rfl)
theorem dX8_singe_18 : decode cX8_singe 18 = .ok (.iload_n 1, 1) := dk_27 (dk_at dksX8_singe_0 18 rfl rfl)
theorem dX8_singe_19 : decode cX8_singe 19 = .ok (.invokevirtual 474, 3) := dk_182 1 218 (dk_at dksX8_singe_0 19 rfl rfl)
theorem dX8_singe_22 : decode cX8_singe 22 = .ok (.if_icmp .gt 34, 3) := dk_163 0 34 (dk_at dksX8_singe_1 0 rfl rfl)
theorem dX8_singe_25 : decode cX8_singe 25 = .ok (.aload_n 0, 1) := dk_42 (dk_at dksX8_singe_1 3 rfl rfl)
theorem dX8_singe_26 : decode cX8_singe 26 = .ok (.iload_n 1, 1) := dk_27 (dk_at dksX8_singe_1 4 rfl rfl)
theorem dX8_singe_27 : decode cX8_singe 27 = .ok (.iconst 0, 1) := dk_3 (dk_at dksX8_singe_1 5 rfl rfl)
theorem dX8_singe_28 : decode cX8_singe 28 = .ok (.iconst 1, 1) := dk_4 (dk_at dksX8_singe_1 6 rfl rfl)
theorem dX8_singe_29 : decode cX8_singe 29 = .ok (.iconst 1, 1) := dk_4 (dk_at dksX8_singe_1 7 rfl rfl)
theorem dX8_singe_30 : decode cX8_singe 30 = .ok (.invokevirtual 459, 3) := dk_182 1 203 (dk_at dksX8_singe_1 8 rfl rfl)
theorem dX8_singe_33 : decode cX8_singe 33 = .ok (.istore_n 3, 1) := dk_62 (dk_at dksX8_singe_1 11 rfl rfl)
theorem dX8_singe_34 : decode cX8_singe 34 = .ok (.iload_n 3, 1) := dk_29 (dk_at dksX8_singe_1 12 rfl rfl)
theorem dX8_singe_35 : decode cX8_singe 35 = .ok (.iconst 2, 1) := dk_5 (dk_at dksX8_singe_1 13 rfl rfl)
theorem dX8_singe_36 : decode cX8_singe 36 = .ok (.irem, 1) := dk_112 (dk_at dksX8_singe_1 14 rfl rfl)
theorem dX8_singe_37 : decode cX8_singe 37 = .ok (.iconst 1, 1) := dk_4 (dk_at dksX8_singe_1 15 rfl rfl)
theorem dX8_singe_38 : decode cX8_singe 38 = .ok (.if_icmp .ne 5, 3) := dk_160 0 5 (dk_at dksX8_singe_1 16 rfl rfl)
theorem dX8_singe_41 : decode cX8_singe 41 = .ok (.iconst (-1), 1) := dk_2 (dk_at dksX8_singe_1 19 rfl rfl)
theorem dX8_singe_42 : decode cX8_singe 42 = .ok (.ireturn, 1) := dk_172 (dk_at dksX8_singe_1 20 rfl rfl)
theorem dX8_singe_43 : decode cX8_singe 43 = .ok (.iload_n 3, 1) := dk_29 (dk_at dksX8_singe_1 21 rfl rfl)
theorem dX8_singe_44 : decode cX8_singe 44 = .ok (.iconst 2, 1) := dk_5 (dk_at dksX8_singe_1 22 rfl rfl)
theorem dX8_singe_45 : decode cX8_singe 45 = .ok (.if_icmp .ne 5, 3) := dk_160 0 5 (dk_at dksX8_singe_2 0 rfl rfl)
theorem dX8_singe_48 : decode cX8_singe 48 = .ok (.iload_n 2, 1) := dk_28 (dk_at dksX8_singe_2 3 rfl rfl)
theorem dX8_singe_49 : decode cX8_singe 49 = .ok (.ireturn, 1) := dk_172 (dk_at dksX8_singe_2 4 rfl rfl)
theorem dX8_singe_50 : decode cX8_singe 50 = .ok (.iinc 2 1, 3) := dk_132 2 1 (dk_at dksX8_singe_2 5 rfl rfl)
theorem dX8_singe_53 : decode cX8_singe 53 = .ok (.goto (-37), 3) := dk_167 255 219 (dk_at dksX8_singe_2 8 rfl rfl)
theorem dX8_singe_56 : decode cX8_singe 56 = .ok (.iconst (-1), 1) := dk_2 (dk_at dksX8_singe_2 11 rfl rfl)
theorem dX8_singe_57 : decode cX8_singe 57 = .ok (.ireturn, 1) := dk_172 (dk_at dksX8_singe_2 12 rfl rfl)
abbrev cX8_odds : ByteArray := prog_20_method_105_code
def yX8_odds : MethodName := ⟨RX8, "odds", "(III)I"⟩
def dkwX8_odds_6 : List UInt8 := [154, 0, 11, 21, 5, 21, 7, 108, 167, 0, 8, 21, 6, 21, 7, 108, 172]
abbrev dktX8_odds_6 : List UInt8 := dkwX8_odds_6 ++ []
def dkwX8_odds_5 : List UInt8 := [167, 255, 197, 16, 100, 21, 4, 184, 1, 221, 54, 6, 21, 6, 21, 5, 184, 2, 30, 54, 7, 29]
abbrev dktX8_odds_5 : List UInt8 := dkwX8_odds_5 ++ dktX8_odds_6
def dkwX8_odds_4 : List UInt8 := [180, 1, 152, 100, 21, 4, 21, 6, 184, 2, 2, 100, 184, 1, 221, 104, 96, 54, 5, 132, 6, 1]
abbrev dktX8_odds_4 : List UInt8 := dkwX8_odds_4 ++ dktX8_odds_5
def dkwX8_odds_3 : List UInt8 := [182, 2, 27, 153, 0, 39, 21, 5, 42, 180, 1, 152, 21, 6, 184, 2, 2, 184, 1, 221, 16, 100, 42]
abbrev dktX8_odds_3 : List UInt8 := dkwX8_odds_3 ++ dktX8_odds_4
def dkwX8_odds_2 : List UInt8 := [54, 4, 3, 54, 5, 3, 54, 6, 21, 6, 4, 21, 4, 120, 162, 0, 56, 42, 27, 28, 21, 6]
abbrev dktX8_odds_2 : List UInt8 := dkwX8_odds_2 ++ dktX8_odds_3
def dkwX8_odds_1 : List UInt8 := [100, 184, 1, 170, 153, 0, 12, 29, 3, 4, 184, 1, 170, 154, 0, 5, 2, 172, 42, 27, 182, 1, 218]
abbrev dktX8_odds_1 : List UInt8 := dkwX8_odds_1 ++ dktX8_odds_2
def dkwX8_odds_0 : List UInt8 := [42, 27, 182, 1, 188, 153, 0, 35, 42, 27, 182, 1, 218, 7, 163, 0, 26, 28, 3, 42, 180, 0, 78, 4]
abbrev dktX8_odds_0 : List UInt8 := dkwX8_odds_0 ++ dktX8_odds_1
theorem dksX8_odds_0 : cX8_odds.data.toList.drop 0 = dktX8_odds_0 := by decide +kernel
theorem dksX8_odds_1 : cX8_odds.data.toList.drop 24 = dktX8_odds_1 := dk_seg dksX8_odds_0 24 rfl rfl
theorem dksX8_odds_2 : cX8_odds.data.toList.drop 47 = dktX8_odds_2 := dk_seg dksX8_odds_1 23 rfl rfl
theorem dksX8_odds_3 : cX8_odds.data.toList.drop 69 = dktX8_odds_3 := dk_seg dksX8_odds_2 22 rfl rfl
theorem dksX8_odds_4 : cX8_odds.data.toList.drop 92 = dktX8_odds_4 := dk_seg dksX8_odds_3 23 rfl rfl
theorem dksX8_odds_5 : cX8_odds.data.toList.drop 114 = dktX8_odds_5 := dk_seg dksX8_odds_4 22 rfl rfl
theorem dksX8_odds_6 : cX8_odds.data.toList.drop 136 = dktX8_odds_6 := dk_seg dksX8_odds_5 22 rfl rfl
theorem dX8_odds_0 : decode cX8_odds 0 = .ok (.aload_n 0, 1) := dk_42 (dk_at dksX8_odds_0 0 rfl rfl)
theorem dX8_odds_1 : decode cX8_odds 1 = .ok (.iload_n 1, 1) := dk_27 (dk_at dksX8_odds_0 1 rfl rfl)
theorem dX8_odds_2 : decode cX8_odds 2 = .ok (.invokevirtual 444, 3) := dk_182 1 188 (dk_at dksX8_odds_0 2 rfl rfl)
theorem dX8_odds_5 : decode cX8_odds 5 = .ok (.ifCond .eq 35, 3) := dk_153 0 35 (dk_at dksX8_odds_0 5 rfl rfl)
theorem dX8_odds_8 : decode cX8_odds 8 = .ok (.aload_n 0, 1) := dk_42 (dk_at dksX8_odds_0 8 rfl rfl)
theorem dX8_odds_9 : decode cX8_odds 9 = .ok (.iload_n 1, 1) := dk_27 (dk_at dksX8_odds_0 9 rfl rfl)
theorem dX8_odds_10 : decode cX8_odds 10 = .ok (.invokevirtual 474, 3) := dk_182 1 218 (dk_at dksX8_odds_0 10 rfl rfl)
theorem dX8_odds_13 : decode cX8_odds 13 = .ok (.iconst 4, 1) := dk_7 (dk_at dksX8_odds_0 13 rfl rfl)
theorem dX8_odds_14 : decode cX8_odds 14 = .ok (.if_icmp .gt 26, 3) := dk_163 0 26 (dk_at dksX8_odds_0 14 rfl rfl)
theorem dX8_odds_17 : decode cX8_odds 17 = .ok (.iload_n 2, 1) := dk_28 (dk_at dksX8_odds_0 17 rfl rfl)
theorem dX8_odds_18 : decode cX8_odds 18 = .ok (.iconst 0, 1) := dk_3 (dk_at dksX8_odds_0 18 rfl rfl)
theorem dX8_odds_19 : decode cX8_odds 19 = .ok (.aload_n 0, 1) := dk_42 (dk_at dksX8_odds_0 19 rfl rfl)
theorem dX8_odds_20 : decode cX8_odds 20 = .ok (.getfield 78, 3) := dk_180 0 78 (dk_at dksX8_odds_0 20 rfl rfl)
theorem dX8_odds_23 : decode cX8_odds 23 = .ok (.iconst 1, 1) := dk_4 (dk_at dksX8_odds_0 23 rfl rfl)
theorem dX8_odds_24 : decode cX8_odds 24 = .ok (.isub, 1) := dk_100 (dk_at dksX8_odds_1 0 rfl rfl)
theorem dX8_odds_25 : decode cX8_odds 25 = .ok (.invokestatic 426, 3) := dk_184 1 170 (dk_at dksX8_odds_1 1 rfl rfl)
theorem dX8_odds_28 : decode cX8_odds 28 = .ok (.ifCond .eq 12, 3) := dk_153 0 12 (dk_at dksX8_odds_1 4 rfl rfl)
theorem dX8_odds_31 : decode cX8_odds 31 = .ok (.iload_n 3, 1) := dk_29 (dk_at dksX8_odds_1 7 rfl rfl)
theorem dX8_odds_32 : decode cX8_odds 32 = .ok (.iconst 0, 1) := dk_3 (dk_at dksX8_odds_1 8 rfl rfl)
theorem dX8_odds_33 : decode cX8_odds 33 = .ok (.iconst 1, 1) := dk_4 (dk_at dksX8_odds_1 9 rfl rfl)
theorem dX8_odds_34 : decode cX8_odds 34 = .ok (.invokestatic 426, 3) := dk_184 1 170 (dk_at dksX8_odds_1 10 rfl rfl)
theorem dX8_odds_37 : decode cX8_odds 37 = .ok (.ifCond .ne 5, 3) := dk_154 0 5 (dk_at dksX8_odds_1 13 rfl rfl)
theorem dX8_odds_40 : decode cX8_odds 40 = .ok (.iconst (-1), 1) := dk_2 (dk_at dksX8_odds_1 16 rfl rfl)
theorem dX8_odds_41 : decode cX8_odds 41 = .ok (.ireturn, 1) := dk_172 (dk_at dksX8_odds_1 17 rfl rfl)
theorem dX8_odds_42 : decode cX8_odds 42 = .ok (.aload_n 0, 1) := dk_42 (dk_at dksX8_odds_1 18 rfl rfl)
theorem dX8_odds_43 : decode cX8_odds 43 = .ok (.iload_n 1, 1) := dk_27 (dk_at dksX8_odds_1 19 rfl rfl)
theorem dX8_odds_44 : decode cX8_odds 44 = .ok (.invokevirtual 474, 3) := dk_182 1 218 (dk_at dksX8_odds_1 20 rfl rfl)
theorem dX8_odds_47 : decode cX8_odds 47 = .ok (.istore 4, 2) := dk_54 4 (dk_at dksX8_odds_2 0 rfl rfl)
theorem dX8_odds_49 : decode cX8_odds 49 = .ok (.iconst 0, 1) := dk_3 (dk_at dksX8_odds_2 2 rfl rfl)
theorem dX8_odds_50 : decode cX8_odds 50 = .ok (.istore 5, 2) := dk_54 5 (dk_at dksX8_odds_2 3 rfl rfl)
theorem dX8_odds_52 : decode cX8_odds 52 = .ok (.iconst 0, 1) := dk_3 (dk_at dksX8_odds_2 5 rfl rfl)
theorem dX8_odds_53 : decode cX8_odds 53 = .ok (.istore 6, 2) := dk_54 6 (dk_at dksX8_odds_2 6 rfl rfl)
theorem dX8_odds_55 : decode cX8_odds 55 = .ok (.iload 6, 2) := dk_21 6 (dk_at dksX8_odds_2 8 rfl rfl)
theorem dX8_odds_57 : decode cX8_odds 57 = .ok (.iconst 1, 1) := dk_4 (dk_at dksX8_odds_2 10 rfl rfl)
theorem dX8_odds_58 : decode cX8_odds 58 = .ok (.iload 4, 2) := dk_21 4 (dk_at dksX8_odds_2 11 rfl rfl)
theorem dX8_odds_60 : decode cX8_odds 60 = .ok (.ishl, 1) := dk_120 (dk_at dksX8_odds_2 13 rfl rfl)
theorem dX8_odds_61 : decode cX8_odds 61 = .ok (.if_icmp .ge 56, 3) := dk_162 0 56 (dk_at dksX8_odds_2 14 rfl rfl)
theorem dX8_odds_64 : decode cX8_odds 64 = .ok (.aload_n 0, 1) := dk_42 (dk_at dksX8_odds_2 17 rfl rfl)
theorem dX8_odds_65 : decode cX8_odds 65 = .ok (.iload_n 1, 1) := dk_27 (dk_at dksX8_odds_2 18 rfl rfl)
theorem dX8_odds_66 : decode cX8_odds 66 = .ok (.iload_n 2, 1) := dk_28 (dk_at dksX8_odds_2 19 rfl rfl)
theorem dX8_odds_67 : decode cX8_odds 67 = .ok (.iload 6, 2) := dk_21 6 (dk_at dksX8_odds_2 20 rfl rfl)
theorem dX8_odds_69 : decode cX8_odds 69 = .ok (.invokevirtual 539, 3) := dk_182 2 27 (dk_at dksX8_odds_3 0 rfl rfl)
theorem dX8_odds_72 : decode cX8_odds 72 = .ok (.ifCond .eq 39, 3) := dk_153 0 39 (dk_at dksX8_odds_3 3 rfl rfl)
theorem dX8_odds_75 : decode cX8_odds 75 = .ok (.iload 5, 2) := dk_21 5 (dk_at dksX8_odds_3 6 rfl rfl)
theorem dX8_odds_77 : decode cX8_odds 77 = .ok (.aload_n 0, 1) := dk_42 (dk_at dksX8_odds_3 8 rfl rfl)
theorem dX8_odds_78 : decode cX8_odds 78 = .ok (.getfield 408, 3) := dk_180 1 152 (dk_at dksX8_odds_3 9 rfl rfl)
theorem dX8_odds_81 : decode cX8_odds 81 = .ok (.iload 6, 2) := dk_21 6 (dk_at dksX8_odds_3 12 rfl rfl)
theorem dX8_odds_83 : decode cX8_odds 83 = .ok (.invokestatic 514, 3) := dk_184 2 2 (dk_at dksX8_odds_3 14 rfl rfl)
theorem dX8_odds_86 : decode cX8_odds 86 = .ok (.invokestatic 477, 3) := dk_184 1 221 (dk_at dksX8_odds_3 17 rfl rfl)
theorem dX8_odds_89 : decode cX8_odds 89 = .ok (.bipush 100, 2) := dk_16 100 (dk_at dksX8_odds_3 20 rfl rfl)
theorem dX8_odds_91 : decode cX8_odds 91 = .ok (.aload_n 0, 1) := dk_42 (dk_at dksX8_odds_3 22 rfl rfl)
theorem dX8_odds_92 : decode cX8_odds 92 = .ok (.getfield 408, 3) := dk_180 1 152 (dk_at dksX8_odds_4 0 rfl rfl)
theorem dX8_odds_95 : decode cX8_odds 95 = .ok (.isub, 1) := dk_100 (dk_at dksX8_odds_4 3 rfl rfl)
theorem dX8_odds_96 : decode cX8_odds 96 = .ok (.iload 4, 2) := dk_21 4 (dk_at dksX8_odds_4 4 rfl rfl)
theorem dX8_odds_98 : decode cX8_odds 98 = .ok (.iload 6, 2) := dk_21 6 (dk_at dksX8_odds_4 6 rfl rfl)
theorem dX8_odds_100 : decode cX8_odds 100 = .ok (.invokestatic 514, 3) := dk_184 2 2 (dk_at dksX8_odds_4 8 rfl rfl)
theorem dX8_odds_103 : decode cX8_odds 103 = .ok (.isub, 1) := dk_100 (dk_at dksX8_odds_4 11 rfl rfl)
theorem dX8_odds_104 : decode cX8_odds 104 = .ok (.invokestatic 477, 3) := dk_184 1 221 (dk_at dksX8_odds_4 12 rfl rfl)
theorem dX8_odds_107 : decode cX8_odds 107 = .ok (.imul, 1) := dk_104 (dk_at dksX8_odds_4 15 rfl rfl)
theorem dX8_odds_108 : decode cX8_odds 108 = .ok (.iadd, 1) := dk_96 (dk_at dksX8_odds_4 16 rfl rfl)
theorem dX8_odds_109 : decode cX8_odds 109 = .ok (.istore 5, 2) := dk_54 5 (dk_at dksX8_odds_4 17 rfl rfl)
theorem dX8_odds_111 : decode cX8_odds 111 = .ok (.iinc 6 1, 3) := dk_132 6 1 (dk_at dksX8_odds_4 19 rfl rfl)
theorem dX8_odds_114 : decode cX8_odds 114 = .ok (.goto (-59), 3) := dk_167 255 197 (dk_at dksX8_odds_5 0 rfl rfl)
theorem dX8_odds_117 : decode cX8_odds 117 = .ok (.bipush 100, 2) := dk_16 100 (dk_at dksX8_odds_5 3 rfl rfl)
theorem dX8_odds_119 : decode cX8_odds 119 = .ok (.iload 4, 2) := dk_21 4 (dk_at dksX8_odds_5 5 rfl rfl)
theorem dX8_odds_121 : decode cX8_odds 121 = .ok (.invokestatic 477, 3) := dk_184 1 221 (dk_at dksX8_odds_5 7 rfl rfl)
theorem dX8_odds_124 : decode cX8_odds 124 = .ok (.istore 6, 2) := dk_54 6 (dk_at dksX8_odds_5 10 rfl rfl)
theorem dX8_odds_126 : decode cX8_odds 126 = .ok (.iload 6, 2) := dk_21 6 (dk_at dksX8_odds_5 12 rfl rfl)
theorem dX8_odds_128 : decode cX8_odds 128 = .ok (.iload 5, 2) := dk_21 5 (dk_at dksX8_odds_5 14 rfl rfl)
theorem dX8_odds_130 : decode cX8_odds 130 = .ok (.invokestatic 542, 3) := dk_184 2 30 (dk_at dksX8_odds_5 16 rfl rfl)
theorem dX8_odds_133 : decode cX8_odds 133 = .ok (.istore 7, 2) := dk_54 7 (dk_at dksX8_odds_5 19 rfl rfl)
theorem dX8_odds_135 : decode cX8_odds 135 = .ok (.iload_n 3, 1) := dk_29 (dk_at dksX8_odds_5 21 rfl rfl)
theorem dX8_odds_136 : decode cX8_odds 136 = .ok (.ifCond .ne 11, 3) := dk_154 0 11 (dk_at dksX8_odds_6 0 rfl rfl)
theorem dX8_odds_139 : decode cX8_odds 139 = .ok (.iload 5, 2) := dk_21 5 (dk_at dksX8_odds_6 3 rfl rfl)
theorem dX8_odds_141 : decode cX8_odds 141 = .ok (.iload 7, 2) := dk_21 7 (dk_at dksX8_odds_6 5 rfl rfl)
theorem dX8_odds_143 : decode cX8_odds 143 = .ok (.idiv, 1) := dk_108 (dk_at dksX8_odds_6 7 rfl rfl)
theorem dX8_odds_144 : decode cX8_odds 144 = .ok (.goto 8, 3) := dk_167 0 8 (dk_at dksX8_odds_6 8 rfl rfl)
theorem dX8_odds_147 : decode cX8_odds 147 = .ok (.iload 6, 2) := dk_21 6 (dk_at dksX8_odds_6 11 rfl rfl)
theorem dX8_odds_149 : decode cX8_odds 149 = .ok (.iload 7, 2) := dk_21 7 (dk_at dksX8_odds_6 13 rfl rfl)
theorem dX8_odds_151 : decode cX8_odds 151 = .ok (.idiv, 1) := dk_108 (dk_at dksX8_odds_6 15 rfl rfl)
theorem dX8_odds_152 : decode cX8_odds 152 = .ok (.ireturn, 1) := dk_172 (dk_at dksX8_odds_6 16 rfl rfl)
abbrev cX8_landsBy : ByteArray := prog_20_method_104_code
def yX8_landsBy : MethodName := ⟨RX8, "landsBy", "(III)Z"⟩
def dkwX8_landsBy_3 : List UInt8 := [160, 0, 7, 4, 167, 0, 4, 3, 172]
abbrev dktX8_landsBy_3 : List UInt8 := dkwX8_landsBy_3 ++ []
def dkwX8_landsBy_2 : List UInt8 := [167, 0, 4, 3, 54, 4, 132, 5, 1, 167, 255, 211, 21, 4, 153, 0, 17, 42, 180, 0, 87, 27, 46, 28]
abbrev dktX8_landsBy_2 : List UInt8 := dkwX8_landsBy_2 ++ dktX8_landsBy_3
def dkwX8_landsBy_1 : List UInt8 := [153, 0, 36, 42, 27, 3, 4, 4, 29, 21, 5, 122, 4, 126, 96, 182, 1, 203, 5, 112, 154, 0, 7, 4]
abbrev dktX8_landsBy_1 : List UInt8 := dkwX8_landsBy_1 ++ dktX8_landsBy_2
def dkwX8_landsBy_0 : List UInt8 := [42, 182, 1, 191, 4, 54, 4, 3, 54, 5, 21, 5, 42, 27, 182, 1, 218, 162, 0, 41, 21, 4]
abbrev dktX8_landsBy_0 : List UInt8 := dkwX8_landsBy_0 ++ dktX8_landsBy_1
theorem dksX8_landsBy_0 : cX8_landsBy.data.toList.drop 0 = dktX8_landsBy_0 := by decide +kernel
theorem dksX8_landsBy_1 : cX8_landsBy.data.toList.drop 22 = dktX8_landsBy_1 := dk_seg dksX8_landsBy_0 22 rfl rfl
theorem dksX8_landsBy_2 : cX8_landsBy.data.toList.drop 46 = dktX8_landsBy_2 := dk_seg dksX8_landsBy_1 24 rfl rfl
theorem dksX8_landsBy_3 : cX8_landsBy.data.toList.drop 70 = dktX8_landsBy_3 := dk_seg dksX8_landsBy_2 24 rfl rfl
theorem dX8_landsBy_0 : decode cX8_landsBy 0 = .ok (.aload_n 0, 1) := dk_42 (dk_at dksX8_landsBy_0 0 rfl rfl)
theorem dX8_landsBy_1 : decode cX8_landsBy 1 = .ok (.invokevirtual 447, 3) := dk_182 1 191 (dk_at dksX8_landsBy_0 1 rfl rfl)
theorem dX8_landsBy_4 : decode cX8_landsBy 4 = .ok (.iconst 1, 1) := dk_4 (dk_at dksX8_landsBy_0 4 rfl rfl)
theorem dX8_landsBy_5 : decode cX8_landsBy 5 = .ok (.istore 4, 2) := dk_54 4 (dk_at dksX8_landsBy_0 5 rfl rfl)
theorem dX8_landsBy_7 : decode cX8_landsBy 7 = .ok (.iconst 0, 1) := dk_3 (dk_at dksX8_landsBy_0 7 rfl rfl)
theorem dX8_landsBy_8 : decode cX8_landsBy 8 = .ok (.istore 5, 2) := dk_54 5 (dk_at dksX8_landsBy_0 8 rfl rfl)
theorem dX8_landsBy_10 : decode cX8_landsBy 10 = .ok (.iload 5, 2) := dk_21 5 (dk_at dksX8_landsBy_0 10 rfl rfl)
theorem dX8_landsBy_12 : decode cX8_landsBy 12 = .ok (.aload_n 0, 1) := dk_42 (dk_at dksX8_landsBy_0 12 rfl rfl)
theorem dX8_landsBy_13 : decode cX8_landsBy 13 = .ok (.iload_n 1, 1) := dk_27 (dk_at dksX8_landsBy_0 13 rfl rfl)
theorem dX8_landsBy_14 : decode cX8_landsBy 14 = .ok (.invokevirtual 474, 3) := dk_182 1 218 (dk_at dksX8_landsBy_0 14 rfl rfl)
theorem dX8_landsBy_17 : decode cX8_landsBy 17 = .ok (.if_icmp .ge 41, 3) := dk_162 0 41 (dk_at dksX8_landsBy_0 17 rfl rfl)
theorem dX8_landsBy_20 : decode cX8_landsBy 20 = .ok (.iload 4, 2) := dk_21 4 (dk_at dksX8_landsBy_0 20 rfl rfl)
theorem dX8_landsBy_22 : decode cX8_landsBy 22 = .ok (.ifCond .eq 36, 3) := dk_153 0 36 (dk_at dksX8_landsBy_1 0 rfl rfl)
theorem dX8_landsBy_25 : decode cX8_landsBy 25 = .ok (.aload_n 0, 1) := dk_42 (dk_at dksX8_landsBy_1 3 rfl rfl)
theorem dX8_landsBy_26 : decode cX8_landsBy 26 = .ok (.iload_n 1, 1) := dk_27 (dk_at dksX8_landsBy_1 4 rfl rfl)
theorem dX8_landsBy_27 : decode cX8_landsBy 27 = .ok (.iconst 0, 1) := dk_3 (dk_at dksX8_landsBy_1 5 rfl rfl)
theorem dX8_landsBy_28 : decode cX8_landsBy 28 = .ok (.iconst 1, 1) := dk_4 (dk_at dksX8_landsBy_1 6 rfl rfl)
theorem dX8_landsBy_29 : decode cX8_landsBy 29 = .ok (.iconst 1, 1) := dk_4 (dk_at dksX8_landsBy_1 7 rfl rfl)
theorem dX8_landsBy_30 : decode cX8_landsBy 30 = .ok (.iload_n 3, 1) := dk_29 (dk_at dksX8_landsBy_1 8 rfl rfl)
theorem dX8_landsBy_31 : decode cX8_landsBy 31 = .ok (.iload 5, 2) := dk_21 5 (dk_at dksX8_landsBy_1 9 rfl rfl)
theorem dX8_landsBy_33 : decode cX8_landsBy 33 = .ok (.ishr, 1) := dk_122 (dk_at dksX8_landsBy_1 11 rfl rfl)
theorem dX8_landsBy_34 : decode cX8_landsBy 34 = .ok (.iconst 1, 1) := dk_4 (dk_at dksX8_landsBy_1 12 rfl rfl)
theorem dX8_landsBy_35 : decode cX8_landsBy 35 = .ok (.iand, 1) := dk_126 (dk_at dksX8_landsBy_1 13 rfl rfl)
theorem dX8_landsBy_36 : decode cX8_landsBy 36 = .ok (.iadd, 1) := dk_96 (dk_at dksX8_landsBy_1 14 rfl rfl)
theorem dX8_landsBy_37 : decode cX8_landsBy 37 = .ok (.invokevirtual 459, 3) := dk_182 1 203 (dk_at dksX8_landsBy_1 15 rfl rfl)
theorem dX8_landsBy_40 : decode cX8_landsBy 40 = .ok (.iconst 2, 1) := dk_5 (dk_at dksX8_landsBy_1 18 rfl rfl)
theorem dX8_landsBy_41 : decode cX8_landsBy 41 = .ok (.irem, 1) := dk_112 (dk_at dksX8_landsBy_1 19 rfl rfl)
theorem dX8_landsBy_42 : decode cX8_landsBy 42 = .ok (.ifCond .ne 7, 3) := dk_154 0 7 (dk_at dksX8_landsBy_1 20 rfl rfl)
theorem dX8_landsBy_45 : decode cX8_landsBy 45 = .ok (.iconst 1, 1) := dk_4 (dk_at dksX8_landsBy_1 23 rfl rfl)
theorem dX8_landsBy_46 : decode cX8_landsBy 46 = .ok (.goto 4, 3) := dk_167 0 4 (dk_at dksX8_landsBy_2 0 rfl rfl)
theorem dX8_landsBy_49 : decode cX8_landsBy 49 = .ok (.iconst 0, 1) := dk_3 (dk_at dksX8_landsBy_2 3 rfl rfl)
theorem dX8_landsBy_50 : decode cX8_landsBy 50 = .ok (.istore 4, 2) := dk_54 4 (dk_at dksX8_landsBy_2 4 rfl rfl)
theorem dX8_landsBy_52 : decode cX8_landsBy 52 = .ok (.iinc 5 1, 3) := dk_132 5 1 (dk_at dksX8_landsBy_2 6 rfl rfl)
theorem dX8_landsBy_55 : decode cX8_landsBy 55 = .ok (.goto (-45), 3) := dk_167 255 211 (dk_at dksX8_landsBy_2 9 rfl rfl)
theorem dX8_landsBy_58 : decode cX8_landsBy 58 = .ok (.iload 4, 2) := dk_21 4 (dk_at dksX8_landsBy_2 12 rfl rfl)
theorem dX8_landsBy_60 : decode cX8_landsBy 60 = .ok (.ifCond .eq 17, 3) := dk_153 0 17 (dk_at dksX8_landsBy_2 14 rfl rfl)
theorem dX8_landsBy_63 : decode cX8_landsBy 63 = .ok (.aload_n 0, 1) := dk_42 (dk_at dksX8_landsBy_2 17 rfl rfl)
theorem dX8_landsBy_64 : decode cX8_landsBy 64 = .ok (.getfield 87, 3) := dk_180 0 87 (dk_at dksX8_landsBy_2 18 rfl rfl)
theorem dX8_landsBy_67 : decode cX8_landsBy 67 = .ok (.iload_n 1, 1) := dk_27 (dk_at dksX8_landsBy_2 21 rfl rfl)
theorem dX8_landsBy_68 : decode cX8_landsBy 68 = .ok (.iaload, 1) := dk_46 (dk_at dksX8_landsBy_2 22 rfl rfl)
theorem dX8_landsBy_69 : decode cX8_landsBy 69 = .ok (.iload_n 2, 1) := dk_28 (dk_at dksX8_landsBy_2 23 rfl rfl)
theorem dX8_landsBy_70 : decode cX8_landsBy 70 = .ok (.if_icmp .ne 7, 3) := dk_160 0 7 (dk_at dksX8_landsBy_3 0 rfl rfl)
theorem dX8_landsBy_73 : decode cX8_landsBy 73 = .ok (.iconst 1, 1) := dk_4 (dk_at dksX8_landsBy_3 3 rfl rfl)
theorem dX8_landsBy_74 : decode cX8_landsBy 74 = .ok (.goto 4, 3) := dk_167 0 4 (dk_at dksX8_landsBy_3 4 rfl rfl)
theorem dX8_landsBy_77 : decode cX8_landsBy 77 = .ok (.iconst 0, 1) := dk_3 (dk_at dksX8_landsBy_3 7 rfl rfl)
theorem dX8_landsBy_78 : decode cX8_landsBy 78 = .ok (.ireturn, 1) := dk_172 (dk_at dksX8_landsBy_3 8 rfl rfl)
abbrev cX8_divisor : ByteArray := prog_20_method_103_code
def yX8_divisor : MethodName := ⟨RX8, "diviso\x72", "(II)I"⟩
def dkwX8_divisor_0 : List UInt8 := [26, 61, 27, 62, 29, 158, 0, 16, 28, 29, 112, 54, 4, 29, 61, 21, 4, 62, 167, 255, 242, 28, 172]
abbrev dktX8_divisor_0 : List UInt8 := dkwX8_divisor_0 ++ []
theorem dksX8_divisor_0 : cX8_divisor.data.toList.drop 0 = dktX8_divisor_0 := by decide +kernel
theorem dX8_divisor_0 : decode cX8_divisor 0 = .ok (.iload_n 0, 1) := dk_26 (dk_at dksX8_divisor_0 0 rfl rfl)
theorem dX8_divisor_1 : decode cX8_divisor 1 = .ok (.istore_n 2, 1) := dk_61 (dk_at dksX8_divisor_0 1 rfl rfl)
theorem dX8_divisor_2 : decode cX8_divisor 2 = .ok (.iload_n 1, 1) := dk_27 (dk_at dksX8_divisor_0 2 rfl rfl)
theorem dX8_divisor_3 : decode cX8_divisor 3 = .ok (.istore_n 3, 1) := dk_62 (dk_at dksX8_divisor_0 3 rfl rfl)
theorem dX8_divisor_4 : decode cX8_divisor 4 = .ok (.iload_n 3, 1) := dk_29 (dk_at dksX8_divisor_0 4 rfl rfl)
theorem dX8_divisor_5 : decode cX8_divisor 5 = .ok (.ifCond .le 16, 3) := dk_158 0 16 (dk_at dksX8_divisor_0 5 rfl rfl)
theorem dX8_divisor_8 : decode cX8_divisor 8 = .ok (.iload_n 2, 1) := dk_28 (dk_at dksX8_divisor_0 8 rfl rfl)
theorem dX8_divisor_9 : decode cX8_divisor 9 = .ok (.iload_n 3, 1) := dk_29 (dk_at dksX8_divisor_0 9 rfl rfl)
theorem dX8_divisor_10 : decode cX8_divisor 10 = .ok (.irem, 1) := dk_112 (dk_at dksX8_divisor_0 10 rfl rfl)
theorem dX8_divisor_11 : decode cX8_divisor 11 = .ok (.istore 4, 2) := dk_54 4 (dk_at dksX8_divisor_0 11 rfl rfl)
theorem dX8_divisor_13 : decode cX8_divisor 13 = .ok (.iload_n 3, 1) := dk_29 (dk_at dksX8_divisor_0 13 rfl rfl)
theorem dX8_divisor_14 : decode cX8_divisor 14 = .ok (.istore_n 2, 1) := dk_61 (dk_at dksX8_divisor_0 14 rfl rfl)
theorem dX8_divisor_15 : decode cX8_divisor 15 = .ok (.iload 4, 2) := dk_21 4 (dk_at dksX8_divisor_0 15 rfl rfl)
theorem dX8_divisor_17 : decode cX8_divisor 17 = .ok (.istore_n 3, 1) := dk_62 (dk_at dksX8_divisor_0 17 rfl rfl)
theorem dX8_divisor_18 : decode cX8_divisor 18 = .ok (.goto (-14), 3) := dk_167 255 242 (dk_at dksX8_divisor_0 18 rfl rfl)
theorem dX8_divisor_21 : decode cX8_divisor 21 = .ok (.iload_n 2, 1) := dk_28 (dk_at dksX8_divisor_0 21 rfl rfl)
theorem dX8_divisor_22 : decode cX8_divisor 22 = .ok (.ireturn, 1) := dk_172 (dk_at dksX8_divisor_0 22 rfl rfl)
abbrev cX8_over : ByteArray := prog_20_method_106_code
def yX8_over : MethodName := ⟨RX8, "ove\x72", "()I"⟩
def dkwX8_over_0 : List UInt8 := [42, 182, 1, 191, 42, 16, 254, 182, 1, 194, 172]
abbrev dktX8_over_0 : List UInt8 := dkwX8_over_0 ++ []
theorem dksX8_over_0 : cX8_over.data.toList.drop 0 = dktX8_over_0 := by decide +kernel
theorem dX8_over_0 : decode cX8_over 0 = .ok (.aload_n 0, 1) := dk_42 (dk_at dksX8_over_0 0 rfl rfl)
theorem dX8_over_1 : decode cX8_over 1 = .ok (.invokevirtual 447, 3) := dk_182 1 191 (dk_at dksX8_over_0 1 rfl rfl)
theorem dX8_over_4 : decode cX8_over 4 = .ok (.aload_n 0, 1) := dk_42 (dk_at dksX8_over_0 4 rfl rfl)
theorem dX8_over_5 : decode cX8_over 5 = .ok (.bipush (-2), 2) := dk_16 254 (dk_at dksX8_over_0 5 rfl rfl)
theorem dX8_over_7 : decode cX8_over 7 = .ok (.invokevirtual 450, 3) := dk_182 1 194 (dk_at dksX8_over_0 7 rfl rfl)
theorem dX8_over_10 : decode cX8_over 10 = .ok (.ireturn, 1) := dk_172 (dk_at dksX8_over_0 10 rfl rfl)
abbrev cX8_left : ByteArray := prog_20_method_107_code
def yX8_left : MethodName := ⟨RX8, "left", "()I"⟩
def dkwX8_left_1 : List UInt8 := [182, 1, 240, 172]
abbrev dktX8_left_1 : List UInt8 := dkwX8_left_1 ++ []
def dkwX8_left_0 : List UInt8 := [42, 182, 1, 191, 42, 4, 42, 180, 1, 65, 120, 4, 100, 42, 16, 254, 182, 1, 194, 2, 130, 126]
abbrev dktX8_left_0 : List UInt8 := dkwX8_left_0 ++ dktX8_left_1
theorem dksX8_left_0 : cX8_left.data.toList.drop 0 = dktX8_left_0 := by decide +kernel
theorem dksX8_left_1 : cX8_left.data.toList.drop 22 = dktX8_left_1 := dk_seg dksX8_left_0 22 rfl rfl
theorem dX8_left_0 : decode cX8_left 0 = .ok (.aload_n 0, 1) := dk_42 (dk_at dksX8_left_0 0 rfl rfl)
theorem dX8_left_1 : decode cX8_left 1 = .ok (.invokevirtual 447, 3) := dk_182 1 191 (dk_at dksX8_left_0 1 rfl rfl)
theorem dX8_left_4 : decode cX8_left 4 = .ok (.aload_n 0, 1) := dk_42 (dk_at dksX8_left_0 4 rfl rfl)
theorem dX8_left_5 : decode cX8_left 5 = .ok (.iconst 1, 1) := dk_4 (dk_at dksX8_left_0 5 rfl rfl)
theorem dX8_left_6 : decode cX8_left 6 = .ok (.aload_n 0, 1) := dk_42 (dk_at dksX8_left_0 6 rfl rfl)
theorem dX8_left_7 : decode cX8_left 7 = .ok (.getfield 321, 3) := dk_180 1 65 (dk_at dksX8_left_0 7 rfl rfl)
theorem dX8_left_10 : decode cX8_left 10 = .ok (.ishl, 1) := dk_120 (dk_at dksX8_left_0 10 rfl rfl)
theorem dX8_left_11 : decode cX8_left 11 = .ok (.iconst 1, 1) := dk_4 (dk_at dksX8_left_0 11 rfl rfl)
theorem dX8_left_12 : decode cX8_left 12 = .ok (.isub, 1) := dk_100 (dk_at dksX8_left_0 12 rfl rfl)
theorem dX8_left_13 : decode cX8_left 13 = .ok (.aload_n 0, 1) := dk_42 (dk_at dksX8_left_0 13 rfl rfl)
theorem dX8_left_14 : decode cX8_left 14 = .ok (.bipush (-2), 2) := dk_16 254 (dk_at dksX8_left_0 14 rfl rfl)
theorem dX8_left_16 : decode cX8_left 16 = .ok (.invokevirtual 450, 3) := dk_182 1 194 (dk_at dksX8_left_0 16 rfl rfl)
theorem dX8_left_19 : decode cX8_left 19 = .ok (.iconst (-1), 1) := dk_2 (dk_at dksX8_left_0 19 rfl rfl)
theorem dX8_left_20 : decode cX8_left 20 = .ok (.ixor, 1) := dk_130 (dk_at dksX8_left_0 20 rfl rfl)
theorem dX8_left_21 : decode cX8_left 21 = .ok (.iand, 1) := dk_126 (dk_at dksX8_left_0 21 rfl rfl)
theorem dX8_left_22 : decode cX8_left 22 = .ok (.invokevirtual 496, 3) := dk_182 1 240 (dk_at dksX8_left_1 0 rfl rfl)
theorem dX8_left_25 : decode cX8_left 25 = .ok (.ireturn, 1) := dk_172 (dk_at dksX8_left_1 3 rfl rfl)
abbrev cX8_pulled : ByteArray := prog_20_method_108_code
def yX8_pulled : MethodName := ⟨RX8, "pulled", "()I"⟩
def dkwX8_pulled_2 : List UInt8 := [132, 2, 1, 167, 255, 211, 27, 172]
abbrev dktX8_pulled_2 : List UInt8 := dkwX8_pulled_2 ++ []
def dkwX8_pulled_1 : List UInt8 := [7, 28, 96, 46, 182, 1, 174, 158, 0, 7, 4, 167, 0, 4, 3, 184, 1, 61, 28, 120, 128, 60]
abbrev dktX8_pulled_1 : List UInt8 := dkwX8_pulled_1 ++ dktX8_pulled_2
def dkwX8_pulled_0 : List UInt8 := [3, 60, 3, 61, 28, 42, 180, 1, 149, 162, 0, 43, 27, 42, 42, 180, 0, 84, 28, 46, 42, 180, 0, 84]
abbrev dktX8_pulled_0 : List UInt8 := dkwX8_pulled_0 ++ dktX8_pulled_1
theorem dksX8_pulled_0 : cX8_pulled.data.toList.drop 0 = dktX8_pulled_0 := by decide +kernel
theorem dksX8_pulled_1 : cX8_pulled.data.toList.drop 24 = dktX8_pulled_1 := dk_seg dksX8_pulled_0 24 rfl rfl
theorem dksX8_pulled_2 : cX8_pulled.data.toList.drop 46 = dktX8_pulled_2 := dk_seg dksX8_pulled_1 22 rfl rfl
theorem dX8_pulled_0 : decode cX8_pulled 0 = .ok (.iconst 0, 1) := dk_3 (dk_at dksX8_pulled_0 0 rfl rfl)
theorem dX8_pulled_1 : decode cX8_pulled 1 = .ok (.istore_n 1, 1) := dk_60 (dk_at dksX8_pulled_0 1 rfl rfl)
theorem dX8_pulled_2 : decode cX8_pulled 2 = .ok (.iconst 0, 1) := dk_3 (dk_at dksX8_pulled_0 2 rfl rfl)
theorem dX8_pulled_3 : decode cX8_pulled 3 = .ok (.istore_n 2, 1) := dk_61 (dk_at dksX8_pulled_0 3 rfl rfl)
theorem dX8_pulled_4 : decode cX8_pulled 4 = .ok (.iload_n 2, 1) := dk_28 (dk_at dksX8_pulled_0 4 rfl rfl)
theorem dX8_pulled_5 : decode cX8_pulled 5 = .ok (.aload_n 0, 1) := dk_42 (dk_at dksX8_pulled_0 5 rfl rfl)
theorem dX8_pulled_6 : decode cX8_pulled 6 = .ok (.getfield 405, 3) := dk_180 1 149 (dk_at dksX8_pulled_0 6 rfl rfl)
theorem dX8_pulled_9 : decode cX8_pulled 9 = .ok (.if_icmp .ge 43, 3) := dk_162 0 43 (dk_at dksX8_pulled_0 9 rfl rfl)
theorem dX8_pulled_12 : decode cX8_pulled 12 = .ok (.iload_n 1, 1) := dk_27 (dk_at dksX8_pulled_0 12 rfl rfl)
theorem dX8_pulled_13 : decode cX8_pulled 13 = .ok (.aload_n 0, 1) := dk_42 (dk_at dksX8_pulled_0 13 rfl rfl)
theorem dX8_pulled_14 : decode cX8_pulled 14 = .ok (.aload_n 0, 1) := dk_42 (dk_at dksX8_pulled_0 14 rfl rfl)
theorem dX8_pulled_15 : decode cX8_pulled 15 = .ok (.getfield 84, 3) := dk_180 0 84 (dk_at dksX8_pulled_0 15 rfl rfl)
theorem dX8_pulled_18 : decode cX8_pulled 18 = .ok (.iload_n 2, 1) := dk_28 (dk_at dksX8_pulled_0 18 rfl rfl)
theorem dX8_pulled_19 : decode cX8_pulled 19 = .ok (.iaload, 1) := dk_46 (dk_at dksX8_pulled_0 19 rfl rfl)
theorem dX8_pulled_20 : decode cX8_pulled 20 = .ok (.aload_n 0, 1) := dk_42 (dk_at dksX8_pulled_0 20 rfl rfl)
theorem dX8_pulled_21 : decode cX8_pulled 21 = .ok (.getfield 84, 3) := dk_180 0 84 (dk_at dksX8_pulled_0 21 rfl rfl)
theorem dX8_pulled_24 : decode cX8_pulled 24 = .ok (.iconst 4, 1) := dk_7 (dk_at dksX8_pulled_1 0 rfl rfl)
theorem dX8_pulled_25 : decode cX8_pulled 25 = .ok (.iload_n 2, 1) := dk_28 (dk_at dksX8_pulled_1 1 rfl rfl)
theorem dX8_pulled_26 : decode cX8_pulled 26 = .ok (.iadd, 1) := dk_96 (dk_at dksX8_pulled_1 2 rfl rfl)
theorem dX8_pulled_27 : decode cX8_pulled 27 = .ok (.iaload, 1) := dk_46 (dk_at dksX8_pulled_1 3 rfl rfl)
theorem dX8_pulled_28 : decode cX8_pulled 28 = .ok (.invokevirtual 430, 3) := dk_182 1 174 (dk_at dksX8_pulled_1 4 rfl rfl)
theorem dX8_pulled_31 : decode cX8_pulled 31 = .ok (.ifCond .le 7, 3) := dk_158 0 7 (dk_at dksX8_pulled_1 7 rfl rfl)
theorem dX8_pulled_34 : decode cX8_pulled 34 = .ok (.iconst 1, 1) := dk_4 (dk_at dksX8_pulled_1 10 rfl rfl)
theorem dX8_pulled_35 : decode cX8_pulled 35 = .ok (.goto 4, 3) := dk_167 0 4 (dk_at dksX8_pulled_1 11 rfl rfl)
theorem dX8_pulled_38 : decode cX8_pulled 38 = .ok (.iconst 0, 1) := dk_3 (dk_at dksX8_pulled_1 14 rfl rfl)
theorem dX8_pulled_39 : decode cX8_pulled 39 = .ok (.invokestatic 317, 3) := dk_184 1 61 (dk_at dksX8_pulled_1 15 rfl rfl)
theorem dX8_pulled_42 : decode cX8_pulled 42 = .ok (.iload_n 2, 1) := dk_28 (dk_at dksX8_pulled_1 18 rfl rfl)
theorem dX8_pulled_43 : decode cX8_pulled 43 = .ok (.ishl, 1) := dk_120 (dk_at dksX8_pulled_1 19 rfl rfl)
theorem dX8_pulled_44 : decode cX8_pulled 44 = .ok (.ior, 1) := dk_128 (dk_at dksX8_pulled_1 20 rfl rfl)
theorem dX8_pulled_45 : decode cX8_pulled 45 = .ok (.istore_n 1, 1) := dk_60 (dk_at dksX8_pulled_1 21 rfl rfl)
theorem dX8_pulled_46 : decode cX8_pulled 46 = .ok (.iinc 2 1, 3) := dk_132 2 1 (dk_at dksX8_pulled_2 0 rfl rfl)
theorem dX8_pulled_49 : decode cX8_pulled 49 = .ok (.goto (-45), 3) := dk_167 255 211 (dk_at dksX8_pulled_2 3 rfl rfl)
theorem dX8_pulled_52 : decode cX8_pulled 52 = .ok (.iload_n 1, 1) := dk_27 (dk_at dksX8_pulled_2 6 rfl rfl)
theorem dX8_pulled_53 : decode cX8_pulled 53 = .ok (.ireturn, 1) := dk_172 (dk_at dksX8_pulled_2 7 rfl rfl)
abbrev cX8_hottest : ByteArray := prog_20_method_109_code
def yX8_hottest : MethodName := ⟨RX8, "hottest", "()I"⟩
def dkwX8_hottest_2 : List UInt8 := [100, 162, 0, 5, 28, 60, 132, 2, 1, 167, 255, 204, 27, 172]
abbrev dktX8_hottest_2 : List UInt8 := dkwX8_hottest_2 ++ []
def dkwX8_hottest_1 : List UInt8 := [180, 0, 84, 16, 8, 28, 96, 46, 100, 42, 180, 0, 72, 27, 46, 42, 180, 0, 84, 16, 8, 27, 96, 46]
abbrev dktX8_hottest_1 : List UInt8 := dkwX8_hottest_1 ++ dktX8_hottest_2
def dkwX8_hottest_0 : List UInt8 := [2, 60, 3, 61, 28, 42, 180, 1, 149, 162, 0, 50, 27, 155, 0, 38, 42, 180, 0, 72, 28, 46, 42]
abbrev dktX8_hottest_0 : List UInt8 := dkwX8_hottest_0 ++ dktX8_hottest_1
theorem dksX8_hottest_0 : cX8_hottest.data.toList.drop 0 = dktX8_hottest_0 := by decide +kernel
theorem dksX8_hottest_1 : cX8_hottest.data.toList.drop 23 = dktX8_hottest_1 := dk_seg dksX8_hottest_0 23 rfl rfl
theorem dksX8_hottest_2 : cX8_hottest.data.toList.drop 47 = dktX8_hottest_2 := dk_seg dksX8_hottest_1 24 rfl rfl
theorem dX8_hottest_0 : decode cX8_hottest 0 = .ok (.iconst (-1), 1) := dk_2 (dk_at dksX8_hottest_0 0 rfl rfl)
theorem dX8_hottest_1 : decode cX8_hottest 1 = .ok (.istore_n 1, 1) := dk_60 (dk_at dksX8_hottest_0 1 rfl rfl)
theorem dX8_hottest_2 : decode cX8_hottest 2 = .ok (.iconst 0, 1) := dk_3 (dk_at dksX8_hottest_0 2 rfl rfl)
theorem dX8_hottest_3 : decode cX8_hottest 3 = .ok (.istore_n 2, 1) := dk_61 (dk_at dksX8_hottest_0 3 rfl rfl)
theorem dX8_hottest_4 : decode cX8_hottest 4 = .ok (.iload_n 2, 1) := dk_28 (dk_at dksX8_hottest_0 4 rfl rfl)
theorem dX8_hottest_5 : decode cX8_hottest 5 = .ok (.aload_n 0, 1) := dk_42 (dk_at dksX8_hottest_0 5 rfl rfl)
theorem dX8_hottest_6 : decode cX8_hottest 6 = .ok (.getfield 405, 3) := dk_180 1 149 (dk_at dksX8_hottest_0 6 rfl rfl)
theorem dX8_hottest_9 : decode cX8_hottest 9 = .ok (.if_icmp .ge 50, 3) := dk_162 0 50 (dk_at dksX8_hottest_0 9 rfl rfl)
theorem dX8_hottest_12 : decode cX8_hottest 12 = .ok (.iload_n 1, 1) := dk_27 (dk_at dksX8_hottest_0 12 rfl rfl)
theorem dX8_hottest_13 : decode cX8_hottest 13 = .ok (.ifCond .lt 38, 3) := dk_155 0 38 (dk_at dksX8_hottest_0 13 rfl rfl)
theorem dX8_hottest_16 : decode cX8_hottest 16 = .ok (.aload_n 0, 1) := dk_42 (dk_at dksX8_hottest_0 16 rfl rfl)
theorem dX8_hottest_17 : decode cX8_hottest 17 = .ok (.getfield 72, 3) := dk_180 0 72 (dk_at dksX8_hottest_0 17 rfl rfl)
theorem dX8_hottest_20 : decode cX8_hottest 20 = .ok (.iload_n 2, 1) := dk_28 (dk_at dksX8_hottest_0 20 rfl rfl)
theorem dX8_hottest_21 : decode cX8_hottest 21 = .ok (.iaload, 1) := dk_46 (dk_at dksX8_hottest_0 21 rfl rfl)
theorem dX8_hottest_22 : decode cX8_hottest 22 = .ok (.aload_n 0, 1) := dk_42 (dk_at dksX8_hottest_0 22 rfl rfl)
theorem dX8_hottest_23 : decode cX8_hottest 23 = .ok (.getfield 84, 3) := dk_180 0 84 (dk_at dksX8_hottest_1 0 rfl rfl)
theorem dX8_hottest_26 : decode cX8_hottest 26 = .ok (.bipush 8, 2) := dk_16 8 (dk_at dksX8_hottest_1 3 rfl rfl)
theorem dX8_hottest_28 : decode cX8_hottest 28 = .ok (.iload_n 2, 1) := dk_28 (dk_at dksX8_hottest_1 5 rfl rfl)
theorem dX8_hottest_29 : decode cX8_hottest 29 = .ok (.iadd, 1) := dk_96 (dk_at dksX8_hottest_1 6 rfl rfl)
theorem dX8_hottest_30 : decode cX8_hottest 30 = .ok (.iaload, 1) := dk_46 (dk_at dksX8_hottest_1 7 rfl rfl)
theorem dX8_hottest_31 : decode cX8_hottest 31 = .ok (.isub, 1) := dk_100 (dk_at dksX8_hottest_1 8 rfl rfl)
theorem dX8_hottest_32 : decode cX8_hottest 32 = .ok (.aload_n 0, 1) := dk_42 (dk_at dksX8_hottest_1 9 rfl rfl)
theorem dX8_hottest_33 : decode cX8_hottest 33 = .ok (.getfield 72, 3) := dk_180 0 72 (dk_at dksX8_hottest_1 10 rfl rfl)
theorem dX8_hottest_36 : decode cX8_hottest 36 = .ok (.iload_n 1, 1) := dk_27 (dk_at dksX8_hottest_1 13 rfl rfl)
theorem dX8_hottest_37 : decode cX8_hottest 37 = .ok (.iaload, 1) := dk_46 (dk_at dksX8_hottest_1 14 rfl rfl)
theorem dX8_hottest_38 : decode cX8_hottest 38 = .ok (.aload_n 0, 1) := dk_42 (dk_at dksX8_hottest_1 15 rfl rfl)
theorem dX8_hottest_39 : decode cX8_hottest 39 = .ok (.getfield 84, 3) := dk_180 0 84 (dk_at dksX8_hottest_1 16 rfl rfl)
theorem dX8_hottest_42 : decode cX8_hottest 42 = .ok (.bipush 8, 2) := dk_16 8 (dk_at dksX8_hottest_1 19 rfl rfl)
theorem dX8_hottest_44 : decode cX8_hottest 44 = .ok (.iload_n 1, 1) := dk_27 (dk_at dksX8_hottest_1 21 rfl rfl)
theorem dX8_hottest_45 : decode cX8_hottest 45 = .ok (.iadd, 1) := dk_96 (dk_at dksX8_hottest_1 22 rfl rfl)
theorem dX8_hottest_46 : decode cX8_hottest 46 = .ok (.iaload, 1) := dk_46 (dk_at dksX8_hottest_1 23 rfl rfl)
theorem dX8_hottest_47 : decode cX8_hottest 47 = .ok (.isub, 1) := dk_100 (dk_at dksX8_hottest_2 0 rfl rfl)
theorem dX8_hottest_48 : decode cX8_hottest 48 = .ok (.if_icmp .ge 5, 3) := dk_162 0 5 (dk_at dksX8_hottest_2 1 rfl rfl)
theorem dX8_hottest_51 : decode cX8_hottest 51 = .ok (.iload_n 2, 1) := dk_28 (dk_at dksX8_hottest_2 4 rfl rfl)
theorem dX8_hottest_52 : decode cX8_hottest 52 = .ok (.istore_n 1, 1) := dk_60 (dk_at dksX8_hottest_2 5 rfl rfl)
theorem dX8_hottest_53 : decode cX8_hottest 53 = .ok (.iinc 2 1, 3) := dk_132 2 1 (dk_at dksX8_hottest_2 6 rfl rfl)
theorem dX8_hottest_56 : decode cX8_hottest 56 = .ok (.goto (-52), 3) := dk_167 255 204 (dk_at dksX8_hottest_2 9 rfl rfl)
theorem dX8_hottest_59 : decode cX8_hottest 59 = .ok (.iload_n 1, 1) := dk_27 (dk_at dksX8_hottest_2 12 rfl rfl)
theorem dX8_hottest_60 : decode cX8_hottest 60 = .ok (.ireturn, 1) := dk_172 (dk_at dksX8_hottest_2 13 rfl rfl)
abbrev cX8_law : ByteArray := prog_20_method_110_code
def yX8_law : MethodName := ⟨RX8, "law", "(I)I"⟩
def dkwX8_law_2 : List UInt8 := [46, 27, 163, 0, 7, 4, 167, 0, 4, 3, 184, 1, 61, 96, 62, 132, 4, 1, 167, 255, 212, 29, 172]
abbrev dktX8_law_2 : List UInt8 := dkwX8_law_2 ++ []
def dkwX8_law_1 : List UInt8 := [42, 180, 1, 65, 162, 0, 41, 29, 28, 21, 4, 122, 4, 126, 4, 160, 0, 18, 42, 180, 0, 75, 21, 4]
abbrev dktX8_law_1 : List UInt8 := dkwX8_law_1 ++ dktX8_law_2
def dkwX8_law_0 : List UInt8 := [27, 3, 16, 99, 184, 1, 170, 154, 0, 5, 2, 172, 42, 182, 1, 246, 61, 3, 62, 3, 54, 4, 21, 4]
abbrev dktX8_law_0 : List UInt8 := dkwX8_law_0 ++ dktX8_law_1
theorem dksX8_law_0 : cX8_law.data.toList.drop 0 = dktX8_law_0 := by decide +kernel
theorem dksX8_law_1 : cX8_law.data.toList.drop 24 = dktX8_law_1 := dk_seg dksX8_law_0 24 rfl rfl
theorem dksX8_law_2 : cX8_law.data.toList.drop 48 = dktX8_law_2 := dk_seg dksX8_law_1 24 rfl rfl
theorem dX8_law_0 : decode cX8_law 0 = .ok (.iload_n 1, 1) := dk_27 (dk_at dksX8_law_0 0 rfl rfl)
theorem dX8_law_1 : decode cX8_law 1 = .ok (.iconst 0, 1) := dk_3 (dk_at dksX8_law_0 1 rfl rfl)
theorem dX8_law_2 : decode cX8_law 2 = .ok (.bipush 99, 2) := dk_16 99 (dk_at dksX8_law_0 2 rfl rfl)
theorem dX8_law_4 : decode cX8_law 4 = .ok (.invokestatic 426, 3) := dk_184 1 170 (dk_at dksX8_law_0 4 rfl rfl)
theorem dX8_law_7 : decode cX8_law 7 = .ok (.ifCond .ne 5, 3) := dk_154 0 5 (dk_at dksX8_law_0 7 rfl rfl)
theorem dX8_law_10 : decode cX8_law 10 = .ok (.iconst (-1), 1) := dk_2 (dk_at dksX8_law_0 10 rfl rfl)
theorem dX8_law_11 : decode cX8_law 11 = .ok (.ireturn, 1) := dk_172 (dk_at dksX8_law_0 11 rfl rfl)
theorem dX8_law_12 : decode cX8_law 12 = .ok (.aload_n 0, 1) := dk_42 (dk_at dksX8_law_0 12 rfl rfl)
theorem dX8_law_13 : decode cX8_law 13 = .ok (.invokevirtual 502, 3) := dk_182 1 246 (dk_at dksX8_law_0 13 rfl rfl)
theorem dX8_law_16 : decode cX8_law 16 = .ok (.istore_n 2, 1) := dk_61 (dk_at dksX8_law_0 16 rfl rfl)
theorem dX8_law_17 : decode cX8_law 17 = .ok (.iconst 0, 1) := dk_3 (dk_at dksX8_law_0 17 rfl rfl)
theorem dX8_law_18 : decode cX8_law 18 = .ok (.istore_n 3, 1) := dk_62 (dk_at dksX8_law_0 18 rfl rfl)
theorem dX8_law_19 : decode cX8_law 19 = .ok (.iconst 0, 1) := dk_3 (dk_at dksX8_law_0 19 rfl rfl)
theorem dX8_law_20 : decode cX8_law 20 = .ok (.istore 4, 2) := dk_54 4 (dk_at dksX8_law_0 20 rfl rfl)
theorem dX8_law_22 : decode cX8_law 22 = .ok (.iload 4, 2) := dk_21 4 (dk_at dksX8_law_0 22 rfl rfl)
theorem dX8_law_24 : decode cX8_law 24 = .ok (.aload_n 0, 1) := dk_42 (dk_at dksX8_law_1 0 rfl rfl)
theorem dX8_law_25 : decode cX8_law 25 = .ok (.getfield 321, 3) := dk_180 1 65 (dk_at dksX8_law_1 1 rfl rfl)
theorem dX8_law_28 : decode cX8_law 28 = .ok (.if_icmp .ge 41, 3) := dk_162 0 41 (dk_at dksX8_law_1 4 rfl rfl)
theorem dX8_law_31 : decode cX8_law 31 = .ok (.iload_n 3, 1) := dk_29 (dk_at dksX8_law_1 7 rfl rfl)
theorem dX8_law_32 : decode cX8_law 32 = .ok (.iload_n 2, 1) := dk_28 (dk_at dksX8_law_1 8 rfl rfl)
theorem dX8_law_33 : decode cX8_law 33 = .ok (.iload 4, 2) := dk_21 4 (dk_at dksX8_law_1 9 rfl rfl)
theorem dX8_law_35 : decode cX8_law 35 = .ok (.ishr, 1) := dk_122 (dk_at dksX8_law_1 11 rfl rfl)
theorem dX8_law_36 : decode cX8_law 36 = .ok (.iconst 1, 1) := dk_4 (dk_at dksX8_law_1 12 rfl rfl)
theorem dX8_law_37 : decode cX8_law 37 = .ok (.iand, 1) := dk_126 (dk_at dksX8_law_1 13 rfl rfl)
theorem dX8_law_38 : decode cX8_law 38 = .ok (.iconst 1, 1) := dk_4 (dk_at dksX8_law_1 14 rfl rfl)
theorem dX8_law_39 : decode cX8_law 39 = .ok (.if_icmp .ne 18, 3) := dk_160 0 18 (dk_at dksX8_law_1 15 rfl rfl)
theorem dX8_law_42 : decode cX8_law 42 = .ok (.aload_n 0, 1) := dk_42 (dk_at dksX8_law_1 18 rfl rfl)
theorem dX8_law_43 : decode cX8_law 43 = .ok (.getfield 75, 3) := dk_180 0 75 (dk_at dksX8_law_1 19 rfl rfl)
theorem dX8_law_46 : decode cX8_law 46 = .ok (.iload 4, 2) := dk_21 4 (dk_at dksX8_law_1 22 rfl rfl)
theorem dX8_law_48 : decode cX8_law 48 = .ok (.iaload, 1) := dk_46 (dk_at dksX8_law_2 0 rfl rfl)
theorem dX8_law_49 : decode cX8_law 49 = .ok (.iload_n 1, 1) := dk_27 (dk_at dksX8_law_2 1 rfl rfl)
theorem dX8_law_50 : decode cX8_law 50 = .ok (.if_icmp .gt 7, 3) := dk_163 0 7 (dk_at dksX8_law_2 2 rfl rfl)
theorem dX8_law_53 : decode cX8_law 53 = .ok (.iconst 1, 1) := dk_4 (dk_at dksX8_law_2 5 rfl rfl)
theorem dX8_law_54 : decode cX8_law 54 = .ok (.goto 4, 3) := dk_167 0 4 (dk_at dksX8_law_2 6 rfl rfl)
theorem dX8_law_57 : decode cX8_law 57 = .ok (.iconst 0, 1) := dk_3 (dk_at dksX8_law_2 9 rfl rfl)
theorem dX8_law_58 : decode cX8_law 58 = .ok (.invokestatic 317, 3) := dk_184 1 61 (dk_at dksX8_law_2 10 rfl rfl)
theorem dX8_law_61 : decode cX8_law 61 = .ok (.iadd, 1) := dk_96 (dk_at dksX8_law_2 13 rfl rfl)
theorem dX8_law_62 : decode cX8_law 62 = .ok (.istore_n 3, 1) := dk_62 (dk_at dksX8_law_2 14 rfl rfl)
theorem dX8_law_63 : decode cX8_law 63 = .ok (.iinc 4 1, 3) := dk_132 4 1 (dk_at dksX8_law_2 15 rfl rfl)
theorem dX8_law_66 : decode cX8_law 66 = .ok (.goto (-44), 3) := dk_167 255 212 (dk_at dksX8_law_2 18 rfl rfl)
theorem dX8_law_69 : decode cX8_law 69 = .ok (.iload_n 3, 1) := dk_29 (dk_at dksX8_law_2 21 rfl rfl)
theorem dX8_law_70 : decode cX8_law 70 = .ok (.ireturn, 1) := dk_172 (dk_at dksX8_law_2 22 rfl rfl)
abbrev cX8_lies : ByteArray := prog_20_method_111_code
def yX8_lies : MethodName := ⟨RX8, "lies", "(I)I"⟩
def dkwX8_lies_1 : List UInt8 := [16, 254, 172]
abbrev dktX8_lies_1 : List UInt8 := dkwX8_lies_1 ++ []
def dkwX8_lies_0 : List UInt8 := [27, 3, 42, 180, 1, 167, 4, 100, 184, 1, 170, 153, 0, 12, 42, 180, 0, 96, 27, 46, 167, 0, 5]
abbrev dktX8_lies_0 : List UInt8 := dkwX8_lies_0 ++ dktX8_lies_1
theorem dksX8_lies_0 : cX8_lies.data.toList.drop 0 = dktX8_lies_0 := by decide +kernel
theorem dksX8_lies_1 : cX8_lies.data.toList.drop 23 = dktX8_lies_1 := dk_seg dksX8_lies_0 23 rfl rfl
theorem dX8_lies_0 : decode cX8_lies 0 = .ok (.iload_n 1, 1) := dk_27 (dk_at dksX8_lies_0 0 rfl rfl)
theorem dX8_lies_1 : decode cX8_lies 1 = .ok (.iconst 0, 1) := dk_3 (dk_at dksX8_lies_0 1 rfl rfl)
theorem dX8_lies_2 : decode cX8_lies 2 = .ok (.aload_n 0, 1) := dk_42 (dk_at dksX8_lies_0 2 rfl rfl)
theorem dX8_lies_3 : decode cX8_lies 3 = .ok (.getfield 423, 3) := dk_180 1 167 (dk_at dksX8_lies_0 3 rfl rfl)
theorem dX8_lies_6 : decode cX8_lies 6 = .ok (.iconst 1, 1) := dk_4 (dk_at dksX8_lies_0 6 rfl rfl)
theorem dX8_lies_7 : decode cX8_lies 7 = .ok (.isub, 1) := dk_100 (dk_at dksX8_lies_0 7 rfl rfl)
theorem dX8_lies_8 : decode cX8_lies 8 = .ok (.invokestatic 426, 3) := dk_184 1 170 (dk_at dksX8_lies_0 8 rfl rfl)
theorem dX8_lies_11 : decode cX8_lies 11 = .ok (.ifCond .eq 12, 3) := dk_153 0 12 (dk_at dksX8_lies_0 11 rfl rfl)
theorem dX8_lies_14 : decode cX8_lies 14 = .ok (.aload_n 0, 1) := dk_42 (dk_at dksX8_lies_0 14 rfl rfl)
theorem dX8_lies_15 : decode cX8_lies 15 = .ok (.getfield 96, 3) := dk_180 0 96 (dk_at dksX8_lies_0 15 rfl rfl)
theorem dX8_lies_18 : decode cX8_lies 18 = .ok (.iload_n 1, 1) := dk_27 (dk_at dksX8_lies_0 18 rfl rfl)
theorem dX8_lies_19 : decode cX8_lies 19 = .ok (.iaload, 1) := dk_46 (dk_at dksX8_lies_0 19 rfl rfl)
theorem dX8_lies_20 : decode cX8_lies 20 = .ok (.goto 5, 3) := dk_167 0 5 (dk_at dksX8_lies_0 20 rfl rfl)
theorem dX8_lies_23 : decode cX8_lies 23 = .ok (.bipush (-2), 2) := dk_16 254 (dk_at dksX8_lies_1 0 rfl rfl)
theorem dX8_lies_25 : decode cX8_lies 25 = .ok (.ireturn, 1) := dk_172 (dk_at dksX8_lies_1 2 rfl rfl)
abbrev cX8_passed : ByteArray := prog_20_method_113_code
def yX8_passed : MethodName := ⟨RX8, "passed", "(IIZ)I"⟩
def dkwX8_passed_0 : List UInt8 := [28, 3, 16, 7, 184, 1, 170, 153, 0, 14, 42, 3, 27, 28, 29, 182, 2, 36, 167, 0, 4, 2, 172]
abbrev dktX8_passed_0 : List UInt8 := dkwX8_passed_0 ++ []
theorem dksX8_passed_0 : cX8_passed.data.toList.drop 0 = dktX8_passed_0 := by decide +kernel
theorem dX8_passed_0 : decode cX8_passed 0 = .ok (.iload_n 2, 1) := dk_28 (dk_at dksX8_passed_0 0 rfl rfl)
theorem dX8_passed_1 : decode cX8_passed 1 = .ok (.iconst 0, 1) := dk_3 (dk_at dksX8_passed_0 1 rfl rfl)
theorem dX8_passed_2 : decode cX8_passed 2 = .ok (.bipush 7, 2) := dk_16 7 (dk_at dksX8_passed_0 2 rfl rfl)
theorem dX8_passed_4 : decode cX8_passed 4 = .ok (.invokestatic 426, 3) := dk_184 1 170 (dk_at dksX8_passed_0 4 rfl rfl)
theorem dX8_passed_7 : decode cX8_passed 7 = .ok (.ifCond .eq 14, 3) := dk_153 0 14 (dk_at dksX8_passed_0 7 rfl rfl)
theorem dX8_passed_10 : decode cX8_passed 10 = .ok (.aload_n 0, 1) := dk_42 (dk_at dksX8_passed_0 10 rfl rfl)
theorem dX8_passed_11 : decode cX8_passed 11 = .ok (.iconst 0, 1) := dk_3 (dk_at dksX8_passed_0 11 rfl rfl)
theorem dX8_passed_12 : decode cX8_passed 12 = .ok (.iload_n 1, 1) := dk_27 (dk_at dksX8_passed_0 12 rfl rfl)
theorem dX8_passed_13 : decode cX8_passed 13 = .ok (.iload_n 2, 1) := dk_28 (dk_at dksX8_passed_0 13 rfl rfl)
theorem dX8_passed_14 : decode cX8_passed 14 = .ok (.iload_n 3, 1) := dk_29 (dk_at dksX8_passed_0 14 rfl rfl)
theorem dX8_passed_15 : decode cX8_passed 15 = .ok (.invokevirtual 548, 3) := dk_182 2 36 (dk_at dksX8_passed_0 15 rfl rfl)
theorem dX8_passed_18 : decode cX8_passed 18 = .ok (.goto 4, 3) := dk_167 0 4 (dk_at dksX8_passed_0 18 rfl rfl)
theorem dX8_passed_21 : decode cX8_passed 21 = .ok (.iconst (-1), 1) := dk_2 (dk_at dksX8_passed_0 21 rfl rfl)
theorem dX8_passed_22 : decode cX8_passed 22 = .ok (.ireturn, 1) := dk_172 (dk_at dksX8_passed_0 22 rfl rfl)
abbrev cX8_see : ByteArray := prog_20_method_112_code
def yX8_see : MethodName := ⟨RX8, "see", "(IIIZ)I"⟩
def dkwX8_see_4 : List UInt8 := [2, 79, 42, 89, 180, 1, 164, 4, 96, 181, 1, 164, 42, 180, 1, 164, 4, 100, 172]
abbrev dktX8_see_4 : List UInt8 := dkwX8_see_4 ++ []
def dkwX8_see_3 : List UInt8 := [21, 4, 84, 42, 180, 0, 130, 42, 180, 1, 164, 42, 180, 2, 33, 79, 42, 180, 0, 133, 42, 180, 1, 164]
abbrev dktX8_see_3 : List UInt8 := dkwX8_see_3 ++ dktX8_see_4
def dkwX8_see_2 : List UInt8 := [180, 1, 164, 28, 79, 42, 180, 0, 127, 42, 180, 1, 164, 29, 79, 42, 180, 0, 136, 42, 180, 1, 164]
abbrev dktX8_see_2 : List UInt8 := dkwX8_see_2 ++ dktX8_see_3
def dkwX8_see_1 : List UInt8 := [16, 30, 160, 0, 5, 2, 172, 42, 180, 0, 121, 42, 180, 1, 164, 27, 79, 42, 180, 0, 124, 42]
abbrev dktX8_see_1 : List UInt8 := dkwX8_see_1 ++ dktX8_see_2
def dkwX8_see_0 : List UInt8 := [42, 180, 1, 149, 153, 0, 24, 28, 4, 42, 180, 0, 81, 184, 1, 170, 153, 0, 12, 42, 180, 1, 164]
abbrev dktX8_see_0 : List UInt8 := dkwX8_see_0 ++ dktX8_see_1
theorem dksX8_see_0 : cX8_see.data.toList.drop 0 = dktX8_see_0 := by decide +kernel
theorem dksX8_see_1 : cX8_see.data.toList.drop 23 = dktX8_see_1 := dk_seg dksX8_see_0 23 rfl rfl
theorem dksX8_see_2 : cX8_see.data.toList.drop 45 = dktX8_see_2 := dk_seg dksX8_see_1 22 rfl rfl
theorem dksX8_see_3 : cX8_see.data.toList.drop 68 = dktX8_see_3 := dk_seg dksX8_see_2 23 rfl rfl
theorem dksX8_see_4 : cX8_see.data.toList.drop 92 = dktX8_see_4 := dk_seg dksX8_see_3 24 rfl rfl
theorem dX8_see_0 : decode cX8_see 0 = .ok (.aload_n 0, 1) := dk_42 (dk_at dksX8_see_0 0 rfl rfl)
theorem dX8_see_1 : decode cX8_see 1 = .ok (.getfield 405, 3) := dk_180 1 149 (dk_at dksX8_see_0 1 rfl rfl)
theorem dX8_see_4 : decode cX8_see 4 = .ok (.ifCond .eq 24, 3) := dk_153 0 24 (dk_at dksX8_see_0 4 rfl rfl)
theorem dX8_see_7 : decode cX8_see 7 = .ok (.iload_n 2, 1) := dk_28 (dk_at dksX8_see_0 7 rfl rfl)
theorem dX8_see_8 : decode cX8_see 8 = .ok (.iconst 1, 1) := dk_4 (dk_at dksX8_see_0 8 rfl rfl)
theorem dX8_see_9 : decode cX8_see 9 = .ok (.aload_n 0, 1) := dk_42 (dk_at dksX8_see_0 9 rfl rfl)
theorem dX8_see_10 : decode cX8_see 10 = .ok (.getfield 81, 3) := dk_180 0 81 (dk_at dksX8_see_0 10 rfl rfl)
theorem dX8_see_13 : decode cX8_see 13 = .ok (.invokestatic 426, 3) := dk_184 1 170 (dk_at dksX8_see_0 13 rfl rfl)
theorem dX8_see_16 : decode cX8_see 16 = .ok (.ifCond .eq 12, 3) := dk_153 0 12 (dk_at dksX8_see_0 16 rfl rfl)
theorem dX8_see_19 : decode cX8_see 19 = .ok (.aload_n 0, 1) := dk_42 (dk_at dksX8_see_0 19 rfl rfl)
theorem dX8_see_20 : decode cX8_see 20 = .ok (.getfield 420, 3) := dk_180 1 164 (dk_at dksX8_see_0 20 rfl rfl)
theorem dX8_see_23 : decode cX8_see 23 = .ok (.bipush 30, 2) := dk_16 30 (dk_at dksX8_see_1 0 rfl rfl)
theorem dX8_see_25 : decode cX8_see 25 = .ok (.if_icmp .ne 5, 3) := dk_160 0 5 (dk_at dksX8_see_1 2 rfl rfl)
theorem dX8_see_28 : decode cX8_see 28 = .ok (.iconst (-1), 1) := dk_2 (dk_at dksX8_see_1 5 rfl rfl)
theorem dX8_see_29 : decode cX8_see 29 = .ok (.ireturn, 1) := dk_172 (dk_at dksX8_see_1 6 rfl rfl)
theorem dX8_see_30 : decode cX8_see 30 = .ok (.aload_n 0, 1) := dk_42 (dk_at dksX8_see_1 7 rfl rfl)
theorem dX8_see_31 : decode cX8_see 31 = .ok (.getfield 121, 3) := dk_180 0 121 (dk_at dksX8_see_1 8 rfl rfl)
theorem dX8_see_34 : decode cX8_see 34 = .ok (.aload_n 0, 1) := dk_42 (dk_at dksX8_see_1 11 rfl rfl)
theorem dX8_see_35 : decode cX8_see 35 = .ok (.getfield 420, 3) := dk_180 1 164 (dk_at dksX8_see_1 12 rfl rfl)
theorem dX8_see_38 : decode cX8_see 38 = .ok (.iload_n 1, 1) := dk_27 (dk_at dksX8_see_1 15 rfl rfl)
theorem dX8_see_39 : decode cX8_see 39 = .ok (.iastore, 1) := dk_79 (dk_at dksX8_see_1 16 rfl rfl)
theorem dX8_see_40 : decode cX8_see 40 = .ok (.aload_n 0, 1) := dk_42 (dk_at dksX8_see_1 17 rfl rfl)
theorem dX8_see_41 : decode cX8_see 41 = .ok (.getfield 124, 3) := dk_180 0 124 (dk_at dksX8_see_1 18 rfl rfl)
theorem dX8_see_44 : decode cX8_see 44 = .ok (.aload_n 0, 1) := dk_42 (dk_at dksX8_see_1 21 rfl rfl)
theorem dX8_see_45 : decode cX8_see 45 = .ok (.getfield 420, 3) := dk_180 1 164 (dk_at dksX8_see_2 0 rfl rfl)
theorem dX8_see_48 : decode cX8_see 48 = .ok (.iload_n 2, 1) := dk_28 (dk_at dksX8_see_2 3 rfl rfl)
theorem dX8_see_49 : decode cX8_see 49 = .ok (.iastore, 1) := dk_79 (dk_at dksX8_see_2 4 rfl rfl)
theorem dX8_see_50 : decode cX8_see 50 = .ok (.aload_n 0, 1) := dk_42 (dk_at dksX8_see_2 5 rfl rfl)
theorem dX8_see_51 : decode cX8_see 51 = .ok (.getfield 127, 3) := dk_180 0 127 (dk_at dksX8_see_2 6 rfl rfl)
theorem dX8_see_54 : decode cX8_see 54 = .ok (.aload_n 0, 1) := dk_42 (dk_at dksX8_see_2 9 rfl rfl)
theorem dX8_see_55 : decode cX8_see 55 = .ok (.getfield 420, 3) := dk_180 1 164 (dk_at dksX8_see_2 10 rfl rfl)
theorem dX8_see_58 : decode cX8_see 58 = .ok (.iload_n 3, 1) := dk_29 (dk_at dksX8_see_2 13 rfl rfl)
theorem dX8_see_59 : decode cX8_see 59 = .ok (.iastore, 1) := dk_79 (dk_at dksX8_see_2 14 rfl rfl)
theorem dX8_see_60 : decode cX8_see 60 = .ok (.aload_n 0, 1) := dk_42 (dk_at dksX8_see_2 15 rfl rfl)
theorem dX8_see_61 : decode cX8_see 61 = .ok (.getfield 136, 3) := dk_180 0 136 (dk_at dksX8_see_2 16 rfl rfl)
theorem dX8_see_64 : decode cX8_see 64 = .ok (.aload_n 0, 1) := dk_42 (dk_at dksX8_see_2 19 rfl rfl)
theorem dX8_see_65 : decode cX8_see 65 = .ok (.getfield 420, 3) := dk_180 1 164 (dk_at dksX8_see_2 20 rfl rfl)
theorem dX8_see_68 : decode cX8_see 68 = .ok (.iload 4, 2) := dk_21 4 (dk_at dksX8_see_3 0 rfl rfl)
theorem dX8_see_70 : decode cX8_see 70 = .ok (.bastore, 1) := dk_84 (dk_at dksX8_see_3 2 rfl rfl)
theorem dX8_see_71 : decode cX8_see 71 = .ok (.aload_n 0, 1) := dk_42 (dk_at dksX8_see_3 3 rfl rfl)
theorem dX8_see_72 : decode cX8_see 72 = .ok (.getfield 130, 3) := dk_180 0 130 (dk_at dksX8_see_3 4 rfl rfl)
theorem dX8_see_75 : decode cX8_see 75 = .ok (.aload_n 0, 1) := dk_42 (dk_at dksX8_see_3 7 rfl rfl)
theorem dX8_see_76 : decode cX8_see 76 = .ok (.getfield 420, 3) := dk_180 1 164 (dk_at dksX8_see_3 8 rfl rfl)
theorem dX8_see_79 : decode cX8_see 79 = .ok (.aload_n 0, 1) := dk_42 (dk_at dksX8_see_3 11 rfl rfl)
theorem dX8_see_80 : decode cX8_see 80 = .ok (.getfield 545, 3) := dk_180 2 33 (dk_at dksX8_see_3 12 rfl rfl)
theorem dX8_see_83 : decode cX8_see 83 = .ok (.iastore, 1) := dk_79 (dk_at dksX8_see_3 15 rfl rfl)
theorem dX8_see_84 : decode cX8_see 84 = .ok (.aload_n 0, 1) := dk_42 (dk_at dksX8_see_3 16 rfl rfl)
theorem dX8_see_85 : decode cX8_see 85 = .ok (.getfield 133, 3) := dk_180 0 133 (dk_at dksX8_see_3 17 rfl rfl)
theorem dX8_see_88 : decode cX8_see 88 = .ok (.aload_n 0, 1) := dk_42 (dk_at dksX8_see_3 20 rfl rfl)
theorem dX8_see_89 : decode cX8_see 89 = .ok (.getfield 420, 3) := dk_180 1 164 (dk_at dksX8_see_3 21 rfl rfl)
theorem dX8_see_92 : decode cX8_see 92 = .ok (.iconst (-1), 1) := dk_2 (dk_at dksX8_see_4 0 rfl rfl)
theorem dX8_see_93 : decode cX8_see 93 = .ok (.iastore, 1) := dk_79 (dk_at dksX8_see_4 1 rfl rfl)
theorem dX8_see_94 : decode cX8_see 94 = .ok (.aload_n 0, 1) := dk_42 (dk_at dksX8_see_4 2 rfl rfl)
theorem dX8_see_95 : decode cX8_see 95 = .ok (.dup, 1) := dk_89 (dk_at dksX8_see_4 3 rfl rfl)
theorem dX8_see_96 : decode cX8_see 96 = .ok (.getfield 420, 3) := dk_180 1 164 (dk_at dksX8_see_4 4 rfl rfl)
theorem dX8_see_99 : decode cX8_see 99 = .ok (.iconst 1, 1) := dk_4 (dk_at dksX8_see_4 7 rfl rfl)
theorem dX8_see_100 : decode cX8_see 100 = .ok (.iadd, 1) := dk_96 (dk_at dksX8_see_4 8 rfl rfl)
theorem dX8_see_101 : decode cX8_see 101 = .ok (.putfield 420, 3) := dk_181 1 164 (dk_at dksX8_see_4 9 rfl rfl)
theorem dX8_see_104 : decode cX8_see 104 = .ok (.aload_n 0, 1) := dk_42 (dk_at dksX8_see_4 12 rfl rfl)
theorem dX8_see_105 : decode cX8_see 105 = .ok (.getfield 420, 3) := dk_180 1 164 (dk_at dksX8_see_4 13 rfl rfl)
theorem dX8_see_108 : decode cX8_see 108 = .ok (.iconst 1, 1) := dk_4 (dk_at dksX8_see_4 16 rfl rfl)
theorem dX8_see_109 : decode cX8_see 109 = .ok (.isub, 1) := dk_100 (dk_at dksX8_see_4 17 rfl rfl)
theorem dX8_see_110 : decode cX8_see 110 = .ok (.ireturn, 1) := dk_172 (dk_at dksX8_see_4 18 rfl rfl)
abbrev cX8_felt : ByteArray := prog_20_method_114_code
def yX8_felt : MethodName := ⟨RX8, "felt", "(IIZ)I"⟩
def dkwX8_felt_0 : List UInt8 := [28, 3, 16, 99, 184, 1, 170, 153, 0, 14, 42, 4, 27, 28, 29, 182, 2, 36, 167, 0, 4, 2, 172]
abbrev dktX8_felt_0 : List UInt8 := dkwX8_felt_0 ++ []
theorem dksX8_felt_0 : cX8_felt.data.toList.drop 0 = dktX8_felt_0 := by decide +kernel
theorem dX8_felt_0 : decode cX8_felt 0 = .ok (.iload_n 2, 1) := dk_28 (dk_at dksX8_felt_0 0 rfl rfl)
theorem dX8_felt_1 : decode cX8_felt 1 = .ok (.iconst 0, 1) := dk_3 (dk_at dksX8_felt_0 1 rfl rfl)
theorem dX8_felt_2 : decode cX8_felt 2 = .ok (.bipush 99, 2) := dk_16 99 (dk_at dksX8_felt_0 2 rfl rfl)
theorem dX8_felt_4 : decode cX8_felt 4 = .ok (.invokestatic 426, 3) := dk_184 1 170 (dk_at dksX8_felt_0 4 rfl rfl)
theorem dX8_felt_7 : decode cX8_felt 7 = .ok (.ifCond .eq 14, 3) := dk_153 0 14 (dk_at dksX8_felt_0 7 rfl rfl)
theorem dX8_felt_10 : decode cX8_felt 10 = .ok (.aload_n 0, 1) := dk_42 (dk_at dksX8_felt_0 10 rfl rfl)
theorem dX8_felt_11 : decode cX8_felt 11 = .ok (.iconst 1, 1) := dk_4 (dk_at dksX8_felt_0 11 rfl rfl)
theorem dX8_felt_12 : decode cX8_felt 12 = .ok (.iload_n 1, 1) := dk_27 (dk_at dksX8_felt_0 12 rfl rfl)
theorem dX8_felt_13 : decode cX8_felt 13 = .ok (.iload_n 2, 1) := dk_28 (dk_at dksX8_felt_0 13 rfl rfl)
theorem dX8_felt_14 : decode cX8_felt 14 = .ok (.iload_n 3, 1) := dk_29 (dk_at dksX8_felt_0 14 rfl rfl)
theorem dX8_felt_15 : decode cX8_felt 15 = .ok (.invokevirtual 548, 3) := dk_182 2 36 (dk_at dksX8_felt_0 15 rfl rfl)
theorem dX8_felt_18 : decode cX8_felt 18 = .ok (.goto 4, 3) := dk_167 0 4 (dk_at dksX8_felt_0 18 rfl rfl)
theorem dX8_felt_21 : decode cX8_felt 21 = .ok (.iconst (-1), 1) := dk_2 (dk_at dksX8_felt_0 21 rfl rfl)
theorem dX8_felt_22 : decode cX8_felt 22 = .ok (.ireturn, 1) := dk_172 (dk_at dksX8_felt_0 22 rfl rfl)
abbrev cX8_untell : ByteArray := prog_20_method_115_code
def yX8_untell : MethodName := ⟨RX8, "untell", "(I)Z"⟩
def dkwX8_untell_1 : List UInt8 := [172, 42, 180, 0, 133, 27, 42, 180, 2, 33, 79, 4, 172]
abbrev dktX8_untell_1 : List UInt8 := dkwX8_untell_1 ++ []
def dkwX8_untell_0 : List UInt8 := [27, 3, 42, 180, 1, 164, 4, 100, 184, 1, 170, 153, 0, 12, 42, 180, 0, 133, 27, 46, 155, 0, 5, 3]
abbrev dktX8_untell_0 : List UInt8 := dkwX8_untell_0 ++ dktX8_untell_1
theorem dksX8_untell_0 : cX8_untell.data.toList.drop 0 = dktX8_untell_0 := by decide +kernel
theorem dksX8_untell_1 : cX8_untell.data.toList.drop 24 = dktX8_untell_1 := dk_seg dksX8_untell_0 24 rfl rfl
theorem dX8_untell_0 : decode cX8_untell 0 = .ok (.iload_n 1, 1) := dk_27 (dk_at dksX8_untell_0 0 rfl rfl)
theorem dX8_untell_1 : decode cX8_untell 1 = .ok (.iconst 0, 1) := dk_3 (dk_at dksX8_untell_0 1 rfl rfl)
theorem dX8_untell_2 : decode cX8_untell 2 = .ok (.aload_n 0, 1) := dk_42 (dk_at dksX8_untell_0 2 rfl rfl)
theorem dX8_untell_3 : decode cX8_untell 3 = .ok (.getfield 420, 3) := dk_180 1 164 (dk_at dksX8_untell_0 3 rfl rfl)
theorem dX8_untell_6 : decode cX8_untell 6 = .ok (.iconst 1, 1) := dk_4 (dk_at dksX8_untell_0 6 rfl rfl)
theorem dX8_untell_7 : decode cX8_untell 7 = .ok (.isub, 1) := dk_100 (dk_at dksX8_untell_0 7 rfl rfl)
theorem dX8_untell_8 : decode cX8_untell 8 = .ok (.invokestatic 426, 3) := dk_184 1 170 (dk_at dksX8_untell_0 8 rfl rfl)
theorem dX8_untell_11 : decode cX8_untell 11 = .ok (.ifCond .eq 12, 3) := dk_153 0 12 (dk_at dksX8_untell_0 11 rfl rfl)
theorem dX8_untell_14 : decode cX8_untell 14 = .ok (.aload_n 0, 1) := dk_42 (dk_at dksX8_untell_0 14 rfl rfl)
theorem dX8_untell_15 : decode cX8_untell 15 = .ok (.getfield 133, 3) := dk_180 0 133 (dk_at dksX8_untell_0 15 rfl rfl)
theorem dX8_untell_18 : decode cX8_untell 18 = .ok (.iload_n 1, 1) := dk_27 (dk_at dksX8_untell_0 18 rfl rfl)
theorem dX8_untell_19 : decode cX8_untell 19 = .ok (.iaload, 1) := dk_46 (dk_at dksX8_untell_0 19 rfl rfl)
theorem dX8_untell_20 : decode cX8_untell 20 = .ok (.ifCond .lt 5, 3) := dk_155 0 5 (dk_at dksX8_untell_0 20 rfl rfl)
theorem dX8_untell_23 : decode cX8_untell 23 = .ok (.iconst 0, 1) := dk_3 (dk_at dksX8_untell_0 23 rfl rfl)
theorem dX8_untell_24 : decode cX8_untell 24 = .ok (.ireturn, 1) := dk_172 (dk_at dksX8_untell_1 0 rfl rfl)
theorem dX8_untell_25 : decode cX8_untell 25 = .ok (.aload_n 0, 1) := dk_42 (dk_at dksX8_untell_1 1 rfl rfl)
theorem dX8_untell_26 : decode cX8_untell 26 = .ok (.getfield 133, 3) := dk_180 0 133 (dk_at dksX8_untell_1 2 rfl rfl)
theorem dX8_untell_29 : decode cX8_untell 29 = .ok (.iload_n 1, 1) := dk_27 (dk_at dksX8_untell_1 5 rfl rfl)
theorem dX8_untell_30 : decode cX8_untell 30 = .ok (.aload_n 0, 1) := dk_42 (dk_at dksX8_untell_1 6 rfl rfl)
theorem dX8_untell_31 : decode cX8_untell 31 = .ok (.getfield 545, 3) := dk_180 2 33 (dk_at dksX8_untell_1 7 rfl rfl)
theorem dX8_untell_34 : decode cX8_untell 34 = .ok (.iastore, 1) := dk_79 (dk_at dksX8_untell_1 10 rfl rfl)
theorem dX8_untell_35 : decode cX8_untell 35 = .ok (.iconst 1, 1) := dk_4 (dk_at dksX8_untell_1 11 rfl rfl)
theorem dX8_untell_36 : decode cX8_untell 36 = .ok (.ireturn, 1) := dk_172 (dk_at dksX8_untell_1 12 rfl rfl)
abbrev cX8_later : ByteArray := prog_20_method_116_code
def yX8_later : MethodName := ⟨RX8, "late\x72", "(I)I"⟩
def dkwX8_later_1 : List UInt8 := [172, 42, 89, 180, 2, 33, 27, 96, 181, 2, 33, 42, 180, 2, 33, 172]
abbrev dktX8_later_1 : List UInt8 := dkwX8_later_1 ++ []
def dkwX8_later_0 : List UInt8 := [27, 155, 0, 22, 27, 17, 3, 232, 163, 0, 15, 42, 180, 2, 33, 27, 96, 19, 2, 40, 164, 0, 5, 2]
abbrev dktX8_later_0 : List UInt8 := dkwX8_later_0 ++ dktX8_later_1
theorem dksX8_later_0 : cX8_later.data.toList.drop 0 = dktX8_later_0 := by decide +kernel
theorem dksX8_later_1 : cX8_later.data.toList.drop 24 = dktX8_later_1 := dk_seg dksX8_later_0 24 rfl rfl
theorem dX8_later_0 : decode cX8_later 0 = .ok (.iload_n 1, 1) := dk_27 (dk_at dksX8_later_0 0 rfl rfl)
theorem dX8_later_1 : decode cX8_later 1 = .ok (.ifCond .lt 22, 3) := dk_155 0 22 (dk_at dksX8_later_0 1 rfl rfl)
theorem dX8_later_4 : decode cX8_later 4 = .ok (.iload_n 1, 1) := dk_27 (dk_at dksX8_later_0 4 rfl rfl)
theorem dX8_later_5 : decode cX8_later 5 = .ok (.sipush 1000, 3) := dk_17 3 232 (dk_at dksX8_later_0 5 rfl rfl)
theorem dX8_later_8 : decode cX8_later 8 = .ok (.if_icmp .gt 15, 3) := dk_163 0 15 (dk_at dksX8_later_0 8 rfl rfl)
theorem dX8_later_11 : decode cX8_later 11 = .ok (.aload_n 0, 1) := dk_42 (dk_at dksX8_later_0 11 rfl rfl)
theorem dX8_later_12 : decode cX8_later 12 = .ok (.getfield 545, 3) := dk_180 2 33 (dk_at dksX8_later_0 12 rfl rfl)
theorem dX8_later_15 : decode cX8_later 15 = .ok (.iload_n 1, 1) := dk_27 (dk_at dksX8_later_0 15 rfl rfl)
theorem dX8_later_16 : decode cX8_later 16 = .ok (.iadd, 1) := dk_96 (dk_at dksX8_later_0 16 rfl rfl)
theorem dX8_later_17 : decode cX8_later 17 = .ok (.ldc_w 552, 3) := dk_19 2 40 (dk_at dksX8_later_0 17 rfl rfl)
theorem dX8_later_20 : decode cX8_later 20 = .ok (.if_icmp .le 5, 3) := dk_164 0 5 (dk_at dksX8_later_0 20 rfl rfl)
theorem dX8_later_23 : decode cX8_later 23 = .ok (.iconst (-1), 1) := dk_2 (dk_at dksX8_later_0 23 rfl rfl)
theorem dX8_later_24 : decode cX8_later 24 = .ok (.ireturn, 1) := dk_172 (dk_at dksX8_later_1 0 rfl rfl)
theorem dX8_later_25 : decode cX8_later 25 = .ok (.aload_n 0, 1) := dk_42 (dk_at dksX8_later_1 1 rfl rfl)
theorem dX8_later_26 : decode cX8_later 26 = .ok (.dup, 1) := dk_89 (dk_at dksX8_later_1 2 rfl rfl)
theorem dX8_later_27 : decode cX8_later 27 = .ok (.getfield 545, 3) := dk_180 2 33 (dk_at dksX8_later_1 3 rfl rfl)
theorem dX8_later_30 : decode cX8_later 30 = .ok (.iload_n 1, 1) := dk_27 (dk_at dksX8_later_1 6 rfl rfl)
theorem dX8_later_31 : decode cX8_later 31 = .ok (.iadd, 1) := dk_96 (dk_at dksX8_later_1 7 rfl rfl)
theorem dX8_later_32 : decode cX8_later 32 = .ok (.putfield 545, 3) := dk_181 2 33 (dk_at dksX8_later_1 8 rfl rfl)
theorem dX8_later_35 : decode cX8_later 35 = .ok (.aload_n 0, 1) := dk_42 (dk_at dksX8_later_1 11 rfl rfl)
theorem dX8_later_36 : decode cX8_later 36 = .ok (.getfield 545, 3) := dk_180 2 33 (dk_at dksX8_later_1 12 rfl rfl)
theorem dX8_later_39 : decode cX8_later 39 = .ok (.ireturn, 1) := dk_172 (dk_at dksX8_later_1 15 rfl rfl)
abbrev cX8_fits : ByteArray := prog_20_method_119_code
def yX8_fits : MethodName := ⟨RX8, "fits", "(I)I"⟩
def dkwX8_fits_0 : List UInt8 := [42, 27, 182, 2, 44, 172]
abbrev dktX8_fits_0 : List UInt8 := dkwX8_fits_0 ++ []
theorem dksX8_fits_0 : cX8_fits.data.toList.drop 0 = dktX8_fits_0 := by decide +kernel
theorem dX8_fits_0 : decode cX8_fits 0 = .ok (.aload_n 0, 1) := dk_42 (dk_at dksX8_fits_0 0 rfl rfl)
theorem dX8_fits_1 : decode cX8_fits 1 = .ok (.iload_n 1, 1) := dk_27 (dk_at dksX8_fits_0 1 rfl rfl)
theorem dX8_fits_2 : decode cX8_fits 2 = .ok (.invokevirtual 556, 3) := dk_182 2 44 (dk_at dksX8_fits_0 2 rfl rfl)
theorem dX8_fits_5 : decode cX8_fits 5 = .ok (.ireturn, 1) := dk_172 (dk_at dksX8_fits_0 5 rfl rfl)
abbrev cX8_layFits : ByteArray := prog_20_method_118_code
def yX8_layFits : MethodName := ⟨RX8, "layFits", "(I)I"⟩
def dkwX8_layFits_14 : List UInt8 := [172]
abbrev dktX8_layFits_14 : List UInt8 := dkwX8_layFits_14 ++ []
def dkwX8_layFits_13 : List UInt8 := [21, 6, 46, 96, 4, 96, 92, 46, 4, 96, 79, 132, 6, 1, 167, 255, 221, 132, 3, 1, 167, 254, 210, 28]
abbrev dktX8_layFits_13 : List UInt8 := dkwX8_layFits_13 ++ dktX8_layFits_14
def dkwX8_layFits_12 : List UInt8 := [54, 6, 21, 6, 42, 180, 0, 81, 162, 0, 32, 42, 180, 0, 145, 6, 21, 6, 104, 42, 180, 0, 93]
abbrev dktX8_layFits_12 : List UInt8 := dkwX8_layFits_12 ++ dktX8_layFits_13
def dkwX8_layFits_11 : List UInt8 := [167, 0, 4, 3, 54, 5, 132, 6, 1, 167, 255, 184, 21, 5, 154, 0, 6, 167, 0, 47, 132, 2, 1, 3]
abbrev dktX8_layFits_11 : List UInt8 := dkwX8_layFits_11 ++ dktX8_layFits_12
def dkwX8_layFits_10 : List UInt8 := [21, 6, 46, 27, 164, 0, 19, 42, 21, 6, 182, 2, 41, 42, 180, 0, 136, 21, 6, 51, 160, 0, 7, 4]
abbrev dktX8_layFits_10 : List UInt8 := dkwX8_layFits_10 ++ dktX8_layFits_11
def dkwX8_layFits_9 : List UInt8 := [180, 0, 130, 21, 6, 46, 27, 163, 0, 40, 42, 180, 0, 133, 21, 6, 46, 155, 0, 14, 42, 180, 0, 133]
abbrev dktX8_layFits_9 : List UInt8 := dkwX8_layFits_9 ++ dktX8_layFits_10
def dkwX8_layFits_8 : List UInt8 := [167, 255, 183, 4, 54, 5, 3, 54, 6, 21, 6, 42, 180, 1, 164, 162, 0, 69, 21, 5, 153, 0, 64, 42]
abbrev dktX8_layFits_8 : List UInt8 := dkwX8_layFits_8 ++ dktX8_layFits_9
def dkwX8_layFits_7 : List UInt8 := [180, 0, 87, 3, 46, 79, 42, 180, 0, 142, 21, 5, 42, 180, 0, 87, 16, 8, 46, 79, 132, 5, 1]
abbrev dktX8_layFits_7 : List UInt8 := dkwX8_layFits_7 ++ dktX8_layFits_8
def dkwX8_layFits_6 : List UInt8 := [54, 4, 42, 3, 42, 180, 0, 93, 21, 5, 46, 4, 4, 182, 1, 203, 87, 42, 180, 0, 139, 21, 5, 42]
abbrev dktX8_layFits_6 : List UInt8 := dkwX8_layFits_6 ++ dktX8_layFits_7
def dkwX8_layFits_5 : List UInt8 := [180, 0, 81, 162, 0, 70, 42, 180, 0, 93, 21, 5, 21, 4, 6, 112, 4, 100, 79, 21, 4, 6, 108]
abbrev dktX8_layFits_5 : List UInt8 := dkwX8_layFits_5 ++ dktX8_layFits_6
def dkwX8_layFits_4 : List UInt8 := [167, 255, 233, 42, 180, 0, 87, 3, 42, 180, 0, 69, 3, 46, 79, 29, 54, 4, 3, 54, 5, 21, 5, 42]
abbrev dktX8_layFits_4 : List UInt8 := dkwX8_layFits_4 ++ dktX8_layFits_5
def dkwX8_layFits_3 : List UInt8 := [21, 4, 42, 180, 1, 65, 162, 0, 20, 42, 180, 0, 87, 16, 20, 21, 4, 96, 2, 79, 132, 4, 1]
abbrev dktX8_layFits_3 : List UInt8 := dkwX8_layFits_3 ++ dktX8_layFits_4
def dkwX8_layFits_2 : List UInt8 := [21, 4, 16, 28, 162, 0, 17, 42, 180, 0, 87, 21, 4, 3, 79, 132, 4, 1, 167, 255, 238, 3, 54, 4]
abbrev dktX8_layFits_2 : List UInt8 := dkwX8_layFits_2 ++ dktX8_layFits_3
def dkwX8_layFits_1 : List UInt8 := [62, 29, 6, 42, 180, 0, 81, 184, 1, 221, 162, 1, 40, 42, 180, 1, 149, 158, 1, 33, 3, 54, 4]
abbrev dktX8_layFits_1 : List UInt8 := dkwX8_layFits_1 ++ dktX8_layFits_2
def dkwX8_layFits_0 : List UInt8 := [3, 61, 3, 62, 29, 16, 18, 162, 0, 16, 42, 180, 0, 145, 29, 3, 79, 132, 3, 1, 167, 255, 240, 3]
abbrev dktX8_layFits_0 : List UInt8 := dkwX8_layFits_0 ++ dktX8_layFits_1
theorem dksX8_layFits_0 : cX8_layFits.data.toList.drop 0 = dktX8_layFits_0 := by decide +kernel
theorem dksX8_layFits_1 : cX8_layFits.data.toList.drop 24 = dktX8_layFits_1 := dk_seg dksX8_layFits_0 24 rfl rfl
theorem dksX8_layFits_2 : cX8_layFits.data.toList.drop 47 = dktX8_layFits_2 := dk_seg dksX8_layFits_1 23 rfl rfl
theorem dksX8_layFits_3 : cX8_layFits.data.toList.drop 71 = dktX8_layFits_3 := dk_seg dksX8_layFits_2 24 rfl rfl
theorem dksX8_layFits_4 : cX8_layFits.data.toList.drop 94 = dktX8_layFits_4 := dk_seg dksX8_layFits_3 23 rfl rfl
theorem dksX8_layFits_5 : cX8_layFits.data.toList.drop 118 = dktX8_layFits_5 := dk_seg dksX8_layFits_4 24 rfl rfl
theorem dksX8_layFits_6 : cX8_layFits.data.toList.drop 141 = dktX8_layFits_6 := dk_seg dksX8_layFits_5 23 rfl rfl
theorem dksX8_layFits_7 : cX8_layFits.data.toList.drop 165 = dktX8_layFits_7 := dk_seg dksX8_layFits_6 24 rfl rfl
theorem dksX8_layFits_8 : cX8_layFits.data.toList.drop 188 = dktX8_layFits_8 := dk_seg dksX8_layFits_7 23 rfl rfl
theorem dksX8_layFits_9 : cX8_layFits.data.toList.drop 212 = dktX8_layFits_9 := dk_seg dksX8_layFits_8 24 rfl rfl
theorem dksX8_layFits_10 : cX8_layFits.data.toList.drop 236 = dktX8_layFits_10 := dk_seg dksX8_layFits_9 24 rfl rfl
theorem dksX8_layFits_11 : cX8_layFits.data.toList.drop 260 = dktX8_layFits_11 := dk_seg dksX8_layFits_10 24 rfl rfl
theorem dksX8_layFits_12 : cX8_layFits.data.toList.drop 284 = dktX8_layFits_12 := dk_seg dksX8_layFits_11 24 rfl rfl
theorem dksX8_layFits_13 : cX8_layFits.data.toList.drop 307 = dktX8_layFits_13 := dk_seg dksX8_layFits_12 23 rfl rfl
theorem dksX8_layFits_14 : cX8_layFits.data.toList.drop 331 = dktX8_layFits_14 := dk_seg dksX8_layFits_13 24 rfl rfl
theorem dX8_layFits_0 : decode cX8_layFits 0 = .ok (.iconst 0, 1) := dk_3 (dk_at dksX8_layFits_0 0 rfl rfl)
theorem dX8_layFits_1 : decode cX8_layFits 1 = .ok (.istore_n 2, 1) := dk_61 (dk_at dksX8_layFits_0 1 rfl rfl)
theorem dX8_layFits_2 : decode cX8_layFits 2 = .ok (.iconst 0, 1) := dk_3 (dk_at dksX8_layFits_0 2 rfl rfl)
theorem dX8_layFits_3 : decode cX8_layFits 3 = .ok (.istore_n 3, 1) := dk_62 (dk_at dksX8_layFits_0 3 rfl rfl)
theorem dX8_layFits_4 : decode cX8_layFits 4 = .ok (.iload_n 3, 1) := dk_29 (dk_at dksX8_layFits_0 4 rfl rfl)
theorem dX8_layFits_5 : decode cX8_layFits 5 = .ok (.bipush 18, 2) := dk_16 18 (dk_at dksX8_layFits_0 5 rfl rfl)
theorem dX8_layFits_7 : decode cX8_layFits 7 = .ok (.if_icmp .ge 16, 3) := dk_162 0 16 (dk_at dksX8_layFits_0 7 rfl rfl)
theorem dX8_layFits_10 : decode cX8_layFits 10 = .ok (.aload_n 0, 1) := dk_42 (dk_at dksX8_layFits_0 10 rfl rfl)
theorem dX8_layFits_11 : decode cX8_layFits 11 = .ok (.getfield 145, 3) := dk_180 0 145 (dk_at dksX8_layFits_0 11 rfl rfl)
theorem dX8_layFits_14 : decode cX8_layFits 14 = .ok (.iload_n 3, 1) := dk_29 (dk_at dksX8_layFits_0 14 rfl rfl)
theorem dX8_layFits_15 : decode cX8_layFits 15 = .ok (.iconst 0, 1) := dk_3 (dk_at dksX8_layFits_0 15 rfl rfl)
theorem dX8_layFits_16 : decode cX8_layFits 16 = .ok (.iastore, 1) := dk_79 (dk_at dksX8_layFits_0 16 rfl rfl)
theorem dX8_layFits_17 : decode cX8_layFits 17 = .ok (.iinc 3 1, 3) := dk_132 3 1 (dk_at dksX8_layFits_0 17 rfl rfl)
theorem dX8_layFits_20 : decode cX8_layFits 20 = .ok (.goto (-16), 3) := dk_167 255 240 (dk_at dksX8_layFits_0 20 rfl rfl)
theorem dX8_layFits_23 : decode cX8_layFits 23 = .ok (.iconst 0, 1) := dk_3 (dk_at dksX8_layFits_0 23 rfl rfl)
theorem dX8_layFits_24 : decode cX8_layFits 24 = .ok (.istore_n 3, 1) := dk_62 (dk_at dksX8_layFits_1 0 rfl rfl)
theorem dX8_layFits_25 : decode cX8_layFits 25 = .ok (.iload_n 3, 1) := dk_29 (dk_at dksX8_layFits_1 1 rfl rfl)
theorem dX8_layFits_26 : decode cX8_layFits 26 = .ok (.iconst 3, 1) := dk_6 (dk_at dksX8_layFits_1 2 rfl rfl)
theorem dX8_layFits_27 : decode cX8_layFits 27 = .ok (.aload_n 0, 1) := dk_42 (dk_at dksX8_layFits_1 3 rfl rfl)
theorem dX8_layFits_28 : decode cX8_layFits 28 = .ok (.getfield 81, 3) := dk_180 0 81 (dk_at dksX8_layFits_1 4 rfl rfl)
theorem dX8_layFits_31 : decode cX8_layFits 31 = .ok (.invokestatic 477, 3) := dk_184 1 221 (dk_at dksX8_layFits_1 7 rfl rfl)
theorem dX8_layFits_34 : decode cX8_layFits 34 = .ok (.if_icmp .ge 296, 3) := dk_162 1 40 (dk_at dksX8_layFits_1 10 rfl rfl)
theorem dX8_layFits_37 : decode cX8_layFits 37 = .ok (.aload_n 0, 1) := dk_42 (dk_at dksX8_layFits_1 13 rfl rfl)
theorem dX8_layFits_38 : decode cX8_layFits 38 = .ok (.getfield 405, 3) := dk_180 1 149 (dk_at dksX8_layFits_1 14 rfl rfl)
theorem dX8_layFits_41 : decode cX8_layFits 41 = .ok (.ifCond .le 289, 3) := dk_158 1 33 (dk_at dksX8_layFits_1 17 rfl rfl)
theorem dX8_layFits_44 : decode cX8_layFits 44 = .ok (.iconst 0, 1) := dk_3 (dk_at dksX8_layFits_1 20 rfl rfl)
theorem dX8_layFits_45 : decode cX8_layFits 45 = .ok (.istore 4, 2) := dk_54 4 (dk_at dksX8_layFits_1 21 rfl rfl)
theorem dX8_layFits_47 : decode cX8_layFits 47 = .ok (.iload 4, 2) := dk_21 4 (dk_at dksX8_layFits_2 0 rfl rfl)
theorem dX8_layFits_49 : decode cX8_layFits 49 = .ok (.bipush 28, 2) := dk_16 28 (dk_at dksX8_layFits_2 2 rfl rfl)
theorem dX8_layFits_51 : decode cX8_layFits 51 = .ok (.if_icmp .ge 17, 3) := dk_162 0 17 (dk_at dksX8_layFits_2 4 rfl rfl)
theorem dX8_layFits_54 : decode cX8_layFits 54 = .ok (.aload_n 0, 1) := dk_42 (dk_at dksX8_layFits_2 7 rfl rfl)
theorem dX8_layFits_55 : decode cX8_layFits 55 = .ok (.getfield 87, 3) := dk_180 0 87 (dk_at dksX8_layFits_2 8 rfl rfl)
theorem dX8_layFits_58 : decode cX8_layFits 58 = .ok (.iload 4, 2) := dk_21 4 (dk_at dksX8_layFits_2 11 rfl rfl)
theorem dX8_layFits_60 : decode cX8_layFits 60 = .ok (.iconst 0, 1) := dk_3 (dk_at dksX8_layFits_2 13 rfl rfl)
theorem dX8_layFits_61 : decode cX8_layFits 61 = .ok (.iastore, 1) := dk_79 (dk_at dksX8_layFits_2 14 rfl rfl)
theorem dX8_layFits_62 : decode cX8_layFits 62 = .ok (.iinc 4 1, 3) := dk_132 4 1 (dk_at dksX8_layFits_2 15 rfl rfl)
theorem dX8_layFits_65 : decode cX8_layFits 65 = .ok (.goto (-18), 3) := dk_167 255 238 (dk_at dksX8_layFits_2 18 rfl rfl)
theorem dX8_layFits_68 : decode cX8_layFits 68 = .ok (.iconst 0, 1) := dk_3 (dk_at dksX8_layFits_2 21 rfl rfl)
theorem dX8_layFits_69 : decode cX8_layFits 69 = .ok (.istore 4, 2) := dk_54 4 (dk_at dksX8_layFits_2 22 rfl rfl)
theorem dX8_layFits_71 : decode cX8_layFits 71 = .ok (.iload 4, 2) := dk_21 4 (dk_at dksX8_layFits_3 0 rfl rfl)
theorem dX8_layFits_73 : decode cX8_layFits 73 = .ok (.aload_n 0, 1) := dk_42 (dk_at dksX8_layFits_3 2 rfl rfl)
theorem dX8_layFits_74 : decode cX8_layFits 74 = .ok (.getfield 321, 3) := dk_180 1 65 (dk_at dksX8_layFits_3 3 rfl rfl)
theorem dX8_layFits_77 : decode cX8_layFits 77 = .ok (.if_icmp .ge 20, 3) := dk_162 0 20 (dk_at dksX8_layFits_3 6 rfl rfl)
theorem dX8_layFits_80 : decode cX8_layFits 80 = .ok (.aload_n 0, 1) := dk_42 (dk_at dksX8_layFits_3 9 rfl rfl)
theorem dX8_layFits_81 : decode cX8_layFits 81 = .ok (.getfield 87, 3) := dk_180 0 87 (dk_at dksX8_layFits_3 10 rfl rfl)
theorem dX8_layFits_84 : decode cX8_layFits 84 = .ok (.bipush 20, 2) := dk_16 20 (dk_at dksX8_layFits_3 13 rfl rfl)
theorem dX8_layFits_86 : decode cX8_layFits 86 = .ok (.iload 4, 2) := dk_21 4 (dk_at dksX8_layFits_3 15 rfl rfl)
theorem dX8_layFits_88 : decode cX8_layFits 88 = .ok (.iadd, 1) := dk_96 (dk_at dksX8_layFits_3 17 rfl rfl)
theorem dX8_layFits_89 : decode cX8_layFits 89 = .ok (.iconst (-1), 1) := dk_2 (dk_at dksX8_layFits_3 18 rfl rfl)
theorem dX8_layFits_90 : decode cX8_layFits 90 = .ok (.iastore, 1) := dk_79 (dk_at dksX8_layFits_3 19 rfl rfl)
theorem dX8_layFits_91 : decode cX8_layFits 91 = .ok (.iinc 4 1, 3) := dk_132 4 1 (dk_at dksX8_layFits_3 20 rfl rfl)
theorem dX8_layFits_94 : decode cX8_layFits 94 = .ok (.goto (-23), 3) := dk_167 255 233 (dk_at dksX8_layFits_4 0 rfl rfl)
theorem dX8_layFits_97 : decode cX8_layFits 97 = .ok (.aload_n 0, 1) := dk_42 (dk_at dksX8_layFits_4 3 rfl rfl)
theorem dX8_layFits_98 : decode cX8_layFits 98 = .ok (.getfield 87, 3) := dk_180 0 87 (dk_at dksX8_layFits_4 4 rfl rfl)
theorem dX8_layFits_101 : decode cX8_layFits 101 = .ok (.iconst 0, 1) := dk_3 (dk_at dksX8_layFits_4 7 rfl rfl)
theorem dX8_layFits_102 : decode cX8_layFits 102 = .ok (.aload_n 0, 1) := dk_42 (dk_at dksX8_layFits_4 8 rfl rfl)
theorem dX8_layFits_103 : decode cX8_layFits 103 = .ok (.getfield 69, 3) := dk_180 0 69 (dk_at dksX8_layFits_4 9 rfl rfl)
theorem dX8_layFits_106 : decode cX8_layFits 106 = .ok (.iconst 0, 1) := dk_3 (dk_at dksX8_layFits_4 12 rfl rfl)
theorem dX8_layFits_107 : decode cX8_layFits 107 = .ok (.iaload, 1) := dk_46 (dk_at dksX8_layFits_4 13 rfl rfl)
theorem dX8_layFits_108 : decode cX8_layFits 108 = .ok (.iastore, 1) := dk_79 (dk_at dksX8_layFits_4 14 rfl rfl)
theorem dX8_layFits_109 : decode cX8_layFits 109 = .ok (.iload_n 3, 1) := dk_29 (dk_at dksX8_layFits_4 15 rfl rfl)
theorem dX8_layFits_110 : decode cX8_layFits 110 = .ok (.istore 4, 2) := dk_54 4 (dk_at dksX8_layFits_4 16 rfl rfl)
theorem dX8_layFits_112 : decode cX8_layFits 112 = .ok (.iconst 0, 1) := dk_3 (dk_at dksX8_layFits_4 18 rfl rfl)
theorem dX8_layFits_113 : decode cX8_layFits 113 = .ok (.istore 5, 2) := dk_54 5 (dk_at dksX8_layFits_4 19 rfl rfl)
theorem dX8_layFits_115 : decode cX8_layFits 115 = .ok (.iload 5, 2) := dk_21 5 (dk_at dksX8_layFits_4 21 rfl rfl)
theorem dX8_layFits_117 : decode cX8_layFits 117 = .ok (.aload_n 0, 1) := dk_42 (dk_at dksX8_layFits_4 23 rfl rfl)
theorem dX8_layFits_118 : decode cX8_layFits 118 = .ok (.getfield 81, 3) := dk_180 0 81 (dk_at dksX8_layFits_5 0 rfl rfl)
theorem dX8_layFits_121 : decode cX8_layFits 121 = .ok (.if_icmp .ge 70, 3) := dk_162 0 70 (dk_at dksX8_layFits_5 3 rfl rfl)
theorem dX8_layFits_124 : decode cX8_layFits 124 = .ok (.aload_n 0, 1) := dk_42 (dk_at dksX8_layFits_5 6 rfl rfl)
theorem dX8_layFits_125 : decode cX8_layFits 125 = .ok (.getfield 93, 3) := dk_180 0 93 (dk_at dksX8_layFits_5 7 rfl rfl)
theorem dX8_layFits_128 : decode cX8_layFits 128 = .ok (.iload 5, 2) := dk_21 5 (dk_at dksX8_layFits_5 10 rfl rfl)
theorem dX8_layFits_130 : decode cX8_layFits 130 = .ok (.iload 4, 2) := dk_21 4 (dk_at dksX8_layFits_5 12 rfl rfl)
theorem dX8_layFits_132 : decode cX8_layFits 132 = .ok (.iconst 3, 1) := dk_6 (dk_at dksX8_layFits_5 14 rfl rfl)
theorem dX8_layFits_133 : decode cX8_layFits 133 = .ok (.irem, 1) := dk_112 (dk_at dksX8_layFits_5 15 rfl rfl)
theorem dX8_layFits_134 : decode cX8_layFits 134 = .ok (.iconst 1, 1) := dk_4 (dk_at dksX8_layFits_5 16 rfl rfl)
theorem dX8_layFits_135 : decode cX8_layFits 135 = .ok (.isub, 1) := dk_100 (dk_at dksX8_layFits_5 17 rfl rfl)
theorem dX8_layFits_136 : decode cX8_layFits 136 = .ok (.iastore, 1) := dk_79 (dk_at dksX8_layFits_5 18 rfl rfl)
theorem dX8_layFits_137 : decode cX8_layFits 137 = .ok (.iload 4, 2) := dk_21 4 (dk_at dksX8_layFits_5 19 rfl rfl)
theorem dX8_layFits_139 : decode cX8_layFits 139 = .ok (.iconst 3, 1) := dk_6 (dk_at dksX8_layFits_5 21 rfl rfl)
theorem dX8_layFits_140 : decode cX8_layFits 140 = .ok (.idiv, 1) := dk_108 (dk_at dksX8_layFits_5 22 rfl rfl)
theorem dX8_layFits_141 : decode cX8_layFits 141 = .ok (.istore 4, 2) := dk_54 4 (dk_at dksX8_layFits_6 0 rfl rfl)
theorem dX8_layFits_143 : decode cX8_layFits 143 = .ok (.aload_n 0, 1) := dk_42 (dk_at dksX8_layFits_6 2 rfl rfl)
theorem dX8_layFits_144 : decode cX8_layFits 144 = .ok (.iconst 0, 1) := dk_3 (dk_at dksX8_layFits_6 3 rfl rfl)
theorem dX8_layFits_145 : decode cX8_layFits 145 = .ok (.aload_n 0, 1) := dk_42 (dk_at dksX8_layFits_6 4 rfl rfl)
theorem dX8_layFits_146 : decode cX8_layFits 146 = .ok (.getfield 93, 3) := dk_180 0 93 (dk_at dksX8_layFits_6 5 rfl rfl)
theorem dX8_layFits_149 : decode cX8_layFits 149 = .ok (.iload 5, 2) := dk_21 5 (dk_at dksX8_layFits_6 8 rfl rfl)
theorem dX8_layFits_151 : decode cX8_layFits 151 = .ok (.iaload, 1) := dk_46 (dk_at dksX8_layFits_6 10 rfl rfl)
theorem dX8_layFits_152 : decode cX8_layFits 152 = .ok (.iconst 1, 1) := dk_4 (dk_at dksX8_layFits_6 11 rfl rfl)
theorem dX8_layFits_153 : decode cX8_layFits 153 = .ok (.iconst 1, 1) := dk_4 (dk_at dksX8_layFits_6 12 rfl rfl)
theorem dX8_layFits_154 : decode cX8_layFits 154 = .ok (.invokevirtual 459, 3) := dk_182 1 203 (dk_at dksX8_layFits_6 13 rfl rfl)
theorem dX8_layFits_157 : decode cX8_layFits 157 = .ok (.pop, 1) := dk_87 (dk_at dksX8_layFits_6 16 rfl rfl)
theorem dX8_layFits_158 : decode cX8_layFits 158 = .ok (.aload_n 0, 1) := dk_42 (dk_at dksX8_layFits_6 17 rfl rfl)
theorem dX8_layFits_159 : decode cX8_layFits 159 = .ok (.getfield 139, 3) := dk_180 0 139 (dk_at dksX8_layFits_6 18 rfl rfl)
theorem dX8_layFits_162 : decode cX8_layFits 162 = .ok (.iload 5, 2) := dk_21 5 (dk_at dksX8_layFits_6 21 rfl rfl)
theorem dX8_layFits_164 : decode cX8_layFits 164 = .ok (.aload_n 0, 1) := dk_42 (dk_at dksX8_layFits_6 23 rfl rfl)
theorem dX8_layFits_165 : decode cX8_layFits 165 = .ok (.getfield 87, 3) := dk_180 0 87 (dk_at dksX8_layFits_7 0 rfl rfl)
theorem dX8_layFits_168 : decode cX8_layFits 168 = .ok (.iconst 0, 1) := dk_3 (dk_at dksX8_layFits_7 3 rfl rfl)
theorem dX8_layFits_169 : decode cX8_layFits 169 = .ok (.iaload, 1) := dk_46 (dk_at dksX8_layFits_7 4 rfl rfl)
theorem dX8_layFits_170 : decode cX8_layFits 170 = .ok (.iastore, 1) := dk_79 (dk_at dksX8_layFits_7 5 rfl rfl)
theorem dX8_layFits_171 : decode cX8_layFits 171 = .ok (.aload_n 0, 1) := dk_42 (dk_at dksX8_layFits_7 6 rfl rfl)
theorem dX8_layFits_172 : decode cX8_layFits 172 = .ok (.getfield 142, 3) := dk_180 0 142 (dk_at dksX8_layFits_7 7 rfl rfl)
theorem dX8_layFits_175 : decode cX8_layFits 175 = .ok (.iload 5, 2) := dk_21 5 (dk_at dksX8_layFits_7 10 rfl rfl)
theorem dX8_layFits_177 : decode cX8_layFits 177 = .ok (.aload_n 0, 1) := dk_42 (dk_at dksX8_layFits_7 12 rfl rfl)
theorem dX8_layFits_178 : decode cX8_layFits 178 = .ok (.getfield 87, 3) := dk_180 0 87 (dk_at dksX8_layFits_7 13 rfl rfl)
theorem dX8_layFits_181 : decode cX8_layFits 181 = .ok (.bipush 8, 2) := dk_16 8 (dk_at dksX8_layFits_7 16 rfl rfl)
theorem dX8_layFits_183 : decode cX8_layFits 183 = .ok (.iaload, 1) := dk_46 (dk_at dksX8_layFits_7 18 rfl rfl)
theorem dX8_layFits_184 : decode cX8_layFits 184 = .ok (.iastore, 1) := dk_79 (dk_at dksX8_layFits_7 19 rfl rfl)
theorem dX8_layFits_185 : decode cX8_layFits 185 = .ok (.iinc 5 1, 3) := dk_132 5 1 (dk_at dksX8_layFits_7 20 rfl rfl)
theorem dX8_layFits_188 : decode cX8_layFits 188 = .ok (.goto (-73), 3) := dk_167 255 183 (dk_at dksX8_layFits_8 0 rfl rfl)
theorem dX8_layFits_191 : decode cX8_layFits 191 = .ok (.iconst 1, 1) := dk_4 (dk_at dksX8_layFits_8 3 rfl rfl)
theorem dX8_layFits_192 : decode cX8_layFits 192 = .ok (.istore 5, 2) := dk_54 5 (dk_at dksX8_layFits_8 4 rfl rfl)
theorem dX8_layFits_194 : decode cX8_layFits 194 = .ok (.iconst 0, 1) := dk_3 (dk_at dksX8_layFits_8 6 rfl rfl)
theorem dX8_layFits_195 : decode cX8_layFits 195 = .ok (.istore 6, 2) := dk_54 6 (dk_at dksX8_layFits_8 7 rfl rfl)
theorem dX8_layFits_197 : decode cX8_layFits 197 = .ok (.iload 6, 2) := dk_21 6 (dk_at dksX8_layFits_8 9 rfl rfl)
theorem dX8_layFits_199 : decode cX8_layFits 199 = .ok (.aload_n 0, 1) := dk_42 (dk_at dksX8_layFits_8 11 rfl rfl)
theorem dX8_layFits_200 : decode cX8_layFits 200 = .ok (.getfield 420, 3) := dk_180 1 164 (dk_at dksX8_layFits_8 12 rfl rfl)
theorem dX8_layFits_203 : decode cX8_layFits 203 = .ok (.if_icmp .ge 69, 3) := dk_162 0 69 (dk_at dksX8_layFits_8 15 rfl rfl)
theorem dX8_layFits_206 : decode cX8_layFits 206 = .ok (.iload 5, 2) := dk_21 5 (dk_at dksX8_layFits_8 18 rfl rfl)
theorem dX8_layFits_208 : decode cX8_layFits 208 = .ok (.ifCond .eq 64, 3) := dk_153 0 64 (dk_at dksX8_layFits_8 20 rfl rfl)
theorem dX8_layFits_211 : decode cX8_layFits 211 = .ok (.aload_n 0, 1) := dk_42 (dk_at dksX8_layFits_8 23 rfl rfl)
theorem dX8_layFits_212 : decode cX8_layFits 212 = .ok (.getfield 130, 3) := dk_180 0 130 (dk_at dksX8_layFits_9 0 rfl rfl)
theorem dX8_layFits_215 : decode cX8_layFits 215 = .ok (.iload 6, 2) := dk_21 6 (dk_at dksX8_layFits_9 3 rfl rfl)
theorem dX8_layFits_217 : decode cX8_layFits 217 = .ok (.iaload, 1) := dk_46 (dk_at dksX8_layFits_9 5 rfl rfl)
theorem dX8_layFits_218 : decode cX8_layFits 218 = .ok (.iload_n 1, 1) := dk_27 (dk_at dksX8_layFits_9 6 rfl rfl)
theorem dX8_layFits_219 : decode cX8_layFits 219 = .ok (.if_icmp .gt 40, 3) := dk_163 0 40 (dk_at dksX8_layFits_9 7 rfl rfl)
theorem dX8_layFits_222 : decode cX8_layFits 222 = .ok (.aload_n 0, 1) := dk_42 (dk_at dksX8_layFits_9 10 rfl rfl)
theorem dX8_layFits_223 : decode cX8_layFits 223 = .ok (.getfield 133, 3) := dk_180 0 133 (dk_at dksX8_layFits_9 11 rfl rfl)
theorem dX8_layFits_226 : decode cX8_layFits 226 = .ok (.iload 6, 2) := dk_21 6 (dk_at dksX8_layFits_9 14 rfl rfl)
theorem dX8_layFits_228 : decode cX8_layFits 228 = .ok (.iaload, 1) := dk_46 (dk_at dksX8_layFits_9 16 rfl rfl)
theorem dX8_layFits_229 : decode cX8_layFits 229 = .ok (.ifCond .lt 14, 3) := dk_155 0 14 (dk_at dksX8_layFits_9 17 rfl rfl)
theorem dX8_layFits_232 : decode cX8_layFits 232 = .ok (.aload_n 0, 1) := dk_42 (dk_at dksX8_layFits_9 20 rfl rfl)
theorem dX8_layFits_233 : decode cX8_layFits 233 = .ok (.getfield 133, 3) := dk_180 0 133 (dk_at dksX8_layFits_9 21 rfl rfl)
theorem dX8_layFits_236 : decode cX8_layFits 236 = .ok (.iload 6, 2) := dk_21 6 (dk_at dksX8_layFits_10 0 rfl rfl)
theorem dX8_layFits_238 : decode cX8_layFits 238 = .ok (.iaload, 1) := dk_46 (dk_at dksX8_layFits_10 2 rfl rfl)
theorem dX8_layFits_239 : decode cX8_layFits 239 = .ok (.iload_n 1, 1) := dk_27 (dk_at dksX8_layFits_10 3 rfl rfl)
theorem dX8_layFits_240 : decode cX8_layFits 240 = .ok (.if_icmp .le 19, 3) := dk_164 0 19 (dk_at dksX8_layFits_10 4 rfl rfl)
theorem dX8_layFits_243 : decode cX8_layFits 243 = .ok (.aload_n 0, 1) := dk_42 (dk_at dksX8_layFits_10 7 rfl rfl)
theorem dX8_layFits_244 : decode cX8_layFits 244 = .ok (.iload 6, 2) := dk_21 6 (dk_at dksX8_layFits_10 8 rfl rfl)
theorem dX8_layFits_246 : decode cX8_layFits 246 = .ok (.invokevirtual 553, 3) := dk_182 2 41 (dk_at dksX8_layFits_10 10 rfl rfl)
theorem dX8_layFits_249 : decode cX8_layFits 249 = .ok (.aload_n 0, 1) := dk_42 (dk_at dksX8_layFits_10 13 rfl rfl)
theorem dX8_layFits_250 : decode cX8_layFits 250 = .ok (.getfield 136, 3) := dk_180 0 136 (dk_at dksX8_layFits_10 14 rfl rfl)
theorem dX8_layFits_253 : decode cX8_layFits 253 = .ok (.iload 6, 2) := dk_21 6 (dk_at dksX8_layFits_10 17 rfl rfl)
theorem dX8_layFits_255 : decode cX8_layFits 255 = .ok (.baload, 1) := dk_51 (dk_at dksX8_layFits_10 19 rfl rfl)
theorem dX8_layFits_256 : decode cX8_layFits 256 = .ok (.if_icmp .ne 7, 3) := dk_160 0 7 (dk_at dksX8_layFits_10 20 rfl rfl)
theorem dX8_layFits_259 : decode cX8_layFits 259 = .ok (.iconst 1, 1) := dk_4 (dk_at dksX8_layFits_10 23 rfl rfl)
theorem dX8_layFits_260 : decode cX8_layFits 260 = .ok (.goto 4, 3) := dk_167 0 4 (dk_at dksX8_layFits_11 0 rfl rfl)
theorem dX8_layFits_263 : decode cX8_layFits 263 = .ok (.iconst 0, 1) := dk_3 (dk_at dksX8_layFits_11 3 rfl rfl)
theorem dX8_layFits_264 : decode cX8_layFits 264 = .ok (.istore 5, 2) := dk_54 5 (dk_at dksX8_layFits_11 4 rfl rfl)
theorem dX8_layFits_266 : decode cX8_layFits 266 = .ok (.iinc 6 1, 3) := dk_132 6 1 (dk_at dksX8_layFits_11 6 rfl rfl)
theorem dX8_layFits_269 : decode cX8_layFits 269 = .ok (.goto (-72), 3) := dk_167 255 184 (dk_at dksX8_layFits_11 9 rfl rfl)
theorem dX8_layFits_272 : decode cX8_layFits 272 = .ok (.iload 5, 2) := dk_21 5 (dk_at dksX8_layFits_11 12 rfl rfl)
theorem dX8_layFits_274 : decode cX8_layFits 274 = .ok (.ifCond .ne 6, 3) := dk_154 0 6 (dk_at dksX8_layFits_11 14 rfl rfl)
theorem dX8_layFits_277 : decode cX8_layFits 277 = .ok (.goto 47, 3) := dk_167 0 47 (dk_at dksX8_layFits_11 17 rfl rfl)
theorem dX8_layFits_280 : decode cX8_layFits 280 = .ok (.iinc 2 1, 3) := dk_132 2 1 (dk_at dksX8_layFits_11 20 rfl rfl)
theorem dX8_layFits_283 : decode cX8_layFits 283 = .ok (.iconst 0, 1) := dk_3 (dk_at dksX8_layFits_11 23 rfl rfl)
theorem dX8_layFits_284 : decode cX8_layFits 284 = .ok (.istore 6, 2) := dk_54 6 (dk_at dksX8_layFits_12 0 rfl rfl)
theorem dX8_layFits_286 : decode cX8_layFits 286 = .ok (.iload 6, 2) := dk_21 6 (dk_at dksX8_layFits_12 2 rfl rfl)
theorem dX8_layFits_288 : decode cX8_layFits 288 = .ok (.aload_n 0, 1) := dk_42 (dk_at dksX8_layFits_12 4 rfl rfl)
theorem dX8_layFits_289 : decode cX8_layFits 289 = .ok (.getfield 81, 3) := dk_180 0 81 (dk_at dksX8_layFits_12 5 rfl rfl)
theorem dX8_layFits_292 : decode cX8_layFits 292 = .ok (.if_icmp .ge 32, 3) := dk_162 0 32 (dk_at dksX8_layFits_12 8 rfl rfl)
theorem dX8_layFits_295 : decode cX8_layFits 295 = .ok (.aload_n 0, 1) := dk_42 (dk_at dksX8_layFits_12 11 rfl rfl)
theorem dX8_layFits_296 : decode cX8_layFits 296 = .ok (.getfield 145, 3) := dk_180 0 145 (dk_at dksX8_layFits_12 12 rfl rfl)
theorem dX8_layFits_299 : decode cX8_layFits 299 = .ok (.iconst 3, 1) := dk_6 (dk_at dksX8_layFits_12 15 rfl rfl)
theorem dX8_layFits_300 : decode cX8_layFits 300 = .ok (.iload 6, 2) := dk_21 6 (dk_at dksX8_layFits_12 16 rfl rfl)
theorem dX8_layFits_302 : decode cX8_layFits 302 = .ok (.imul, 1) := dk_104 (dk_at dksX8_layFits_12 18 rfl rfl)
theorem dX8_layFits_303 : decode cX8_layFits 303 = .ok (.aload_n 0, 1) := dk_42 (dk_at dksX8_layFits_12 19 rfl rfl)
theorem dX8_layFits_304 : decode cX8_layFits 304 = .ok (.getfield 93, 3) := dk_180 0 93 (dk_at dksX8_layFits_12 20 rfl rfl)
theorem dX8_layFits_307 : decode cX8_layFits 307 = .ok (.iload 6, 2) := dk_21 6 (dk_at dksX8_layFits_13 0 rfl rfl)
theorem dX8_layFits_309 : decode cX8_layFits 309 = .ok (.iaload, 1) := dk_46 (dk_at dksX8_layFits_13 2 rfl rfl)
theorem dX8_layFits_310 : decode cX8_layFits 310 = .ok (.iadd, 1) := dk_96 (dk_at dksX8_layFits_13 3 rfl rfl)
theorem dX8_layFits_311 : decode cX8_layFits 311 = .ok (.iconst 1, 1) := dk_4 (dk_at dksX8_layFits_13 4 rfl rfl)
theorem dX8_layFits_312 : decode cX8_layFits 312 = .ok (.iadd, 1) := dk_96 (dk_at dksX8_layFits_13 5 rfl rfl)
theorem dX8_layFits_313 : decode cX8_layFits 313 = .ok (.dup2, 1) := dk_92 (dk_at dksX8_layFits_13 6 rfl rfl)
theorem dX8_layFits_314 : decode cX8_layFits 314 = .ok (.iaload, 1) := dk_46 (dk_at dksX8_layFits_13 7 rfl rfl)
theorem dX8_layFits_315 : decode cX8_layFits 315 = .ok (.iconst 1, 1) := dk_4 (dk_at dksX8_layFits_13 8 rfl rfl)
theorem dX8_layFits_316 : decode cX8_layFits 316 = .ok (.iadd, 1) := dk_96 (dk_at dksX8_layFits_13 9 rfl rfl)
theorem dX8_layFits_317 : decode cX8_layFits 317 = .ok (.iastore, 1) := dk_79 (dk_at dksX8_layFits_13 10 rfl rfl)
theorem dX8_layFits_318 : decode cX8_layFits 318 = .ok (.iinc 6 1, 3) := dk_132 6 1 (dk_at dksX8_layFits_13 11 rfl rfl)
theorem dX8_layFits_321 : decode cX8_layFits 321 = .ok (.goto (-35), 3) := dk_167 255 221 (dk_at dksX8_layFits_13 14 rfl rfl)
theorem dX8_layFits_324 : decode cX8_layFits 324 = .ok (.iinc 3 1, 3) := dk_132 3 1 (dk_at dksX8_layFits_13 17 rfl rfl)
theorem dX8_layFits_327 : decode cX8_layFits 327 = .ok (.goto (-302), 3) := dk_167 254 210 (dk_at dksX8_layFits_13 20 rfl rfl)
theorem dX8_layFits_330 : decode cX8_layFits 330 = .ok (.iload_n 2, 1) := dk_28 (dk_at dksX8_layFits_13 23 rfl rfl)
theorem dX8_layFits_331 : decode cX8_layFits 331 = .ok (.ireturn, 1) := dk_172 (dk_at dksX8_layFits_14 0 rfl rfl)
abbrev cX8_isSo : ByteArray := prog_20_method_117_code
def yX8_isSo : MethodName := ⟨RX8, "isSo", "(I)Z"⟩
def dkwX8_isSo_1 : List UInt8 := [167, 0, 9, 42, 180, 0, 142, 28, 46, 42, 180, 0, 127, 27, 46, 161, 0, 7, 4, 167, 0, 4, 3, 172]
abbrev dktX8_isSo_1 : List UInt8 := dkwX8_isSo_1 ++ []
def dkwX8_isSo_0 : List UInt8 := [42, 180, 0, 124, 27, 46, 4, 100, 61, 42, 180, 0, 121, 27, 46, 154, 0, 12, 42, 180, 0, 139, 28, 46]
abbrev dktX8_isSo_0 : List UInt8 := dkwX8_isSo_0 ++ dktX8_isSo_1
theorem dksX8_isSo_0 : cX8_isSo.data.toList.drop 0 = dktX8_isSo_0 := by decide +kernel
theorem dksX8_isSo_1 : cX8_isSo.data.toList.drop 24 = dktX8_isSo_1 := dk_seg dksX8_isSo_0 24 rfl rfl
theorem dX8_isSo_0 : decode cX8_isSo 0 = .ok (.aload_n 0, 1) := dk_42 (dk_at dksX8_isSo_0 0 rfl rfl)
theorem dX8_isSo_1 : decode cX8_isSo 1 = .ok (.getfield 124, 3) := dk_180 0 124 (dk_at dksX8_isSo_0 1 rfl rfl)
theorem dX8_isSo_4 : decode cX8_isSo 4 = .ok (.iload_n 1, 1) := dk_27 (dk_at dksX8_isSo_0 4 rfl rfl)
theorem dX8_isSo_5 : decode cX8_isSo 5 = .ok (.iaload, 1) := dk_46 (dk_at dksX8_isSo_0 5 rfl rfl)
theorem dX8_isSo_6 : decode cX8_isSo 6 = .ok (.iconst 1, 1) := dk_4 (dk_at dksX8_isSo_0 6 rfl rfl)
theorem dX8_isSo_7 : decode cX8_isSo 7 = .ok (.isub, 1) := dk_100 (dk_at dksX8_isSo_0 7 rfl rfl)
theorem dX8_isSo_8 : decode cX8_isSo 8 = .ok (.istore_n 2, 1) := dk_61 (dk_at dksX8_isSo_0 8 rfl rfl)
theorem dX8_isSo_9 : decode cX8_isSo 9 = .ok (.aload_n 0, 1) := dk_42 (dk_at dksX8_isSo_0 9 rfl rfl)
theorem dX8_isSo_10 : decode cX8_isSo 10 = .ok (.getfield 121, 3) := dk_180 0 121 (dk_at dksX8_isSo_0 10 rfl rfl)
theorem dX8_isSo_13 : decode cX8_isSo 13 = .ok (.iload_n 1, 1) := dk_27 (dk_at dksX8_isSo_0 13 rfl rfl)
theorem dX8_isSo_14 : decode cX8_isSo 14 = .ok (.iaload, 1) := dk_46 (dk_at dksX8_isSo_0 14 rfl rfl)
theorem dX8_isSo_15 : decode cX8_isSo 15 = .ok (.ifCond .ne 12, 3) := dk_154 0 12 (dk_at dksX8_isSo_0 15 rfl rfl)
theorem dX8_isSo_18 : decode cX8_isSo 18 = .ok (.aload_n 0, 1) := dk_42 (dk_at dksX8_isSo_0 18 rfl rfl)
theorem dX8_isSo_19 : decode cX8_isSo 19 = .ok (.getfield 139, 3) := dk_180 0 139 (dk_at dksX8_isSo_0 19 rfl rfl)
theorem dX8_isSo_22 : decode cX8_isSo 22 = .ok (.iload_n 2, 1) := dk_28 (dk_at dksX8_isSo_0 22 rfl rfl)
theorem dX8_isSo_23 : decode cX8_isSo 23 = .ok (.iaload, 1) := dk_46 (dk_at dksX8_isSo_0 23 rfl rfl)
theorem dX8_isSo_24 : decode cX8_isSo 24 = .ok (.goto 9, 3) := dk_167 0 9 (dk_at dksX8_isSo_1 0 rfl rfl)
theorem dX8_isSo_27 : decode cX8_isSo 27 = .ok (.aload_n 0, 1) := dk_42 (dk_at dksX8_isSo_1 3 rfl rfl)
theorem dX8_isSo_28 : decode cX8_isSo 28 = .ok (.getfield 142, 3) := dk_180 0 142 (dk_at dksX8_isSo_1 4 rfl rfl)
theorem dX8_isSo_31 : decode cX8_isSo 31 = .ok (.iload_n 2, 1) := dk_28 (dk_at dksX8_isSo_1 7 rfl rfl)
theorem dX8_isSo_32 : decode cX8_isSo 32 = .ok (.iaload, 1) := dk_46 (dk_at dksX8_isSo_1 8 rfl rfl)
theorem dX8_isSo_33 : decode cX8_isSo 33 = .ok (.aload_n 0, 1) := dk_42 (dk_at dksX8_isSo_1 9 rfl rfl)
theorem dX8_isSo_34 : decode cX8_isSo 34 = .ok (.getfield 127, 3) := dk_180 0 127 (dk_at dksX8_isSo_1 10 rfl rfl)
theorem dX8_isSo_37 : decode cX8_isSo 37 = .ok (.iload_n 1, 1) := dk_27 (dk_at dksX8_isSo_1 13 rfl rfl)
theorem dX8_isSo_38 : decode cX8_isSo 38 = .ok (.iaload, 1) := dk_46 (dk_at dksX8_isSo_1 14 rfl rfl)
theorem dX8_isSo_39 : decode cX8_isSo 39 = .ok (.if_icmp .lt 7, 3) := dk_161 0 7 (dk_at dksX8_isSo_1 15 rfl rfl)
theorem dX8_isSo_42 : decode cX8_isSo 42 = .ok (.iconst 1, 1) := dk_4 (dk_at dksX8_isSo_1 18 rfl rfl)
theorem dX8_isSo_43 : decode cX8_isSo 43 = .ok (.goto 4, 3) := dk_167 0 4 (dk_at dksX8_isSo_1 19 rfl rfl)
theorem dX8_isSo_46 : decode cX8_isSo 46 = .ok (.iconst 0, 1) := dk_3 (dk_at dksX8_isSo_1 22 rfl rfl)
theorem dX8_isSo_47 : decode cX8_isSo 47 = .ok (.ireturn, 1) := dk_172 (dk_at dksX8_isSo_1 23 rfl rfl)
abbrev cX8_sure : ByteArray := prog_20_method_120_code
def yX8_sure : MethodName := ⟨RX8, "sure", "(II)I"⟩
def dkwX8_sure_3 : List UInt8 := [21, 4, 172]
abbrev dktX8_sure_3 : List UInt8 := dkwX8_sure_3 ++ []
def dkwX8_sure_2 : List UInt8 := [27, 4, 100, 104, 21, 5, 96, 4, 96, 46, 29, 160, 0, 7, 21, 5, 54, 4, 132, 5, 1, 167, 255, 224]
abbrev dktX8_sure_2 : List UInt8 := dkwX8_sure_2 ++ dktX8_sure_3
def dkwX8_sure_1 : List UInt8 := [154, 0, 6, 16, 253, 172, 16, 254, 54, 4, 2, 54, 5, 21, 5, 4, 163, 0, 32, 42, 180, 0, 145, 6]
abbrev dktX8_sure_1 : List UInt8 := dkwX8_sure_1 ++ dktX8_sure_2
def dkwX8_sure_0 : List UInt8 := [27, 4, 42, 180, 0, 81, 184, 1, 170, 154, 0, 6, 16, 253, 172, 42, 28, 182, 2, 44, 62, 29]
abbrev dktX8_sure_0 : List UInt8 := dkwX8_sure_0 ++ dktX8_sure_1
theorem dksX8_sure_0 : cX8_sure.data.toList.drop 0 = dktX8_sure_0 := by decide +kernel
theorem dksX8_sure_1 : cX8_sure.data.toList.drop 22 = dktX8_sure_1 := dk_seg dksX8_sure_0 22 rfl rfl
theorem dksX8_sure_2 : cX8_sure.data.toList.drop 46 = dktX8_sure_2 := dk_seg dksX8_sure_1 24 rfl rfl
theorem dksX8_sure_3 : cX8_sure.data.toList.drop 70 = dktX8_sure_3 := dk_seg dksX8_sure_2 24 rfl rfl
theorem dX8_sure_0 : decode cX8_sure 0 = .ok (.iload_n 1, 1) := dk_27 (dk_at dksX8_sure_0 0 rfl rfl)
theorem dX8_sure_1 : decode cX8_sure 1 = .ok (.iconst 1, 1) := dk_4 (dk_at dksX8_sure_0 1 rfl rfl)
theorem dX8_sure_2 : decode cX8_sure 2 = .ok (.aload_n 0, 1) := dk_42 (dk_at dksX8_sure_0 2 rfl rfl)
theorem dX8_sure_3 : decode cX8_sure 3 = .ok (.getfield 81, 3) := dk_180 0 81 (dk_at dksX8_sure_0 3 rfl rfl)
theorem dX8_sure_6 : decode cX8_sure 6 = .ok (.invokestatic 426, 3) := dk_184 1 170 (dk_at dksX8_sure_0 6 rfl rfl)
theorem dX8_sure_9 : decode cX8_sure 9 = .ok (.ifCond .ne 6, 3) := dk_154 0 6 (dk_at dksX8_sure_0 9 rfl rfl)
theorem dX8_sure_12 : decode cX8_sure 12 = .ok (.bipush (-3), 2) := dk_16 253 (dk_at dksX8_sure_0 12 rfl rfl)
theorem dX8_sure_14 : decode cX8_sure 14 = .ok (.ireturn, 1) := dk_172 (dk_at dksX8_sure_0 14 rfl rfl)
theorem dX8_sure_15 : decode cX8_sure 15 = .ok (.aload_n 0, 1) := dk_42 (dk_at dksX8_sure_0 15 rfl rfl)
theorem dX8_sure_16 : decode cX8_sure 16 = .ok (.iload_n 2, 1) := dk_28 (dk_at dksX8_sure_0 16 rfl rfl)
theorem dX8_sure_17 : decode cX8_sure 17 = .ok (.invokevirtual 556, 3) := dk_182 2 44 (dk_at dksX8_sure_0 17 rfl rfl)
theorem dX8_sure_20 : decode cX8_sure 20 = .ok (.istore_n 3, 1) := dk_62 (dk_at dksX8_sure_0 20 rfl rfl)
theorem dX8_sure_21 : decode cX8_sure 21 = .ok (.iload_n 3, 1) := dk_29 (dk_at dksX8_sure_0 21 rfl rfl)
theorem dX8_sure_22 : decode cX8_sure 22 = .ok (.ifCond .ne 6, 3) := dk_154 0 6 (dk_at dksX8_sure_1 0 rfl rfl)
theorem dX8_sure_25 : decode cX8_sure 25 = .ok (.bipush (-3), 2) := dk_16 253 (dk_at dksX8_sure_1 3 rfl rfl)
theorem dX8_sure_27 : decode cX8_sure 27 = .ok (.ireturn, 1) := dk_172 (dk_at dksX8_sure_1 5 rfl rfl)
theorem dX8_sure_28 : decode cX8_sure 28 = .ok (.bipush (-2), 2) := dk_16 254 (dk_at dksX8_sure_1 6 rfl rfl)
theorem dX8_sure_30 : decode cX8_sure 30 = .ok (.istore 4, 2) := dk_54 4 (dk_at dksX8_sure_1 8 rfl rfl)
theorem dX8_sure_32 : decode cX8_sure 32 = .ok (.iconst (-1), 1) := dk_2 (dk_at dksX8_sure_1 10 rfl rfl)
theorem dX8_sure_33 : decode cX8_sure 33 = .ok (.istore 5, 2) := dk_54 5 (dk_at dksX8_sure_1 11 rfl rfl)
theorem dX8_sure_35 : decode cX8_sure 35 = .ok (.iload 5, 2) := dk_21 5 (dk_at dksX8_sure_1 13 rfl rfl)
theorem dX8_sure_37 : decode cX8_sure 37 = .ok (.iconst 1, 1) := dk_4 (dk_at dksX8_sure_1 15 rfl rfl)
theorem dX8_sure_38 : decode cX8_sure 38 = .ok (.if_icmp .gt 32, 3) := dk_163 0 32 (dk_at dksX8_sure_1 16 rfl rfl)
theorem dX8_sure_41 : decode cX8_sure 41 = .ok (.aload_n 0, 1) := dk_42 (dk_at dksX8_sure_1 19 rfl rfl)
theorem dX8_sure_42 : decode cX8_sure 42 = .ok (.getfield 145, 3) := dk_180 0 145 (dk_at dksX8_sure_1 20 rfl rfl)
theorem dX8_sure_45 : decode cX8_sure 45 = .ok (.iconst 3, 1) := dk_6 (dk_at dksX8_sure_1 23 rfl rfl)
theorem dX8_sure_46 : decode cX8_sure 46 = .ok (.iload_n 1, 1) := dk_27 (dk_at dksX8_sure_2 0 rfl rfl)
theorem dX8_sure_47 : decode cX8_sure 47 = .ok (.iconst 1, 1) := dk_4 (dk_at dksX8_sure_2 1 rfl rfl)
theorem dX8_sure_48 : decode cX8_sure 48 = .ok (.isub, 1) := dk_100 (dk_at dksX8_sure_2 2 rfl rfl)
theorem dX8_sure_49 : decode cX8_sure 49 = .ok (.imul, 1) := dk_104 (dk_at dksX8_sure_2 3 rfl rfl)
theorem dX8_sure_50 : decode cX8_sure 50 = .ok (.iload 5, 2) := dk_21 5 (dk_at dksX8_sure_2 4 rfl rfl)
theorem dX8_sure_52 : decode cX8_sure 52 = .ok (.iadd, 1) := dk_96 (dk_at dksX8_sure_2 6 rfl rfl)
theorem dX8_sure_53 : decode cX8_sure 53 = .ok (.iconst 1, 1) := dk_4 (dk_at dksX8_sure_2 7 rfl rfl)
theorem dX8_sure_54 : decode cX8_sure 54 = .ok (.iadd, 1) := dk_96 (dk_at dksX8_sure_2 8 rfl rfl)
theorem dX8_sure_55 : decode cX8_sure 55 = .ok (.iaload, 1) := dk_46 (dk_at dksX8_sure_2 9 rfl rfl)
theorem dX8_sure_56 : decode cX8_sure 56 = .ok (.iload_n 3, 1) := dk_29 (dk_at dksX8_sure_2 10 rfl rfl)
theorem dX8_sure_57 : decode cX8_sure 57 = .ok (.if_icmp .ne 7, 3) := dk_160 0 7 (dk_at dksX8_sure_2 11 rfl rfl)
theorem dX8_sure_60 : decode cX8_sure 60 = .ok (.iload 5, 2) := dk_21 5 (dk_at dksX8_sure_2 14 rfl rfl)
theorem dX8_sure_62 : decode cX8_sure 62 = .ok (.istore 4, 2) := dk_54 4 (dk_at dksX8_sure_2 16 rfl rfl)
theorem dX8_sure_64 : decode cX8_sure 64 = .ok (.iinc 5 1, 3) := dk_132 5 1 (dk_at dksX8_sure_2 18 rfl rfl)
theorem dX8_sure_67 : decode cX8_sure 67 = .ok (.goto (-32), 3) := dk_167 255 224 (dk_at dksX8_sure_2 21 rfl rfl)
theorem dX8_sure_70 : decode cX8_sure 70 = .ok (.iload 4, 2) := dk_21 4 (dk_at dksX8_sure_3 0 rfl rfl)
theorem dX8_sure_72 : decode cX8_sure 72 = .ok (.ireturn, 1) := dk_172 (dk_at dksX8_sure_3 2 rfl rfl)
abbrev cX8_ask : ByteArray := prog_20_method_122_code
def yX8_ask : MethodName := ⟨RX8, "ask", "(II)I"⟩
def dkwX8_ask_3 : List UInt8 := [29, 182, 2, 47, 172]
abbrev dktX8_ask_3 : List UInt8 := dkwX8_ask_3 ++ []
def dkwX8_ask_2 : List UInt8 := [21, 4, 167, 0, 4, 29, 62, 132, 4, 1, 167, 255, 223, 27, 154, 0, 9, 29, 4, 96, 167, 0, 8, 42]
abbrev dktX8_ask_2 : List UInt8 := dkwX8_ask_2 ++ dktX8_ask_3
def dkwX8_ask_1 : List UInt8 := [21, 4, 42, 180, 0, 81, 162, 0, 30, 42, 21, 4, 182, 2, 47, 42, 29, 182, 2, 47, 162, 0, 8]
abbrev dktX8_ask_1 : List UInt8 := dkwX8_ask_1 ++ dktX8_ask_2
def dkwX8_ask_0 : List UInt8 := [27, 3, 4, 184, 1, 170, 153, 0, 11, 42, 28, 182, 2, 44, 154, 0, 5, 2, 172, 3, 62, 4, 54, 4]
abbrev dktX8_ask_0 : List UInt8 := dkwX8_ask_0 ++ dktX8_ask_1
theorem dksX8_ask_0 : cX8_ask.data.toList.drop 0 = dktX8_ask_0 := by decide +kernel
theorem dksX8_ask_1 : cX8_ask.data.toList.drop 24 = dktX8_ask_1 := dk_seg dksX8_ask_0 24 rfl rfl
theorem dksX8_ask_2 : cX8_ask.data.toList.drop 47 = dktX8_ask_2 := dk_seg dksX8_ask_1 23 rfl rfl
theorem dksX8_ask_3 : cX8_ask.data.toList.drop 71 = dktX8_ask_3 := dk_seg dksX8_ask_2 24 rfl rfl
theorem dX8_ask_0 : decode cX8_ask 0 = .ok (.iload_n 1, 1) := dk_27 (dk_at dksX8_ask_0 0 rfl rfl)
theorem dX8_ask_1 : decode cX8_ask 1 = .ok (.iconst 0, 1) := dk_3 (dk_at dksX8_ask_0 1 rfl rfl)
theorem dX8_ask_2 : decode cX8_ask 2 = .ok (.iconst 1, 1) := dk_4 (dk_at dksX8_ask_0 2 rfl rfl)
theorem dX8_ask_3 : decode cX8_ask 3 = .ok (.invokestatic 426, 3) := dk_184 1 170 (dk_at dksX8_ask_0 3 rfl rfl)
theorem dX8_ask_6 : decode cX8_ask 6 = .ok (.ifCond .eq 11, 3) := dk_153 0 11 (dk_at dksX8_ask_0 6 rfl rfl)
theorem dX8_ask_9 : decode cX8_ask 9 = .ok (.aload_n 0, 1) := dk_42 (dk_at dksX8_ask_0 9 rfl rfl)
theorem dX8_ask_10 : decode cX8_ask 10 = .ok (.iload_n 2, 1) := dk_28 (dk_at dksX8_ask_0 10 rfl rfl)
theorem dX8_ask_11 : decode cX8_ask 11 = .ok (.invokevirtual 556, 3) := dk_182 2 44 (dk_at dksX8_ask_0 11 rfl rfl)
theorem dX8_ask_14 : decode cX8_ask 14 = .ok (.ifCond .ne 5, 3) := dk_154 0 5 (dk_at dksX8_ask_0 14 rfl rfl)
theorem dX8_ask_17 : decode cX8_ask 17 = .ok (.iconst (-1), 1) := dk_2 (dk_at dksX8_ask_0 17 rfl rfl)
theorem dX8_ask_18 : decode cX8_ask 18 = .ok (.ireturn, 1) := dk_172 (dk_at dksX8_ask_0 18 rfl rfl)
theorem dX8_ask_19 : decode cX8_ask 19 = .ok (.iconst 0, 1) := dk_3 (dk_at dksX8_ask_0 19 rfl rfl)
theorem dX8_ask_20 : decode cX8_ask 20 = .ok (.istore_n 3, 1) := dk_62 (dk_at dksX8_ask_0 20 rfl rfl)
theorem dX8_ask_21 : decode cX8_ask 21 = .ok (.iconst 1, 1) := dk_4 (dk_at dksX8_ask_0 21 rfl rfl)
theorem dX8_ask_22 : decode cX8_ask 22 = .ok (.istore 4, 2) := dk_54 4 (dk_at dksX8_ask_0 22 rfl rfl)
theorem dX8_ask_24 : decode cX8_ask 24 = .ok (.iload 4, 2) := dk_21 4 (dk_at dksX8_ask_1 0 rfl rfl)
theorem dX8_ask_26 : decode cX8_ask 26 = .ok (.aload_n 0, 1) := dk_42 (dk_at dksX8_ask_1 2 rfl rfl)
theorem dX8_ask_27 : decode cX8_ask 27 = .ok (.getfield 81, 3) := dk_180 0 81 (dk_at dksX8_ask_1 3 rfl rfl)
theorem dX8_ask_30 : decode cX8_ask 30 = .ok (.if_icmp .ge 30, 3) := dk_162 0 30 (dk_at dksX8_ask_1 6 rfl rfl)
theorem dX8_ask_33 : decode cX8_ask 33 = .ok (.aload_n 0, 1) := dk_42 (dk_at dksX8_ask_1 9 rfl rfl)
theorem dX8_ask_34 : decode cX8_ask 34 = .ok (.iload 4, 2) := dk_21 4 (dk_at dksX8_ask_1 10 rfl rfl)
theorem dX8_ask_36 : decode cX8_ask 36 = .ok (.invokevirtual 559, 3) := dk_182 2 47 (dk_at dksX8_ask_1 12 rfl rfl)
theorem dX8_ask_39 : decode cX8_ask 39 = .ok (.aload_n 0, 1) := dk_42 (dk_at dksX8_ask_1 15 rfl rfl)
theorem dX8_ask_40 : decode cX8_ask 40 = .ok (.iload_n 3, 1) := dk_29 (dk_at dksX8_ask_1 16 rfl rfl)
theorem dX8_ask_41 : decode cX8_ask 41 = .ok (.invokevirtual 559, 3) := dk_182 2 47 (dk_at dksX8_ask_1 17 rfl rfl)
theorem dX8_ask_44 : decode cX8_ask 44 = .ok (.if_icmp .ge 8, 3) := dk_162 0 8 (dk_at dksX8_ask_1 20 rfl rfl)
theorem dX8_ask_47 : decode cX8_ask 47 = .ok (.iload 4, 2) := dk_21 4 (dk_at dksX8_ask_2 0 rfl rfl)
theorem dX8_ask_49 : decode cX8_ask 49 = .ok (.goto 4, 3) := dk_167 0 4 (dk_at dksX8_ask_2 2 rfl rfl)
theorem dX8_ask_52 : decode cX8_ask 52 = .ok (.iload_n 3, 1) := dk_29 (dk_at dksX8_ask_2 5 rfl rfl)
theorem dX8_ask_53 : decode cX8_ask 53 = .ok (.istore_n 3, 1) := dk_62 (dk_at dksX8_ask_2 6 rfl rfl)
theorem dX8_ask_54 : decode cX8_ask 54 = .ok (.iinc 4 1, 3) := dk_132 4 1 (dk_at dksX8_ask_2 7 rfl rfl)
theorem dX8_ask_57 : decode cX8_ask 57 = .ok (.goto (-33), 3) := dk_167 255 223 (dk_at dksX8_ask_2 10 rfl rfl)
theorem dX8_ask_60 : decode cX8_ask 60 = .ok (.iload_n 1, 1) := dk_27 (dk_at dksX8_ask_2 13 rfl rfl)
theorem dX8_ask_61 : decode cX8_ask 61 = .ok (.ifCond .ne 9, 3) := dk_154 0 9 (dk_at dksX8_ask_2 14 rfl rfl)
theorem dX8_ask_64 : decode cX8_ask 64 = .ok (.iload_n 3, 1) := dk_29 (dk_at dksX8_ask_2 17 rfl rfl)
theorem dX8_ask_65 : decode cX8_ask 65 = .ok (.iconst 1, 1) := dk_4 (dk_at dksX8_ask_2 18 rfl rfl)
theorem dX8_ask_66 : decode cX8_ask 66 = .ok (.iadd, 1) := dk_96 (dk_at dksX8_ask_2 19 rfl rfl)
theorem dX8_ask_67 : decode cX8_ask 67 = .ok (.goto 8, 3) := dk_167 0 8 (dk_at dksX8_ask_2 20 rfl rfl)
theorem dX8_ask_70 : decode cX8_ask 70 = .ok (.aload_n 0, 1) := dk_42 (dk_at dksX8_ask_2 23 rfl rfl)
theorem dX8_ask_71 : decode cX8_ask 71 = .ok (.iload_n 3, 1) := dk_29 (dk_at dksX8_ask_3 0 rfl rfl)
theorem dX8_ask_72 : decode cX8_ask 72 = .ok (.invokevirtual 559, 3) := dk_182 2 47 (dk_at dksX8_ask_3 1 rfl rfl)
theorem dX8_ask_75 : decode cX8_ask 75 = .ok (.ireturn, 1) := dk_172 (dk_at dksX8_ask_3 4 rfl rfl)
abbrev cX8_leftBy : ByteArray := prog_20_method_121_code
def yX8_leftBy : MethodName := ⟨RX8, "leftBy", "(I)I"⟩
def dkwX8_leftBy_1 : List UInt8 := [180, 0, 145, 6, 27, 104, 29, 96, 46, 167, 0, 4, 28, 61, 132, 3, 1, 167, 255, 219, 28, 172]
abbrev dktX8_leftBy_1 : List UInt8 := dkwX8_leftBy_1 ++ []
def dkwX8_leftBy_0 : List UInt8 := [3, 61, 3, 62, 29, 6, 162, 0, 38, 42, 180, 0, 145, 6, 27, 104, 29, 96, 46, 28, 164, 0, 16, 42]
abbrev dktX8_leftBy_0 : List UInt8 := dkwX8_leftBy_0 ++ dktX8_leftBy_1
theorem dksX8_leftBy_0 : cX8_leftBy.data.toList.drop 0 = dktX8_leftBy_0 := by decide +kernel
theorem dksX8_leftBy_1 : cX8_leftBy.data.toList.drop 24 = dktX8_leftBy_1 := dk_seg dksX8_leftBy_0 24 rfl rfl
theorem dX8_leftBy_0 : decode cX8_leftBy 0 = .ok (.iconst 0, 1) := dk_3 (dk_at dksX8_leftBy_0 0 rfl rfl)
theorem dX8_leftBy_1 : decode cX8_leftBy 1 = .ok (.istore_n 2, 1) := dk_61 (dk_at dksX8_leftBy_0 1 rfl rfl)
theorem dX8_leftBy_2 : decode cX8_leftBy 2 = .ok (.iconst 0, 1) := dk_3 (dk_at dksX8_leftBy_0 2 rfl rfl)
theorem dX8_leftBy_3 : decode cX8_leftBy 3 = .ok (.istore_n 3, 1) := dk_62 (dk_at dksX8_leftBy_0 3 rfl rfl)
theorem dX8_leftBy_4 : decode cX8_leftBy 4 = .ok (.iload_n 3, 1) := dk_29 (dk_at dksX8_leftBy_0 4 rfl rfl)
theorem dX8_leftBy_5 : decode cX8_leftBy 5 = .ok (.iconst 3, 1) := dk_6 (dk_at dksX8_leftBy_0 5 rfl rfl)
theorem dX8_leftBy_6 : decode cX8_leftBy 6 = .ok (.if_icmp .ge 38, 3) := dk_162 0 38 (dk_at dksX8_leftBy_0 6 rfl rfl)
theorem dX8_leftBy_9 : decode cX8_leftBy 9 = .ok (.aload_n 0, 1) := dk_42 (dk_at dksX8_leftBy_0 9 rfl rfl)
theorem dX8_leftBy_10 : decode cX8_leftBy 10 = .ok (.getfield 145, 3) := dk_180 0 145 (dk_at dksX8_leftBy_0 10 rfl rfl)
theorem dX8_leftBy_13 : decode cX8_leftBy 13 = .ok (.iconst 3, 1) := dk_6 (dk_at dksX8_leftBy_0 13 rfl rfl)
theorem dX8_leftBy_14 : decode cX8_leftBy 14 = .ok (.iload_n 1, 1) := dk_27 (dk_at dksX8_leftBy_0 14 rfl rfl)
theorem dX8_leftBy_15 : decode cX8_leftBy 15 = .ok (.imul, 1) := dk_104 (dk_at dksX8_leftBy_0 15 rfl rfl)
theorem dX8_leftBy_16 : decode cX8_leftBy 16 = .ok (.iload_n 3, 1) := dk_29 (dk_at dksX8_leftBy_0 16 rfl rfl)
theorem dX8_leftBy_17 : decode cX8_leftBy 17 = .ok (.iadd, 1) := dk_96 (dk_at dksX8_leftBy_0 17 rfl rfl)
theorem dX8_leftBy_18 : decode cX8_leftBy 18 = .ok (.iaload, 1) := dk_46 (dk_at dksX8_leftBy_0 18 rfl rfl)
theorem dX8_leftBy_19 : decode cX8_leftBy 19 = .ok (.iload_n 2, 1) := dk_28 (dk_at dksX8_leftBy_0 19 rfl rfl)
theorem dX8_leftBy_20 : decode cX8_leftBy 20 = .ok (.if_icmp .le 16, 3) := dk_164 0 16 (dk_at dksX8_leftBy_0 20 rfl rfl)
theorem dX8_leftBy_23 : decode cX8_leftBy 23 = .ok (.aload_n 0, 1) := dk_42 (dk_at dksX8_leftBy_0 23 rfl rfl)
theorem dX8_leftBy_24 : decode cX8_leftBy 24 = .ok (.getfield 145, 3) := dk_180 0 145 (dk_at dksX8_leftBy_1 0 rfl rfl)
theorem dX8_leftBy_27 : decode cX8_leftBy 27 = .ok (.iconst 3, 1) := dk_6 (dk_at dksX8_leftBy_1 3 rfl rfl)
theorem dX8_leftBy_28 : decode cX8_leftBy 28 = .ok (.iload_n 1, 1) := dk_27 (dk_at dksX8_leftBy_1 4 rfl rfl)
theorem dX8_leftBy_29 : decode cX8_leftBy 29 = .ok (.imul, 1) := dk_104 (dk_at dksX8_leftBy_1 5 rfl rfl)
theorem dX8_leftBy_30 : decode cX8_leftBy 30 = .ok (.iload_n 3, 1) := dk_29 (dk_at dksX8_leftBy_1 6 rfl rfl)
theorem dX8_leftBy_31 : decode cX8_leftBy 31 = .ok (.iadd, 1) := dk_96 (dk_at dksX8_leftBy_1 7 rfl rfl)
theorem dX8_leftBy_32 : decode cX8_leftBy 32 = .ok (.iaload, 1) := dk_46 (dk_at dksX8_leftBy_1 8 rfl rfl)
theorem dX8_leftBy_33 : decode cX8_leftBy 33 = .ok (.goto 4, 3) := dk_167 0 4 (dk_at dksX8_leftBy_1 9 rfl rfl)
theorem dX8_leftBy_36 : decode cX8_leftBy 36 = .ok (.iload_n 2, 1) := dk_28 (dk_at dksX8_leftBy_1 12 rfl rfl)
theorem dX8_leftBy_37 : decode cX8_leftBy 37 = .ok (.istore_n 2, 1) := dk_61 (dk_at dksX8_leftBy_1 13 rfl rfl)
theorem dX8_leftBy_38 : decode cX8_leftBy 38 = .ok (.iinc 3 1, 3) := dk_132 3 1 (dk_at dksX8_leftBy_1 14 rfl rfl)
theorem dX8_leftBy_41 : decode cX8_leftBy 41 = .ok (.goto (-37), 3) := dk_167 255 219 (dk_at dksX8_leftBy_1 17 rfl rfl)
theorem dX8_leftBy_44 : decode cX8_leftBy 44 = .ok (.iload_n 2, 1) := dk_28 (dk_at dksX8_leftBy_1 20 rfl rfl)
theorem dX8_leftBy_45 : decode cX8_leftBy 45 = .ok (.ireturn, 1) := dk_172 (dk_at dksX8_leftBy_1 21 rfl rfl)
abbrev cX8_image : ByteArray := prog_20_method_124_code
def yX8_image : MethodName := ⟨RX8, "image", "(I)I"⟩
def dkwX8_image_2 : List UInt8 := [182, 2, 53, 184, 2, 2, 172]
abbrev dktX8_image_2 : List UInt8 := dkwX8_image_2 ++ []
def dkwX8_image_1 : List UInt8 := [42, 180, 0, 151, 16, 28, 27, 104, 28, 96, 42, 180, 0, 84, 28, 46, 79, 132, 2, 1, 167, 255, 230, 42]
abbrev dktX8_image_1 : List UInt8 := dkwX8_image_1 ++ dktX8_image_2
def dkwX8_image_0 : List UInt8 := [27, 184, 2, 50, 154, 0, 5, 2, 172, 42, 180, 0, 148, 27, 4, 84, 3, 61, 28, 16, 28, 162, 0, 26]
abbrev dktX8_image_0 : List UInt8 := dkwX8_image_0 ++ dktX8_image_1
theorem dksX8_image_0 : cX8_image.data.toList.drop 0 = dktX8_image_0 := by decide +kernel
theorem dksX8_image_1 : cX8_image.data.toList.drop 24 = dktX8_image_1 := dk_seg dksX8_image_0 24 rfl rfl
theorem dksX8_image_2 : cX8_image.data.toList.drop 48 = dktX8_image_2 := dk_seg dksX8_image_1 24 rfl rfl
theorem dX8_image_0 : decode cX8_image 0 = .ok (.iload_n 1, 1) := dk_27 (dk_at dksX8_image_0 0 rfl rfl)
theorem dX8_image_1 : decode cX8_image 1 = .ok (.invokestatic 562, 3) := dk_184 2 50 (dk_at dksX8_image_0 1 rfl rfl)
theorem dX8_image_4 : decode cX8_image 4 = .ok (.ifCond .ne 5, 3) := dk_154 0 5 (dk_at dksX8_image_0 4 rfl rfl)
theorem dX8_image_7 : decode cX8_image 7 = .ok (.iconst (-1), 1) := dk_2 (dk_at dksX8_image_0 7 rfl rfl)
theorem dX8_image_8 : decode cX8_image 8 = .ok (.ireturn, 1) := dk_172 (dk_at dksX8_image_0 8 rfl rfl)
theorem dX8_image_9 : decode cX8_image 9 = .ok (.aload_n 0, 1) := dk_42 (dk_at dksX8_image_0 9 rfl rfl)
theorem dX8_image_10 : decode cX8_image 10 = .ok (.getfield 148, 3) := dk_180 0 148 (dk_at dksX8_image_0 10 rfl rfl)
theorem dX8_image_13 : decode cX8_image 13 = .ok (.iload_n 1, 1) := dk_27 (dk_at dksX8_image_0 13 rfl rfl)
theorem dX8_image_14 : decode cX8_image 14 = .ok (.iconst 1, 1) := dk_4 (dk_at dksX8_image_0 14 rfl rfl)
theorem dX8_image_15 : decode cX8_image 15 = .ok (.bastore, 1) := dk_84 (dk_at dksX8_image_0 15 rfl rfl)
theorem dX8_image_16 : decode cX8_image 16 = .ok (.iconst 0, 1) := dk_3 (dk_at dksX8_image_0 16 rfl rfl)
theorem dX8_image_17 : decode cX8_image 17 = .ok (.istore_n 2, 1) := dk_61 (dk_at dksX8_image_0 17 rfl rfl)
theorem dX8_image_18 : decode cX8_image 18 = .ok (.iload_n 2, 1) := dk_28 (dk_at dksX8_image_0 18 rfl rfl)
theorem dX8_image_19 : decode cX8_image 19 = .ok (.bipush 28, 2) := dk_16 28 (dk_at dksX8_image_0 19 rfl rfl)
theorem dX8_image_21 : decode cX8_image 21 = .ok (.if_icmp .ge 26, 3) := dk_162 0 26 (dk_at dksX8_image_0 21 rfl rfl)
theorem dX8_image_24 : decode cX8_image 24 = .ok (.aload_n 0, 1) := dk_42 (dk_at dksX8_image_1 0 rfl rfl)
theorem dX8_image_25 : decode cX8_image 25 = .ok (.getfield 151, 3) := dk_180 0 151 (dk_at dksX8_image_1 1 rfl rfl)
theorem dX8_image_28 : decode cX8_image 28 = .ok (.bipush 28, 2) := dk_16 28 (dk_at dksX8_image_1 4 rfl rfl)
theorem dX8_image_30 : decode cX8_image 30 = .ok (.iload_n 1, 1) := dk_27 (dk_at dksX8_image_1 6 rfl rfl)
theorem dX8_image_31 : decode cX8_image 31 = .ok (.imul, 1) := dk_104 (dk_at dksX8_image_1 7 rfl rfl)
theorem dX8_image_32 : decode cX8_image 32 = .ok (.iload_n 2, 1) := dk_28 (dk_at dksX8_image_1 8 rfl rfl)
theorem dX8_image_33 : decode cX8_image 33 = .ok (.iadd, 1) := dk_96 (dk_at dksX8_image_1 9 rfl rfl)
theorem dX8_image_34 : decode cX8_image 34 = .ok (.aload_n 0, 1) := dk_42 (dk_at dksX8_image_1 10 rfl rfl)
theorem dX8_image_35 : decode cX8_image 35 = .ok (.getfield 84, 3) := dk_180 0 84 (dk_at dksX8_image_1 11 rfl rfl)
theorem dX8_image_38 : decode cX8_image 38 = .ok (.iload_n 2, 1) := dk_28 (dk_at dksX8_image_1 14 rfl rfl)
theorem dX8_image_39 : decode cX8_image 39 = .ok (.iaload, 1) := dk_46 (dk_at dksX8_image_1 15 rfl rfl)
theorem dX8_image_40 : decode cX8_image 40 = .ok (.iastore, 1) := dk_79 (dk_at dksX8_image_1 16 rfl rfl)
theorem dX8_image_41 : decode cX8_image 41 = .ok (.iinc 2 1, 3) := dk_132 2 1 (dk_at dksX8_image_1 17 rfl rfl)
theorem dX8_image_44 : decode cX8_image 44 = .ok (.goto (-26), 3) := dk_167 255 230 (dk_at dksX8_image_1 20 rfl rfl)
theorem dX8_image_47 : decode cX8_image 47 = .ok (.aload_n 0, 1) := dk_42 (dk_at dksX8_image_1 23 rfl rfl)
theorem dX8_image_48 : decode cX8_image 48 = .ok (.invokevirtual 565, 3) := dk_182 2 53 (dk_at dksX8_image_2 0 rfl rfl)
theorem dX8_image_51 : decode cX8_image 51 = .ok (.invokestatic 514, 3) := dk_184 2 2 (dk_at dksX8_image_2 3 rfl rfl)
theorem dX8_image_54 : decode cX8_image 54 = .ok (.ireturn, 1) := dk_172 (dk_at dksX8_image_2 6 rfl rfl)
abbrev cX8_isBox : ByteArray := prog_20_method_123_code
def yX8_isBox : MethodName := ⟨RX8, "isBox", "(I)Z"⟩
def dkwX8_isBox_0 : List UInt8 := [26, 155, 0, 12, 26, 6, 162, 0, 7, 4, 167, 0, 4, 3, 172]
abbrev dktX8_isBox_0 : List UInt8 := dkwX8_isBox_0 ++ []
theorem dksX8_isBox_0 : cX8_isBox.data.toList.drop 0 = dktX8_isBox_0 := by decide +kernel
theorem dX8_isBox_0 : decode cX8_isBox 0 = .ok (.iload_n 0, 1) := dk_26 (dk_at dksX8_isBox_0 0 rfl rfl)
theorem dX8_isBox_1 : decode cX8_isBox 1 = .ok (.ifCond .lt 12, 3) := dk_155 0 12 (dk_at dksX8_isBox_0 1 rfl rfl)
theorem dX8_isBox_4 : decode cX8_isBox 4 = .ok (.iload_n 0, 1) := dk_26 (dk_at dksX8_isBox_0 4 rfl rfl)
theorem dX8_isBox_5 : decode cX8_isBox 5 = .ok (.iconst 3, 1) := dk_6 (dk_at dksX8_isBox_0 5 rfl rfl)
theorem dX8_isBox_6 : decode cX8_isBox 6 = .ok (.if_icmp .ge 7, 3) := dk_162 0 7 (dk_at dksX8_isBox_0 6 rfl rfl)
theorem dX8_isBox_9 : decode cX8_isBox 9 = .ok (.iconst 1, 1) := dk_4 (dk_at dksX8_isBox_0 9 rfl rfl)
theorem dX8_isBox_10 : decode cX8_isBox 10 = .ok (.goto 4, 3) := dk_167 0 4 (dk_at dksX8_isBox_0 10 rfl rfl)
theorem dX8_isBox_13 : decode cX8_isBox 13 = .ok (.iconst 0, 1) := dk_3 (dk_at dksX8_isBox_0 13 rfl rfl)
theorem dX8_isBox_14 : decode cX8_isBox 14 = .ok (.ireturn, 1) := dk_172 (dk_at dksX8_isBox_0 14 rfl rfl)
abbrev cX8_back : ByteArray := prog_20_method_125_code
def yX8_back : MethodName := ⟨RX8, "back", "(I)I"⟩
def dkwX8_back_2 : List UInt8 := [167, 255, 230, 42, 3, 181, 1, 158, 42, 3, 181, 1, 161, 42, 182, 2, 53, 184, 2, 2, 172]
abbrev dktX8_back_2 : List UInt8 := dkwX8_back_2 ++ []
def dkwX8_back_1 : List UInt8 := [162, 0, 26, 42, 180, 0, 84, 28, 42, 180, 0, 151, 16, 28, 27, 104, 28, 96, 46, 79, 132, 2, 1]
abbrev dktX8_back_1 : List UInt8 := dkwX8_back_1 ++ dktX8_back_2
def dkwX8_back_0 : List UInt8 := [27, 184, 2, 50, 153, 0, 12, 42, 180, 0, 148, 27, 51, 154, 0, 5, 2, 172, 3, 61, 28, 16, 28]
abbrev dktX8_back_0 : List UInt8 := dkwX8_back_0 ++ dktX8_back_1
theorem dksX8_back_0 : cX8_back.data.toList.drop 0 = dktX8_back_0 := by decide +kernel
theorem dksX8_back_1 : cX8_back.data.toList.drop 23 = dktX8_back_1 := dk_seg dksX8_back_0 23 rfl rfl
theorem dksX8_back_2 : cX8_back.data.toList.drop 46 = dktX8_back_2 := dk_seg dksX8_back_1 23 rfl rfl
theorem dX8_back_0 : decode cX8_back 0 = .ok (.iload_n 1, 1) := dk_27 (dk_at dksX8_back_0 0 rfl rfl)
theorem dX8_back_1 : decode cX8_back 1 = .ok (.invokestatic 562, 3) := dk_184 2 50 (dk_at dksX8_back_0 1 rfl rfl)
theorem dX8_back_4 : decode cX8_back 4 = .ok (.ifCond .eq 12, 3) := dk_153 0 12 (dk_at dksX8_back_0 4 rfl rfl)
theorem dX8_back_7 : decode cX8_back 7 = .ok (.aload_n 0, 1) := dk_42 (dk_at dksX8_back_0 7 rfl rfl)
theorem dX8_back_8 : decode cX8_back 8 = .ok (.getfield 148, 3) := dk_180 0 148 (dk_at dksX8_back_0 8 rfl rfl)
theorem dX8_back_11 : decode cX8_back 11 = .ok (.iload_n 1, 1) := dk_27 (dk_at dksX8_back_0 11 rfl rfl)
theorem dX8_back_12 : decode cX8_back 12 = .ok (.baload, 1) := dk_51 (dk_at dksX8_back_0 12 rfl rfl)
theorem dX8_back_13 : decode cX8_back 13 = .ok (.ifCond .ne 5, 3) := dk_154 0 5 (dk_at dksX8_back_0 13 rfl rfl)
theorem dX8_back_16 : decode cX8_back 16 = .ok (.iconst (-1), 1) := dk_2 (dk_at dksX8_back_0 16 rfl rfl)
theorem dX8_back_17 : decode cX8_back 17 = .ok (.ireturn, 1) := dk_172 (dk_at dksX8_back_0 17 rfl rfl)
theorem dX8_back_18 : decode cX8_back 18 = .ok (.iconst 0, 1) := dk_3 (dk_at dksX8_back_0 18 rfl rfl)
theorem dX8_back_19 : decode cX8_back 19 = .ok (.istore_n 2, 1) := dk_61 (dk_at dksX8_back_0 19 rfl rfl)
theorem dX8_back_20 : decode cX8_back 20 = .ok (.iload_n 2, 1) := dk_28 (dk_at dksX8_back_0 20 rfl rfl)
theorem dX8_back_21 : decode cX8_back 21 = .ok (.bipush 28, 2) := dk_16 28 (dk_at dksX8_back_0 21 rfl rfl)
theorem dX8_back_23 : decode cX8_back 23 = .ok (.if_icmp .ge 26, 3) := dk_162 0 26 (dk_at dksX8_back_1 0 rfl rfl)
theorem dX8_back_26 : decode cX8_back 26 = .ok (.aload_n 0, 1) := dk_42 (dk_at dksX8_back_1 3 rfl rfl)
theorem dX8_back_27 : decode cX8_back 27 = .ok (.getfield 84, 3) := dk_180 0 84 (dk_at dksX8_back_1 4 rfl rfl)
theorem dX8_back_30 : decode cX8_back 30 = .ok (.iload_n 2, 1) := dk_28 (dk_at dksX8_back_1 7 rfl rfl)
theorem dX8_back_31 : decode cX8_back 31 = .ok (.aload_n 0, 1) := dk_42 (dk_at dksX8_back_1 8 rfl rfl)
theorem dX8_back_32 : decode cX8_back 32 = .ok (.getfield 151, 3) := dk_180 0 151 (dk_at dksX8_back_1 9 rfl rfl)
theorem dX8_back_35 : decode cX8_back 35 = .ok (.bipush 28, 2) := dk_16 28 (dk_at dksX8_back_1 12 rfl rfl)
theorem dX8_back_37 : decode cX8_back 37 = .ok (.iload_n 1, 1) := dk_27 (dk_at dksX8_back_1 14 rfl rfl)
theorem dX8_back_38 : decode cX8_back 38 = .ok (.imul, 1) := dk_104 (dk_at dksX8_back_1 15 rfl rfl)
theorem dX8_back_39 : decode cX8_back 39 = .ok (.iload_n 2, 1) := dk_28 (dk_at dksX8_back_1 16 rfl rfl)
theorem dX8_back_40 : decode cX8_back 40 = .ok (.iadd, 1) := dk_96 (dk_at dksX8_back_1 17 rfl rfl)
theorem dX8_back_41 : decode cX8_back 41 = .ok (.iaload, 1) := dk_46 (dk_at dksX8_back_1 18 rfl rfl)
theorem dX8_back_42 : decode cX8_back 42 = .ok (.iastore, 1) := dk_79 (dk_at dksX8_back_1 19 rfl rfl)
theorem dX8_back_43 : decode cX8_back 43 = .ok (.iinc 2 1, 3) := dk_132 2 1 (dk_at dksX8_back_1 20 rfl rfl)
theorem dX8_back_46 : decode cX8_back 46 = .ok (.goto (-26), 3) := dk_167 255 230 (dk_at dksX8_back_2 0 rfl rfl)
theorem dX8_back_49 : decode cX8_back 49 = .ok (.aload_n 0, 1) := dk_42 (dk_at dksX8_back_2 3 rfl rfl)
theorem dX8_back_50 : decode cX8_back 50 = .ok (.iconst 0, 1) := dk_3 (dk_at dksX8_back_2 4 rfl rfl)
theorem dX8_back_51 : decode cX8_back 51 = .ok (.putfield 414, 3) := dk_181 1 158 (dk_at dksX8_back_2 5 rfl rfl)
theorem dX8_back_54 : decode cX8_back 54 = .ok (.aload_n 0, 1) := dk_42 (dk_at dksX8_back_2 8 rfl rfl)
theorem dX8_back_55 : decode cX8_back 55 = .ok (.iconst 0, 1) := dk_3 (dk_at dksX8_back_2 9 rfl rfl)
theorem dX8_back_56 : decode cX8_back 56 = .ok (.putfield 417, 3) := dk_181 1 161 (dk_at dksX8_back_2 10 rfl rfl)
theorem dX8_back_59 : decode cX8_back 59 = .ok (.aload_n 0, 1) := dk_42 (dk_at dksX8_back_2 13 rfl rfl)
theorem dX8_back_60 : decode cX8_back 60 = .ok (.invokevirtual 565, 3) := dk_182 2 53 (dk_at dksX8_back_2 14 rfl rfl)
theorem dX8_back_63 : decode cX8_back 63 = .ok (.invokestatic 514, 3) := dk_184 2 2 (dk_at dksX8_back_2 17 rfl rfl)
theorem dX8_back_66 : decode cX8_back 66 = .ok (.ireturn, 1) := dk_172 (dk_at dksX8_back_2 20 rfl rfl)
abbrev cX8_about : ByteArray := prog_20_method_126_code
def yX8_about : MethodName := ⟨RX8, "about", "(I)I"⟩
def dkwX8_about_4 : List UInt8 := [42, 180, 2, 33, 172, 42, 180, 0, 154, 172, 42, 180, 1, 155, 172, 42, 180, 1, 167, 172, 2, 172]
abbrev dktX8_about_4 : List UInt8 := dkwX8_about_4 ++ []
def dkwX8_about_3 : List UInt8 := [172, 42, 180, 0, 84, 16, 27, 46, 172, 42, 180, 1, 158, 172, 42, 180, 1, 161, 172, 42, 180, 1, 164, 172]
abbrev dktX8_about_3 : List UInt8 := dkwX8_about_3 ++ dktX8_about_4
def dkwX8_about_2 : List UInt8 := [42, 180, 1, 149, 172, 42, 180, 1, 65, 172, 42, 180, 0, 78, 172, 42, 180, 0, 81, 172, 42, 180, 1, 152]
abbrev dktX8_about_2 : List UInt8 := dkwX8_about_2 ++ dktX8_about_3
def dkwX8_about_1 : List UInt8 := [170, 0, 0, 0, 0, 0, 135, 0, 0, 0, 0, 0, 0, 0, 12, 0, 0, 0, 67, 0, 0, 0, 72, 0, 0, 0, 77, 0, 0, 0, 82, 0, 0, 0, 87, 0, 0, 0, 92, 0, 0, 0, 100, 0, 0, 0, 105, 0, 0, 0, 110, 0, 0, 0, 115, 0, 0, 0, 120, 0, 0, 0, 125, 0, 0, 0, 130]
abbrev dktX8_about_1 : List UInt8 := dkwX8_about_1 ++ dktX8_about_2
def dkwX8_about_0 : List UInt8 := [27]
abbrev dktX8_about_0 : List UInt8 := dkwX8_about_0 ++ dktX8_about_1
theorem dksX8_about_0 : cX8_about.data.toList.drop 0 = dktX8_about_0 := by decide +kernel
theorem dksX8_about_1 : cX8_about.data.toList.drop 1 = dktX8_about_1 := dk_seg dksX8_about_0 1 rfl rfl
theorem dksX8_about_2 : cX8_about.data.toList.drop 68 = dktX8_about_2 := dk_seg dksX8_about_1 67 rfl rfl
theorem dksX8_about_3 : cX8_about.data.toList.drop 92 = dktX8_about_3 := dk_seg dksX8_about_2 24 rfl rfl
theorem dksX8_about_4 : cX8_about.data.toList.drop 116 = dktX8_about_4 := dk_seg dksX8_about_3 24 rfl rfl
theorem dX8_about_0 : decode cX8_about 0 = .ok (.iload_n 1, 1) := dk_27 (dk_at dksX8_about_0 0 rfl rfl)
theorem dX8_about_1 : decode cX8_about 1 = .ok (.tableswitch 135 0 12 #[67, 72, 77, 82, 87, 92, 100, 105, 110, 115, 120, 125, 130], 67) := by decide +kernel
theorem dX8_about_68 : decode cX8_about 68 = .ok (.aload_n 0, 1) := dk_42 (dk_at dksX8_about_2 0 rfl rfl)
theorem dX8_about_69 : decode cX8_about 69 = .ok (.getfield 405, 3) := dk_180 1 149 (dk_at dksX8_about_2 1 rfl rfl)
theorem dX8_about_72 : decode cX8_about 72 = .ok (.ireturn, 1) := dk_172 (dk_at dksX8_about_2 4 rfl rfl)
theorem dX8_about_73 : decode cX8_about 73 = .ok (.aload_n 0, 1) := dk_42 (dk_at dksX8_about_2 5 rfl rfl)
theorem dX8_about_74 : decode cX8_about 74 = .ok (.getfield 321, 3) := dk_180 1 65 (dk_at dksX8_about_2 6 rfl rfl)
theorem dX8_about_77 : decode cX8_about 77 = .ok (.ireturn, 1) := dk_172 (dk_at dksX8_about_2 9 rfl rfl)
theorem dX8_about_78 : decode cX8_about 78 = .ok (.aload_n 0, 1) := dk_42 (dk_at dksX8_about_2 10 rfl rfl)
theorem dX8_about_79 : decode cX8_about 79 = .ok (.getfield 78, 3) := dk_180 0 78 (dk_at dksX8_about_2 11 rfl rfl)
theorem dX8_about_82 : decode cX8_about 82 = .ok (.ireturn, 1) := dk_172 (dk_at dksX8_about_2 14 rfl rfl)
theorem dX8_about_83 : decode cX8_about 83 = .ok (.aload_n 0, 1) := dk_42 (dk_at dksX8_about_2 15 rfl rfl)
theorem dX8_about_84 : decode cX8_about 84 = .ok (.getfield 81, 3) := dk_180 0 81 (dk_at dksX8_about_2 16 rfl rfl)
theorem dX8_about_87 : decode cX8_about 87 = .ok (.ireturn, 1) := dk_172 (dk_at dksX8_about_2 19 rfl rfl)
theorem dX8_about_88 : decode cX8_about 88 = .ok (.aload_n 0, 1) := dk_42 (dk_at dksX8_about_2 20 rfl rfl)
theorem dX8_about_89 : decode cX8_about 89 = .ok (.getfield 408, 3) := dk_180 1 152 (dk_at dksX8_about_2 21 rfl rfl)
theorem dX8_about_92 : decode cX8_about 92 = .ok (.ireturn, 1) := dk_172 (dk_at dksX8_about_3 0 rfl rfl)
theorem dX8_about_93 : decode cX8_about 93 = .ok (.aload_n 0, 1) := dk_42 (dk_at dksX8_about_3 1 rfl rfl)
theorem dX8_about_94 : decode cX8_about 94 = .ok (.getfield 84, 3) := dk_180 0 84 (dk_at dksX8_about_3 2 rfl rfl)
theorem dX8_about_97 : decode cX8_about 97 = .ok (.bipush 27, 2) := dk_16 27 (dk_at dksX8_about_3 5 rfl rfl)
theorem dX8_about_99 : decode cX8_about 99 = .ok (.iaload, 1) := dk_46 (dk_at dksX8_about_3 7 rfl rfl)
theorem dX8_about_100 : decode cX8_about 100 = .ok (.ireturn, 1) := dk_172 (dk_at dksX8_about_3 8 rfl rfl)
theorem dX8_about_101 : decode cX8_about 101 = .ok (.aload_n 0, 1) := dk_42 (dk_at dksX8_about_3 9 rfl rfl)
theorem dX8_about_102 : decode cX8_about 102 = .ok (.getfield 414, 3) := dk_180 1 158 (dk_at dksX8_about_3 10 rfl rfl)
theorem dX8_about_105 : decode cX8_about 105 = .ok (.ireturn, 1) := dk_172 (dk_at dksX8_about_3 13 rfl rfl)
theorem dX8_about_106 : decode cX8_about 106 = .ok (.aload_n 0, 1) := dk_42 (dk_at dksX8_about_3 14 rfl rfl)
theorem dX8_about_107 : decode cX8_about 107 = .ok (.getfield 417, 3) := dk_180 1 161 (dk_at dksX8_about_3 15 rfl rfl)
theorem dX8_about_110 : decode cX8_about 110 = .ok (.ireturn, 1) := dk_172 (dk_at dksX8_about_3 18 rfl rfl)
theorem dX8_about_111 : decode cX8_about 111 = .ok (.aload_n 0, 1) := dk_42 (dk_at dksX8_about_3 19 rfl rfl)
theorem dX8_about_112 : decode cX8_about 112 = .ok (.getfield 420, 3) := dk_180 1 164 (dk_at dksX8_about_3 20 rfl rfl)
theorem dX8_about_115 : decode cX8_about 115 = .ok (.ireturn, 1) := dk_172 (dk_at dksX8_about_3 23 rfl rfl)
theorem dX8_about_116 : decode cX8_about 116 = .ok (.aload_n 0, 1) := dk_42 (dk_at dksX8_about_4 0 rfl rfl)
theorem dX8_about_117 : decode cX8_about 117 = .ok (.getfield 545, 3) := dk_180 2 33 (dk_at dksX8_about_4 1 rfl rfl)
theorem dX8_about_120 : decode cX8_about 120 = .ok (.ireturn, 1) := dk_172 (dk_at dksX8_about_4 4 rfl rfl)
theorem dX8_about_121 : decode cX8_about 121 = .ok (.aload_n 0, 1) := dk_42 (dk_at dksX8_about_4 5 rfl rfl)
theorem dX8_about_122 : decode cX8_about 122 = .ok (.getfield 154, 3) := dk_180 0 154 (dk_at dksX8_about_4 6 rfl rfl)
theorem dX8_about_125 : decode cX8_about 125 = .ok (.ireturn, 1) := dk_172 (dk_at dksX8_about_4 9 rfl rfl)
theorem dX8_about_126 : decode cX8_about 126 = .ok (.aload_n 0, 1) := dk_42 (dk_at dksX8_about_4 10 rfl rfl)
theorem dX8_about_127 : decode cX8_about 127 = .ok (.getfield 411, 3) := dk_180 1 155 (dk_at dksX8_about_4 11 rfl rfl)
theorem dX8_about_130 : decode cX8_about 130 = .ok (.ireturn, 1) := dk_172 (dk_at dksX8_about_4 14 rfl rfl)
theorem dX8_about_131 : decode cX8_about 131 = .ok (.aload_n 0, 1) := dk_42 (dk_at dksX8_about_4 15 rfl rfl)
theorem dX8_about_132 : decode cX8_about 132 = .ok (.getfield 423, 3) := dk_180 1 167 (dk_at dksX8_about_4 16 rfl rfl)
theorem dX8_about_135 : decode cX8_about 135 = .ok (.ireturn, 1) := dk_172 (dk_at dksX8_about_4 19 rfl rfl)
theorem dX8_about_136 : decode cX8_about 136 = .ok (.iconst (-1), 1) := dk_2 (dk_at dksX8_about_4 20 rfl rfl)
theorem dX8_about_137 : decode cX8_about 137 = .ok (.ireturn, 1) := dk_172 (dk_at dksX8_about_4 21 rfl rfl)
theorem q144 : (Jvm.Cond.initialized "BoardCrossingModel") ∈ lw_all := lw_g (lw_at lw_m1 16 rfl) rfl
theorem q913 : (Jvm.Cond.selects "BoardCrossingModel" ({ cls := "java/lang/Object", name := "getClass", desc := "()Ljava/lang/Class;" } : Jvm.MethodName) ({ cls := "java/lang/Object", name := "getClass", desc := "()Ljava/lang/Class;" } : Jvm.MethodName)) ∈ lw_all := lw_g (lw_at lw_m4 65 rfl) rfl
theorem q1473 : (Jvm.Cond.instantiable "BoardCrossingModel" (82 : Nat)) ∈ lw_all := lw_g (lw_at lw_m6 145 rfl) rfl
theorem q1475 : (Jvm.Cond.instanceMethod ({ cls := "BoardCrossingModel", name := "<init>", desc := "()V" } : Jvm.MethodName)) ∈ lw_all := lw_g (lw_at lw_m6 147 rfl) rfl
theorem q1476 : (Jvm.Cond.code ({ cls := "BoardCrossingModel", name := "<init>", desc := "()V" } : Jvm.MethodName) prog_20_method_1_code (1 : Nat) (Option.none : Option Jvm.ClassFile.FieldType)) ∈ lw_all := lw_g (lw_at lw_m6 148 rfl) rfl
theorem q1477 : (Jvm.Cond.methodLink "BoardCrossingModel" (1 : Nat) ({ cls := "java/lang/Object", name := "<init>", desc := "()V" } : Jvm.MethodName)) ∈ lw_all := lw_g (lw_at lw_m6 149 rfl) rfl
theorem q1478 : (Jvm.Cond.fieldLink "BoardCrossingModel" (7 : Nat) "BoardCrossingModel" "tape" "[I") ∈ lw_all := lw_g (lw_at lw_m6 150 rfl) rfl
theorem q1479 : (Jvm.Cond.fieldLink "BoardCrossingModel" (154 : Nat) "BoardCrossingModel" "taped" "I") ∈ lw_all := lw_g (lw_at lw_m6 151 rfl) rfl
theorem q1480 : (Jvm.Cond.fieldLink "BoardCrossingModel" (194 : Nat) "BoardCrossingModel" "fault" "I") ∈ lw_all := lw_g (lw_at lw_m6 152 rfl) rfl
theorem q1481 : (Jvm.Cond.fieldLink "BoardCrossingModel" (13 : Nat) "BoardCrossingModel" "faultPlace" "I") ∈ lw_all := lw_g (lw_at lw_m6 153 rfl) rfl
theorem q1482 : (Jvm.Cond.fieldLink "BoardCrossingModel" (161 : Nat) "BoardCrossingModel" "at" "I") ∈ lw_all := lw_g (lw_at lw_m6 154 rfl) rfl
theorem q1483 : (Jvm.Cond.fieldLink "BoardCrossingModel" (164 : Nat) "BoardCrossingModel" "size" "I") ∈ lw_all := lw_g (lw_at lw_m6 155 rfl) rfl
theorem q1484 : (Jvm.Cond.fieldLink "BoardCrossingModel" (181 : Nat) "BoardCrossingModel" "sort" "I") ∈ lw_all := lw_g (lw_at lw_m6 156 rfl) rfl
theorem q1485 : (Jvm.Cond.fieldLink "BoardCrossingModel" (171 : Nat) "BoardCrossingModel" "place" "I") ∈ lw_all := lw_g (lw_at lw_m6 157 rfl) rfl
theorem q1486 : (Jvm.Cond.fieldLink "BoardCrossingModel" (178 : Nat) "BoardCrossingModel" "numbe\x72" "I") ∈ lw_all := lw_g (lw_at lw_m6 158 rfl) rfl
theorem q1487 : (Jvm.Cond.fieldLink "BoardCrossingModel" (174 : Nat) "BoardCrossingModel" "word" "J") ∈ lw_all := lw_g (lw_at lw_m6 159 rfl) rfl
theorem q1488 : (Jvm.Cond.fieldLink "BoardCrossingModel" (17 : Nat) "BoardCrossingModel" "nName" "[J") ∈ lw_all := lw_g (lw_at lw_m6 160 rfl) rfl
theorem q1489 : (Jvm.Cond.fieldLink "BoardCrossingModel" (21 : Nat) "BoardCrossingModel" "nStep" "[I") ∈ lw_all := lw_g (lw_at lw_m6 161 rfl) rfl
theorem q1490 : (Jvm.Cond.fieldLink "BoardCrossingModel" (24 : Nat) "BoardCrossingModel" "nArg" "[I") ∈ lw_all := lw_g (lw_at lw_m6 162 rfl) rfl
theorem q1491 : (Jvm.Cond.fieldLink "BoardCrossingModel" (27 : Nat) "BoardCrossingModel" "step" "[I") ∈ lw_all := lw_g (lw_at lw_m6 163 rfl) rfl
theorem q1492 : (Jvm.Cond.fieldLink "BoardCrossingModel" (30 : Nat) "BoardCrossingModel" "arg" "[I") ∈ lw_all := lw_g (lw_at lw_m6 164 rfl) rfl
theorem q1493 : (Jvm.Cond.fieldLink "BoardCrossingModel" (33 : Nat) "BoardCrossingModel" "open" "[I") ∈ lw_all := lw_g (lw_at lw_m6 165 rfl) rfl
theorem q1494 : (Jvm.Cond.fieldLink "BoardCrossingModel" (36 : Nat) "BoardCrossingModel" "values" "[I") ∈ lw_all := lw_g (lw_at lw_m6 166 rfl) rfl
theorem q1495 : (Jvm.Cond.fieldLink "BoardCrossingModel" (260 : Nat) "BoardCrossingModel" "nMany" "I") ∈ lw_all := lw_g (lw_at lw_m6 167 rfl) rfl
theorem q1496 : (Jvm.Cond.fieldLink "BoardCrossingModel" (327 : Nat) "BoardCrossingModel" "steps" "I") ∈ lw_all := lw_g (lw_at lw_m6 168 rfl) rfl
theorem q1497 : (Jvm.Cond.fieldLink "BoardCrossingModel" (263 : Nat) "BoardCrossingModel" "opens" "I") ∈ lw_all := lw_g (lw_at lw_m6 169 rfl) rfl
theorem q1498 : (Jvm.Cond.fieldLink "BoardCrossingModel" (276 : Nat) "BoardCrossingModel" "nUnits" "I") ∈ lw_all := lw_g (lw_at lw_m6 170 rfl) rfl
theorem q1499 : (Jvm.Cond.fieldLink "BoardCrossingModel" (411 : Nat) "BoardCrossingModel" "units" "I") ∈ lw_all := lw_g (lw_at lw_m6 171 rfl) rfl
theorem q1500 : (Jvm.Cond.fieldLink "BoardCrossingModel" (279 : Nat) "BoardCrossingModel" "ownUnits" "I") ∈ lw_all := lw_g (lw_at lw_m6 172 rfl) rfl
theorem q1501 : (Jvm.Cond.fieldLink "BoardCrossingModel" (273 : Nat) "BoardCrossingModel" "deep" "I") ∈ lw_all := lw_g (lw_at lw_m6 173 rfl) rfl
theorem q1502 : (Jvm.Cond.fieldLink "BoardCrossingModel" (298 : Nat) "BoardCrossingModel" "nHasForm" "Z") ∈ lw_all := lw_g (lw_at lw_m6 174 rfl) rfl
theorem q1503 : (Jvm.Cond.fieldLink "BoardCrossingModel" (39 : Nat) "BoardCrossingModel" "asks" "[I") ∈ lw_all := lw_g (lw_at lw_m6 175 rfl) rfl
theorem q1504 : (Jvm.Cond.fieldLink "BoardCrossingModel" (42 : Nat) "BoardCrossingModel" "nCurrent" "[I") ∈ lw_all := lw_g (lw_at lw_m6 176 rfl) rfl
theorem q1505 : (Jvm.Cond.fieldLink "BoardCrossingModel" (45 : Nat) "BoardCrossingModel" "nIron" "[I") ∈ lw_all := lw_g (lw_at lw_m6 177 rfl) rfl
theorem q1506 : (Jvm.Cond.fieldLink "BoardCrossingModel" (48 : Nat) "BoardCrossingModel" "nBoardWide" "[I") ∈ lw_all := lw_g (lw_at lw_m6 178 rfl) rfl
theorem q1507 : (Jvm.Cond.fieldLink "BoardCrossingModel" (51 : Nat) "BoardCrossingModel" "nBoardAt" "[I") ∈ lw_all := lw_g (lw_at lw_m6 179 rfl) rfl
theorem q1508 : (Jvm.Cond.fieldLink "BoardCrossingModel" (54 : Nat) "BoardCrossingModel" "nBears" "[I") ∈ lw_all := lw_g (lw_at lw_m6 180 rfl) rfl
theorem q1509 : (Jvm.Cond.fieldLink "BoardCrossingModel" (57 : Nat) "BoardCrossingModel" "nLoadWide" "[I") ∈ lw_all := lw_g (lw_at lw_m6 181 rfl) rfl
theorem q1510 : (Jvm.Cond.fieldLink "BoardCrossingModel" (60 : Nat) "BoardCrossingModel" "current" "[I") ∈ lw_all := lw_g (lw_at lw_m6 182 rfl) rfl
theorem q1511 : (Jvm.Cond.fieldLink "BoardCrossingModel" (63 : Nat) "BoardCrossingModel" "iron" "[I") ∈ lw_all := lw_g (lw_at lw_m6 183 rfl) rfl
theorem q1512 : (Jvm.Cond.fieldLink "BoardCrossingModel" (66 : Nat) "BoardCrossingModel" "boardWide" "[I") ∈ lw_all := lw_g (lw_at lw_m6 184 rfl) rfl
theorem q1513 : (Jvm.Cond.fieldLink "BoardCrossingModel" (69 : Nat) "BoardCrossingModel" "boardAt" "[I") ∈ lw_all := lw_g (lw_at lw_m6 185 rfl) rfl
theorem q1514 : (Jvm.Cond.fieldLink "BoardCrossingModel" (72 : Nat) "BoardCrossingModel" "bears" "[I") ∈ lw_all := lw_g (lw_at lw_m6 186 rfl) rfl
theorem q1515 : (Jvm.Cond.fieldLink "BoardCrossingModel" (75 : Nat) "BoardCrossingModel" "loadWide" "[I") ∈ lw_all := lw_g (lw_at lw_m6 187 rfl) rfl
theorem q1516 : (Jvm.Cond.fieldLink "BoardCrossingModel" (337 : Nat) "BoardCrossingModel" "nColumns" "I") ∈ lw_all := lw_g (lw_at lw_m6 188 rfl) rfl
theorem q1517 : (Jvm.Cond.fieldLink "BoardCrossingModel" (344 : Nat) "BoardCrossingModel" "nRows" "I") ∈ lw_all := lw_g (lw_at lw_m6 189 rfl) rfl
theorem q1518 : (Jvm.Cond.fieldLink "BoardCrossingModel" (351 : Nat) "BoardCrossingModel" "nCurrents" "I") ∈ lw_all := lw_g (lw_at lw_m6 190 rfl) rfl
theorem q1519 : (Jvm.Cond.fieldLink "BoardCrossingModel" (354 : Nat) "BoardCrossingModel" "nIrons" "I") ∈ lw_all := lw_g (lw_at lw_m6 191 rfl) rfl
theorem q1520 : (Jvm.Cond.fieldLink "BoardCrossingModel" (357 : Nat) "BoardCrossingModel" "nBoards" "I") ∈ lw_all := lw_g (lw_at lw_m6 192 rfl) rfl
theorem q1521 : (Jvm.Cond.fieldLink "BoardCrossingModel" (363 : Nat) "BoardCrossingModel" "nLoads" "I") ∈ lw_all := lw_g (lw_at lw_m6 193 rfl) rfl
theorem q1522 : (Jvm.Cond.fieldLink "BoardCrossingModel" (390 : Nat) "BoardCrossingModel" "nFlood" "I") ∈ lw_all := lw_g (lw_at lw_m6 194 rfl) rfl
theorem q1523 : (Jvm.Cond.fieldLink "BoardCrossingModel" (396 : Nat) "BoardCrossingModel" "nDraw" "I") ∈ lw_all := lw_g (lw_at lw_m6 195 rfl) rfl
theorem q1524 : (Jvm.Cond.fieldLink "BoardCrossingModel" (78 : Nat) "BoardCrossingModel" "columns" "I") ∈ lw_all := lw_g (lw_at lw_m6 196 rfl) rfl
theorem q1525 : (Jvm.Cond.fieldLink "BoardCrossingModel" (81 : Nat) "BoardCrossingModel" "rows" "I") ∈ lw_all := lw_g (lw_at lw_m6 197 rfl) rfl
theorem q1526 : (Jvm.Cond.fieldLink "BoardCrossingModel" (405 : Nat) "BoardCrossingModel" "boards" "I") ∈ lw_all := lw_g (lw_at lw_m6 198 rfl) rfl
theorem q1527 : (Jvm.Cond.fieldLink "BoardCrossingModel" (321 : Nat) "BoardCrossingModel" "loads" "I") ∈ lw_all := lw_g (lw_at lw_m6 199 rfl) rfl
theorem q1528 : (Jvm.Cond.fieldLink "BoardCrossingModel" (408 : Nat) "BoardCrossingModel" "flood" "I") ∈ lw_all := lw_g (lw_at lw_m6 200 rfl) rfl
theorem q1529 : (Jvm.Cond.fieldLink "BoardCrossingModel" (366 : Nat) "BoardCrossingModel" "nHasLine" "Z") ∈ lw_all := lw_g (lw_at lw_m6 201 rfl) rfl
theorem q1530 : (Jvm.Cond.fieldLink "BoardCrossingModel" (387 : Nat) "BoardCrossingModel" "nHasFlood" "Z") ∈ lw_all := lw_g (lw_at lw_m6 202 rfl) rfl
theorem q1531 : (Jvm.Cond.fieldLink "BoardCrossingModel" (393 : Nat) "BoardCrossingModel" "nHasDraw" "Z") ∈ lw_all := lw_g (lw_at lw_m6 203 rfl) rfl
theorem q1532 : (Jvm.Cond.fieldLink "BoardCrossingModel" (84 : Nat) "BoardCrossingModel" "now" "[I") ∈ lw_all := lw_g (lw_at lw_m6 204 rfl) rfl
theorem q1533 : (Jvm.Cond.fieldLink "BoardCrossingModel" (87 : Nat) "BoardCrossingModel" "ai\x72" "[I") ∈ lw_all := lw_g (lw_at lw_m6 205 rfl) rfl
theorem q1534 : (Jvm.Cond.fieldLink "BoardCrossingModel" (90 : Nat) "BoardCrossingModel" "were" "[I") ∈ lw_all := lw_g (lw_at lw_m6 206 rfl) rfl
theorem q1535 : (Jvm.Cond.fieldLink "BoardCrossingModel" (414 : Nat) "BoardCrossingModel" "acts" "I") ∈ lw_all := lw_g (lw_at lw_m6 207 rfl) rfl
theorem q1536 : (Jvm.Cond.fieldLink "BoardCrossingModel" (417 : Nat) "BoardCrossingModel" "undone" "I") ∈ lw_all := lw_g (lw_at lw_m6 208 rfl) rfl
theorem q1537 : (Jvm.Cond.fieldLink "BoardCrossingModel" (93 : Nat) "BoardCrossingModel" "steers" "[I") ∈ lw_all := lw_g (lw_at lw_m6 209 rfl) rfl
theorem q1538 : (Jvm.Cond.fieldLink "BoardCrossingModel" (96 : Nat) "BoardCrossingModel" "lies" "[I") ∈ lw_all := lw_g (lw_at lw_m6 210 rfl) rfl
theorem q1539 : (Jvm.Cond.fieldLink "BoardCrossingModel" (423 : Nat) "BoardCrossingModel" "lain" "I") ∈ lw_all := lw_g (lw_at lw_m6 211 rfl) rfl
theorem q1540 : (Jvm.Cond.fieldLink "BoardCrossingModel" (99 : Nat) "BoardCrossingModel" "trip" "[I") ∈ lw_all := lw_g (lw_at lw_m6 212 rfl) rfl
theorem q1541 : (Jvm.Cond.fieldLink "BoardCrossingModel" (102 : Nat) "BoardCrossingModel" "before" "[I") ∈ lw_all := lw_g (lw_at lw_m6 213 rfl) rfl
theorem q1542 : (Jvm.Cond.fieldLink "BoardCrossingModel" (105 : Nat) "BoardCrossingModel" "wides" "[I") ∈ lw_all := lw_g (lw_at lw_m6 214 rfl) rfl
theorem q1543 : (Jvm.Cond.fieldLink "BoardCrossingModel" (108 : Nat) "BoardCrossingModel" "can" "[Z") ∈ lw_all := lw_g (lw_at lw_m6 215 rfl) rfl
theorem q1544 : (Jvm.Cond.fieldLink "BoardCrossingModel" (112 : Nat) "BoardCrossingModel" "then" "[Z") ∈ lw_all := lw_g (lw_at lw_m6 216 rfl) rfl
theorem q1545 : (Jvm.Cond.fieldLink "BoardCrossingModel" (115 : Nat) "BoardCrossingModel" "lands" "[I") ∈ lw_all := lw_g (lw_at lw_m6 217 rfl) rfl
theorem q1546 : (Jvm.Cond.fieldLink "BoardCrossingModel" (118 : Nat) "BoardCrossingModel" "moo\x72" "[I") ∈ lw_all := lw_g (lw_at lw_m6 218 rfl) rfl
theorem q1547 : (Jvm.Cond.fieldLink "BoardCrossingModel" (121 : Nat) "BoardCrossingModel" "sightSort" "[I") ∈ lw_all := lw_g (lw_at lw_m6 219 rfl) rfl
theorem q1548 : (Jvm.Cond.fieldLink "BoardCrossingModel" (124 : Nat) "BoardCrossingModel" "sightStrokes" "[I") ∈ lw_all := lw_g (lw_at lw_m6 220 rfl) rfl
theorem q1549 : (Jvm.Cond.fieldLink "BoardCrossingModel" (127 : Nat) "BoardCrossingModel" "sightOf" "[I") ∈ lw_all := lw_g (lw_at lw_m6 221 rfl) rfl
theorem q1550 : (Jvm.Cond.fieldLink "BoardCrossingModel" (130 : Nat) "BoardCrossingModel" "sightTold" "[I") ∈ lw_all := lw_g (lw_at lw_m6 222 rfl) rfl
theorem q1551 : (Jvm.Cond.fieldLink "BoardCrossingModel" (133 : Nat) "BoardCrossingModel" "sightUntold" "[I") ∈ lw_all := lw_g (lw_at lw_m6 223 rfl) rfl
theorem q1552 : (Jvm.Cond.fieldLink "BoardCrossingModel" (136 : Nat) "BoardCrossingModel" "sightIs" "[Z") ∈ lw_all := lw_g (lw_at lw_m6 224 rfl) rfl
theorem q1553 : (Jvm.Cond.fieldLink "BoardCrossingModel" (420 : Nat) "BoardCrossingModel" "sights" "I") ∈ lw_all := lw_g (lw_at lw_m6 225 rfl) rfl
theorem q1554 : (Jvm.Cond.fieldLink "BoardCrossingModel" (545 : Nat) "BoardCrossingModel" "time" "I") ∈ lw_all := lw_g (lw_at lw_m6 226 rfl) rfl
theorem q1555 : (Jvm.Cond.fieldLink "BoardCrossingModel" (139 : Nat) "BoardCrossingModel" "wasColumn" "[I") ∈ lw_all := lw_g (lw_at lw_m6 227 rfl) rfl
theorem q1556 : (Jvm.Cond.fieldLink "BoardCrossingModel" (142 : Nat) "BoardCrossingModel" "wasHeat" "[I") ∈ lw_all := lw_g (lw_at lw_m6 228 rfl) rfl
theorem q1557 : (Jvm.Cond.fieldLink "BoardCrossingModel" (145 : Nat) "BoardCrossingModel" "tally" "[I") ∈ lw_all := lw_g (lw_at lw_m6 229 rfl) rfl
theorem q1558 : (Jvm.Cond.fieldLink "BoardCrossingModel" (148 : Nat) "BoardCrossingModel" "hasBox" "[Z") ∈ lw_all := lw_g (lw_at lw_m6 230 rfl) rfl
theorem q1559 : (Jvm.Cond.fieldLink "BoardCrossingModel" (151 : Nat) "BoardCrossingModel" "boxes" "[I") ∈ lw_all := lw_g (lw_at lw_m6 231 rfl) rfl
theorem q1560 : (Jvm.Cond.laysFinal "BoardCrossingModel" "BoardCrossingModel" "tape" "[I") ∈ lw_all := lw_g (lw_at lw_m6 232 rfl) rfl
theorem q1561 : (Jvm.Cond.soleField "BoardCrossingModel" "tape") ∈ lw_all := lw_g (lw_at lw_m6 233 rfl) rfl
theorem q1562 : (Jvm.Cond.lays "BoardCrossingModel" "BoardCrossingModel" "taped" "I") ∈ lw_all := lw_g (lw_at lw_m6 234 rfl) rfl
theorem q1563 : (Jvm.Cond.soleField "BoardCrossingModel" "taped") ∈ lw_all := lw_g (lw_at lw_m6 235 rfl) rfl
theorem q1564 : (Jvm.Cond.lays "BoardCrossingModel" "BoardCrossingModel" "fault" "I") ∈ lw_all := lw_g (lw_at lw_m6 236 rfl) rfl
theorem q1565 : (Jvm.Cond.soleField "BoardCrossingModel" "fault") ∈ lw_all := lw_g (lw_at lw_m6 237 rfl) rfl
theorem q1566 : (Jvm.Cond.lays "BoardCrossingModel" "BoardCrossingModel" "faultPlace" "I") ∈ lw_all := lw_g (lw_at lw_m6 238 rfl) rfl
theorem q1567 : (Jvm.Cond.soleField "BoardCrossingModel" "faultPlace") ∈ lw_all := lw_g (lw_at lw_m6 239 rfl) rfl
theorem q1568 : (Jvm.Cond.lays "BoardCrossingModel" "BoardCrossingModel" "at" "I") ∈ lw_all := lw_g (lw_at lw_m7 0 rfl) rfl
theorem q1569 : (Jvm.Cond.soleField "BoardCrossingModel" "at") ∈ lw_all := lw_g (lw_at lw_m7 1 rfl) rfl
theorem q1570 : (Jvm.Cond.lays "BoardCrossingModel" "BoardCrossingModel" "size" "I") ∈ lw_all := lw_g (lw_at lw_m7 2 rfl) rfl
theorem q1571 : (Jvm.Cond.soleField "BoardCrossingModel" "size") ∈ lw_all := lw_g (lw_at lw_m7 3 rfl) rfl
theorem q1572 : (Jvm.Cond.lays "BoardCrossingModel" "BoardCrossingModel" "sort" "I") ∈ lw_all := lw_g (lw_at lw_m7 4 rfl) rfl
theorem q1573 : (Jvm.Cond.soleField "BoardCrossingModel" "sort") ∈ lw_all := lw_g (lw_at lw_m7 5 rfl) rfl
theorem q1574 : (Jvm.Cond.lays "BoardCrossingModel" "BoardCrossingModel" "place" "I") ∈ lw_all := lw_g (lw_at lw_m7 6 rfl) rfl
theorem q1575 : (Jvm.Cond.soleField "BoardCrossingModel" "place") ∈ lw_all := lw_g (lw_at lw_m7 7 rfl) rfl
theorem q1576 : (Jvm.Cond.lays "BoardCrossingModel" "BoardCrossingModel" "numbe\x72" "I") ∈ lw_all := lw_g (lw_at lw_m7 8 rfl) rfl
theorem q1577 : (Jvm.Cond.soleField "BoardCrossingModel" "numbe\x72") ∈ lw_all := lw_g (lw_at lw_m7 9 rfl) rfl
theorem q1578 : (Jvm.Cond.lays "BoardCrossingModel" "BoardCrossingModel" "word" "J") ∈ lw_all := lw_g (lw_at lw_m7 10 rfl) rfl
theorem q1579 : (Jvm.Cond.soleField "BoardCrossingModel" "word") ∈ lw_all := lw_g (lw_at lw_m7 11 rfl) rfl
theorem q1580 : (Jvm.Cond.laysFinal "BoardCrossingModel" "BoardCrossingModel" "nName" "[J") ∈ lw_all := lw_g (lw_at lw_m7 12 rfl) rfl
theorem q1581 : (Jvm.Cond.soleField "BoardCrossingModel" "nName") ∈ lw_all := lw_g (lw_at lw_m7 13 rfl) rfl
theorem q1582 : (Jvm.Cond.laysFinal "BoardCrossingModel" "BoardCrossingModel" "nStep" "[I") ∈ lw_all := lw_g (lw_at lw_m7 14 rfl) rfl
theorem q1583 : (Jvm.Cond.soleField "BoardCrossingModel" "nStep") ∈ lw_all := lw_g (lw_at lw_m7 15 rfl) rfl
theorem q1584 : (Jvm.Cond.laysFinal "BoardCrossingModel" "BoardCrossingModel" "nArg" "[I") ∈ lw_all := lw_g (lw_at lw_m7 16 rfl) rfl
theorem q1585 : (Jvm.Cond.soleField "BoardCrossingModel" "nArg") ∈ lw_all := lw_g (lw_at lw_m7 17 rfl) rfl
theorem q1586 : (Jvm.Cond.laysFinal "BoardCrossingModel" "BoardCrossingModel" "step" "[I") ∈ lw_all := lw_g (lw_at lw_m7 18 rfl) rfl
theorem q1587 : (Jvm.Cond.soleField "BoardCrossingModel" "step") ∈ lw_all := lw_g (lw_at lw_m7 19 rfl) rfl
theorem q1588 : (Jvm.Cond.laysFinal "BoardCrossingModel" "BoardCrossingModel" "arg" "[I") ∈ lw_all := lw_g (lw_at lw_m7 20 rfl) rfl
theorem q1589 : (Jvm.Cond.soleField "BoardCrossingModel" "arg") ∈ lw_all := lw_g (lw_at lw_m7 21 rfl) rfl
theorem q1590 : (Jvm.Cond.laysFinal "BoardCrossingModel" "BoardCrossingModel" "open" "[I") ∈ lw_all := lw_g (lw_at lw_m7 22 rfl) rfl
theorem q1591 : (Jvm.Cond.soleField "BoardCrossingModel" "open") ∈ lw_all := lw_g (lw_at lw_m7 23 rfl) rfl
theorem q1592 : (Jvm.Cond.laysFinal "BoardCrossingModel" "BoardCrossingModel" "values" "[I") ∈ lw_all := lw_g (lw_at lw_m7 24 rfl) rfl
theorem q1593 : (Jvm.Cond.soleField "BoardCrossingModel" "values") ∈ lw_all := lw_g (lw_at lw_m7 25 rfl) rfl
theorem q1594 : (Jvm.Cond.lays "BoardCrossingModel" "BoardCrossingModel" "nMany" "I") ∈ lw_all := lw_g (lw_at lw_m7 26 rfl) rfl
theorem q1595 : (Jvm.Cond.soleField "BoardCrossingModel" "nMany") ∈ lw_all := lw_g (lw_at lw_m7 27 rfl) rfl
theorem q1596 : (Jvm.Cond.lays "BoardCrossingModel" "BoardCrossingModel" "steps" "I") ∈ lw_all := lw_g (lw_at lw_m7 28 rfl) rfl
theorem q1597 : (Jvm.Cond.soleField "BoardCrossingModel" "steps") ∈ lw_all := lw_g (lw_at lw_m7 29 rfl) rfl
theorem q1598 : (Jvm.Cond.lays "BoardCrossingModel" "BoardCrossingModel" "opens" "I") ∈ lw_all := lw_g (lw_at lw_m7 30 rfl) rfl
theorem q1599 : (Jvm.Cond.soleField "BoardCrossingModel" "opens") ∈ lw_all := lw_g (lw_at lw_m7 31 rfl) rfl
theorem q1600 : (Jvm.Cond.lays "BoardCrossingModel" "BoardCrossingModel" "nUnits" "I") ∈ lw_all := lw_g (lw_at lw_m7 32 rfl) rfl
theorem q1601 : (Jvm.Cond.soleField "BoardCrossingModel" "nUnits") ∈ lw_all := lw_g (lw_at lw_m7 33 rfl) rfl
theorem q1602 : (Jvm.Cond.lays "BoardCrossingModel" "BoardCrossingModel" "units" "I") ∈ lw_all := lw_g (lw_at lw_m7 34 rfl) rfl
theorem q1603 : (Jvm.Cond.soleField "BoardCrossingModel" "units") ∈ lw_all := lw_g (lw_at lw_m7 35 rfl) rfl
theorem q1604 : (Jvm.Cond.lays "BoardCrossingModel" "BoardCrossingModel" "ownUnits" "I") ∈ lw_all := lw_g (lw_at lw_m7 36 rfl) rfl
theorem q1605 : (Jvm.Cond.soleField "BoardCrossingModel" "ownUnits") ∈ lw_all := lw_g (lw_at lw_m7 37 rfl) rfl
theorem q1606 : (Jvm.Cond.lays "BoardCrossingModel" "BoardCrossingModel" "deep" "I") ∈ lw_all := lw_g (lw_at lw_m7 38 rfl) rfl
theorem q1607 : (Jvm.Cond.soleField "BoardCrossingModel" "deep") ∈ lw_all := lw_g (lw_at lw_m7 39 rfl) rfl
theorem q1608 : (Jvm.Cond.lays "BoardCrossingModel" "BoardCrossingModel" "nHasForm" "Z") ∈ lw_all := lw_g (lw_at lw_m7 40 rfl) rfl
theorem q1609 : (Jvm.Cond.soleField "BoardCrossingModel" "nHasForm") ∈ lw_all := lw_g (lw_at lw_m7 41 rfl) rfl
theorem q1610 : (Jvm.Cond.laysFinal "BoardCrossingModel" "BoardCrossingModel" "asks" "[I") ∈ lw_all := lw_g (lw_at lw_m7 42 rfl) rfl
theorem q1611 : (Jvm.Cond.soleField "BoardCrossingModel" "asks") ∈ lw_all := lw_g (lw_at lw_m7 43 rfl) rfl
theorem q1612 : (Jvm.Cond.laysFinal "BoardCrossingModel" "BoardCrossingModel" "nCurrent" "[I") ∈ lw_all := lw_g (lw_at lw_m7 44 rfl) rfl
theorem q1613 : (Jvm.Cond.soleField "BoardCrossingModel" "nCurrent") ∈ lw_all := lw_g (lw_at lw_m7 45 rfl) rfl
theorem q1614 : (Jvm.Cond.laysFinal "BoardCrossingModel" "BoardCrossingModel" "nIron" "[I") ∈ lw_all := lw_g (lw_at lw_m7 46 rfl) rfl
theorem q1615 : (Jvm.Cond.soleField "BoardCrossingModel" "nIron") ∈ lw_all := lw_g (lw_at lw_m7 47 rfl) rfl
theorem q1616 : (Jvm.Cond.laysFinal "BoardCrossingModel" "BoardCrossingModel" "nBoardWide" "[I") ∈ lw_all := lw_g (lw_at lw_m7 48 rfl) rfl
theorem q1617 : (Jvm.Cond.soleField "BoardCrossingModel" "nBoardWide") ∈ lw_all := lw_g (lw_at lw_m7 49 rfl) rfl
theorem q1618 : (Jvm.Cond.laysFinal "BoardCrossingModel" "BoardCrossingModel" "nBoardAt" "[I") ∈ lw_all := lw_g (lw_at lw_m7 50 rfl) rfl
theorem q1619 : (Jvm.Cond.soleField "BoardCrossingModel" "nBoardAt") ∈ lw_all := lw_g (lw_at lw_m7 51 rfl) rfl
theorem q1620 : (Jvm.Cond.laysFinal "BoardCrossingModel" "BoardCrossingModel" "nBears" "[I") ∈ lw_all := lw_g (lw_at lw_m7 52 rfl) rfl
theorem q1621 : (Jvm.Cond.soleField "BoardCrossingModel" "nBears") ∈ lw_all := lw_g (lw_at lw_m7 53 rfl) rfl
theorem q1622 : (Jvm.Cond.laysFinal "BoardCrossingModel" "BoardCrossingModel" "nLoadWide" "[I") ∈ lw_all := lw_g (lw_at lw_m7 54 rfl) rfl
theorem q1623 : (Jvm.Cond.soleField "BoardCrossingModel" "nLoadWide") ∈ lw_all := lw_g (lw_at lw_m7 55 rfl) rfl
theorem q1624 : (Jvm.Cond.laysFinal "BoardCrossingModel" "BoardCrossingModel" "current" "[I") ∈ lw_all := lw_g (lw_at lw_m7 56 rfl) rfl
theorem q1625 : (Jvm.Cond.soleField "BoardCrossingModel" "current") ∈ lw_all := lw_g (lw_at lw_m7 57 rfl) rfl
theorem q1626 : (Jvm.Cond.laysFinal "BoardCrossingModel" "BoardCrossingModel" "iron" "[I") ∈ lw_all := lw_g (lw_at lw_m7 58 rfl) rfl
theorem q1627 : (Jvm.Cond.soleField "BoardCrossingModel" "iron") ∈ lw_all := lw_g (lw_at lw_m7 59 rfl) rfl
theorem q1628 : (Jvm.Cond.laysFinal "BoardCrossingModel" "BoardCrossingModel" "boardWide" "[I") ∈ lw_all := lw_g (lw_at lw_m7 60 rfl) rfl
theorem q1629 : (Jvm.Cond.soleField "BoardCrossingModel" "boardWide") ∈ lw_all := lw_g (lw_at lw_m7 61 rfl) rfl
theorem q1630 : (Jvm.Cond.laysFinal "BoardCrossingModel" "BoardCrossingModel" "boardAt" "[I") ∈ lw_all := lw_g (lw_at lw_m7 62 rfl) rfl
theorem q1631 : (Jvm.Cond.soleField "BoardCrossingModel" "boardAt") ∈ lw_all := lw_g (lw_at lw_m7 63 rfl) rfl
theorem q1632 : (Jvm.Cond.laysFinal "BoardCrossingModel" "BoardCrossingModel" "bears" "[I") ∈ lw_all := lw_g (lw_at lw_m7 64 rfl) rfl
theorem q1633 : (Jvm.Cond.soleField "BoardCrossingModel" "bears") ∈ lw_all := lw_g (lw_at lw_m7 65 rfl) rfl
theorem q1634 : (Jvm.Cond.laysFinal "BoardCrossingModel" "BoardCrossingModel" "loadWide" "[I") ∈ lw_all := lw_g (lw_at lw_m7 66 rfl) rfl
theorem q1635 : (Jvm.Cond.soleField "BoardCrossingModel" "loadWide") ∈ lw_all := lw_g (lw_at lw_m7 67 rfl) rfl
theorem q1636 : (Jvm.Cond.lays "BoardCrossingModel" "BoardCrossingModel" "nColumns" "I") ∈ lw_all := lw_g (lw_at lw_m7 68 rfl) rfl
theorem q1637 : (Jvm.Cond.soleField "BoardCrossingModel" "nColumns") ∈ lw_all := lw_g (lw_at lw_m7 69 rfl) rfl
theorem q1638 : (Jvm.Cond.lays "BoardCrossingModel" "BoardCrossingModel" "nRows" "I") ∈ lw_all := lw_g (lw_at lw_m7 70 rfl) rfl
theorem q1639 : (Jvm.Cond.soleField "BoardCrossingModel" "nRows") ∈ lw_all := lw_g (lw_at lw_m7 71 rfl) rfl
theorem q1640 : (Jvm.Cond.lays "BoardCrossingModel" "BoardCrossingModel" "nCurrents" "I") ∈ lw_all := lw_g (lw_at lw_m7 72 rfl) rfl
theorem q1641 : (Jvm.Cond.soleField "BoardCrossingModel" "nCurrents") ∈ lw_all := lw_g (lw_at lw_m7 73 rfl) rfl
theorem q1642 : (Jvm.Cond.lays "BoardCrossingModel" "BoardCrossingModel" "nIrons" "I") ∈ lw_all := lw_g (lw_at lw_m7 74 rfl) rfl
theorem q1643 : (Jvm.Cond.soleField "BoardCrossingModel" "nIrons") ∈ lw_all := lw_g (lw_at lw_m7 75 rfl) rfl
theorem q1644 : (Jvm.Cond.lays "BoardCrossingModel" "BoardCrossingModel" "nBoards" "I") ∈ lw_all := lw_g (lw_at lw_m7 76 rfl) rfl
theorem q1645 : (Jvm.Cond.soleField "BoardCrossingModel" "nBoards") ∈ lw_all := lw_g (lw_at lw_m7 77 rfl) rfl
theorem q1646 : (Jvm.Cond.lays "BoardCrossingModel" "BoardCrossingModel" "nLoads" "I") ∈ lw_all := lw_g (lw_at lw_m7 78 rfl) rfl
theorem q1647 : (Jvm.Cond.soleField "BoardCrossingModel" "nLoads") ∈ lw_all := lw_g (lw_at lw_m7 79 rfl) rfl
theorem q1648 : (Jvm.Cond.lays "BoardCrossingModel" "BoardCrossingModel" "nFlood" "I") ∈ lw_all := lw_g (lw_at lw_m7 80 rfl) rfl
theorem q1649 : (Jvm.Cond.soleField "BoardCrossingModel" "nFlood") ∈ lw_all := lw_g (lw_at lw_m7 81 rfl) rfl
theorem q1650 : (Jvm.Cond.lays "BoardCrossingModel" "BoardCrossingModel" "nDraw" "I") ∈ lw_all := lw_g (lw_at lw_m7 82 rfl) rfl
theorem q1651 : (Jvm.Cond.soleField "BoardCrossingModel" "nDraw") ∈ lw_all := lw_g (lw_at lw_m7 83 rfl) rfl
theorem q1652 : (Jvm.Cond.lays "BoardCrossingModel" "BoardCrossingModel" "columns" "I") ∈ lw_all := lw_g (lw_at lw_m7 84 rfl) rfl
theorem q1653 : (Jvm.Cond.soleField "BoardCrossingModel" "columns") ∈ lw_all := lw_g (lw_at lw_m7 85 rfl) rfl
theorem q1654 : (Jvm.Cond.lays "BoardCrossingModel" "BoardCrossingModel" "rows" "I") ∈ lw_all := lw_g (lw_at lw_m7 86 rfl) rfl
theorem q1655 : (Jvm.Cond.soleField "BoardCrossingModel" "rows") ∈ lw_all := lw_g (lw_at lw_m7 87 rfl) rfl
theorem q1656 : (Jvm.Cond.lays "BoardCrossingModel" "BoardCrossingModel" "boards" "I") ∈ lw_all := lw_g (lw_at lw_m7 88 rfl) rfl
theorem q1657 : (Jvm.Cond.soleField "BoardCrossingModel" "boards") ∈ lw_all := lw_g (lw_at lw_m7 89 rfl) rfl
theorem q1658 : (Jvm.Cond.lays "BoardCrossingModel" "BoardCrossingModel" "loads" "I") ∈ lw_all := lw_g (lw_at lw_m7 90 rfl) rfl
theorem q1659 : (Jvm.Cond.soleField "BoardCrossingModel" "loads") ∈ lw_all := lw_g (lw_at lw_m7 91 rfl) rfl
theorem q1660 : (Jvm.Cond.lays "BoardCrossingModel" "BoardCrossingModel" "flood" "I") ∈ lw_all := lw_g (lw_at lw_m7 92 rfl) rfl
theorem q1661 : (Jvm.Cond.soleField "BoardCrossingModel" "flood") ∈ lw_all := lw_g (lw_at lw_m7 93 rfl) rfl
theorem q1662 : (Jvm.Cond.lays "BoardCrossingModel" "BoardCrossingModel" "nHasLine" "Z") ∈ lw_all := lw_g (lw_at lw_m7 94 rfl) rfl
theorem q1663 : (Jvm.Cond.soleField "BoardCrossingModel" "nHasLine") ∈ lw_all := lw_g (lw_at lw_m7 95 rfl) rfl
theorem q1664 : (Jvm.Cond.lays "BoardCrossingModel" "BoardCrossingModel" "nHasFlood" "Z") ∈ lw_all := lw_g (lw_at lw_m7 96 rfl) rfl
theorem q1665 : (Jvm.Cond.soleField "BoardCrossingModel" "nHasFlood") ∈ lw_all := lw_g (lw_at lw_m7 97 rfl) rfl
theorem q1666 : (Jvm.Cond.lays "BoardCrossingModel" "BoardCrossingModel" "nHasDraw" "Z") ∈ lw_all := lw_g (lw_at lw_m7 98 rfl) rfl
theorem q1667 : (Jvm.Cond.soleField "BoardCrossingModel" "nHasDraw") ∈ lw_all := lw_g (lw_at lw_m7 99 rfl) rfl
theorem q1668 : (Jvm.Cond.laysFinal "BoardCrossingModel" "BoardCrossingModel" "now" "[I") ∈ lw_all := lw_g (lw_at lw_m7 100 rfl) rfl
theorem q1669 : (Jvm.Cond.soleField "BoardCrossingModel" "now") ∈ lw_all := lw_g (lw_at lw_m7 101 rfl) rfl
theorem q1670 : (Jvm.Cond.laysFinal "BoardCrossingModel" "BoardCrossingModel" "ai\x72" "[I") ∈ lw_all := lw_g (lw_at lw_m7 102 rfl) rfl
theorem q1671 : (Jvm.Cond.soleField "BoardCrossingModel" "ai\x72") ∈ lw_all := lw_g (lw_at lw_m7 103 rfl) rfl
theorem q1672 : (Jvm.Cond.laysFinal "BoardCrossingModel" "BoardCrossingModel" "were" "[I") ∈ lw_all := lw_g (lw_at lw_m7 104 rfl) rfl
theorem q1673 : (Jvm.Cond.soleField "BoardCrossingModel" "were") ∈ lw_all := lw_g (lw_at lw_m7 105 rfl) rfl
theorem q1674 : (Jvm.Cond.lays "BoardCrossingModel" "BoardCrossingModel" "acts" "I") ∈ lw_all := lw_g (lw_at lw_m7 106 rfl) rfl
theorem q1675 : (Jvm.Cond.soleField "BoardCrossingModel" "acts") ∈ lw_all := lw_g (lw_at lw_m7 107 rfl) rfl
theorem q1676 : (Jvm.Cond.lays "BoardCrossingModel" "BoardCrossingModel" "undone" "I") ∈ lw_all := lw_g (lw_at lw_m7 108 rfl) rfl
theorem q1677 : (Jvm.Cond.soleField "BoardCrossingModel" "undone") ∈ lw_all := lw_g (lw_at lw_m7 109 rfl) rfl
theorem q1678 : (Jvm.Cond.laysFinal "BoardCrossingModel" "BoardCrossingModel" "steers" "[I") ∈ lw_all := lw_g (lw_at lw_m7 110 rfl) rfl
theorem q1679 : (Jvm.Cond.soleField "BoardCrossingModel" "steers") ∈ lw_all := lw_g (lw_at lw_m7 111 rfl) rfl
theorem q1680 : (Jvm.Cond.laysFinal "BoardCrossingModel" "BoardCrossingModel" "lies" "[I") ∈ lw_all := lw_g (lw_at lw_m7 112 rfl) rfl
theorem q1681 : (Jvm.Cond.soleField "BoardCrossingModel" "lies") ∈ lw_all := lw_g (lw_at lw_m7 113 rfl) rfl
theorem q1682 : (Jvm.Cond.lays "BoardCrossingModel" "BoardCrossingModel" "lain" "I") ∈ lw_all := lw_g (lw_at lw_m7 114 rfl) rfl
theorem q1683 : (Jvm.Cond.soleField "BoardCrossingModel" "lain") ∈ lw_all := lw_g (lw_at lw_m7 115 rfl) rfl
theorem q1684 : (Jvm.Cond.laysFinal "BoardCrossingModel" "BoardCrossingModel" "trip" "[I") ∈ lw_all := lw_g (lw_at lw_m7 116 rfl) rfl
theorem q1685 : (Jvm.Cond.soleField "BoardCrossingModel" "trip") ∈ lw_all := lw_g (lw_at lw_m7 117 rfl) rfl
theorem q1686 : (Jvm.Cond.laysFinal "BoardCrossingModel" "BoardCrossingModel" "before" "[I") ∈ lw_all := lw_g (lw_at lw_m7 118 rfl) rfl
theorem q1687 : (Jvm.Cond.soleField "BoardCrossingModel" "before") ∈ lw_all := lw_g (lw_at lw_m7 119 rfl) rfl
theorem q1688 : (Jvm.Cond.laysFinal "BoardCrossingModel" "BoardCrossingModel" "wides" "[I") ∈ lw_all := lw_g (lw_at lw_m7 120 rfl) rfl
theorem q1689 : (Jvm.Cond.soleField "BoardCrossingModel" "wides") ∈ lw_all := lw_g (lw_at lw_m7 121 rfl) rfl
theorem q1690 : (Jvm.Cond.laysFinal "BoardCrossingModel" "BoardCrossingModel" "can" "[Z") ∈ lw_all := lw_g (lw_at lw_m7 122 rfl) rfl
theorem q1691 : (Jvm.Cond.soleField "BoardCrossingModel" "can") ∈ lw_all := lw_g (lw_at lw_m7 123 rfl) rfl
theorem q1692 : (Jvm.Cond.laysFinal "BoardCrossingModel" "BoardCrossingModel" "then" "[Z") ∈ lw_all := lw_g (lw_at lw_m7 124 rfl) rfl
theorem q1693 : (Jvm.Cond.soleField "BoardCrossingModel" "then") ∈ lw_all := lw_g (lw_at lw_m7 125 rfl) rfl
theorem q1694 : (Jvm.Cond.laysFinal "BoardCrossingModel" "BoardCrossingModel" "lands" "[I") ∈ lw_all := lw_g (lw_at lw_m7 126 rfl) rfl
theorem q1695 : (Jvm.Cond.soleField "BoardCrossingModel" "lands") ∈ lw_all := lw_g (lw_at lw_m7 127 rfl) rfl
theorem q1696 : (Jvm.Cond.laysFinal "BoardCrossingModel" "BoardCrossingModel" "moo\x72" "[I") ∈ lw_all := lw_g (lw_at lw_m7 128 rfl) rfl
theorem q1697 : (Jvm.Cond.soleField "BoardCrossingModel" "moo\x72") ∈ lw_all := lw_g (lw_at lw_m7 129 rfl) rfl
theorem q1698 : (Jvm.Cond.laysFinal "BoardCrossingModel" "BoardCrossingModel" "sightSort" "[I") ∈ lw_all := lw_g (lw_at lw_m7 130 rfl) rfl
theorem q1699 : (Jvm.Cond.soleField "BoardCrossingModel" "sightSort") ∈ lw_all := lw_g (lw_at lw_m7 131 rfl) rfl
theorem q1700 : (Jvm.Cond.laysFinal "BoardCrossingModel" "BoardCrossingModel" "sightStrokes" "[I") ∈ lw_all := lw_g (lw_at lw_m7 132 rfl) rfl
theorem q1701 : (Jvm.Cond.soleField "BoardCrossingModel" "sightStrokes") ∈ lw_all := lw_g (lw_at lw_m7 133 rfl) rfl
theorem q1702 : (Jvm.Cond.laysFinal "BoardCrossingModel" "BoardCrossingModel" "sightOf" "[I") ∈ lw_all := lw_g (lw_at lw_m7 134 rfl) rfl
theorem q1703 : (Jvm.Cond.soleField "BoardCrossingModel" "sightOf") ∈ lw_all := lw_g (lw_at lw_m7 135 rfl) rfl
theorem q1704 : (Jvm.Cond.laysFinal "BoardCrossingModel" "BoardCrossingModel" "sightTold" "[I") ∈ lw_all := lw_g (lw_at lw_m7 136 rfl) rfl
theorem q1705 : (Jvm.Cond.soleField "BoardCrossingModel" "sightTold") ∈ lw_all := lw_g (lw_at lw_m7 137 rfl) rfl
theorem q1706 : (Jvm.Cond.laysFinal "BoardCrossingModel" "BoardCrossingModel" "sightUntold" "[I") ∈ lw_all := lw_g (lw_at lw_m7 138 rfl) rfl
theorem q1707 : (Jvm.Cond.soleField "BoardCrossingModel" "sightUntold") ∈ lw_all := lw_g (lw_at lw_m7 139 rfl) rfl
theorem q1708 : (Jvm.Cond.laysFinal "BoardCrossingModel" "BoardCrossingModel" "sightIs" "[Z") ∈ lw_all := lw_g (lw_at lw_m7 140 rfl) rfl
theorem q1709 : (Jvm.Cond.soleField "BoardCrossingModel" "sightIs") ∈ lw_all := lw_g (lw_at lw_m7 141 rfl) rfl
theorem q1710 : (Jvm.Cond.lays "BoardCrossingModel" "BoardCrossingModel" "sights" "I") ∈ lw_all := lw_g (lw_at lw_m7 142 rfl) rfl
theorem q1711 : (Jvm.Cond.soleField "BoardCrossingModel" "sights") ∈ lw_all := lw_g (lw_at lw_m7 143 rfl) rfl
theorem q1712 : (Jvm.Cond.lays "BoardCrossingModel" "BoardCrossingModel" "time" "I") ∈ lw_all := lw_g (lw_at lw_m7 144 rfl) rfl
theorem q1713 : (Jvm.Cond.soleField "BoardCrossingModel" "time") ∈ lw_all := lw_g (lw_at lw_m7 145 rfl) rfl
theorem q1714 : (Jvm.Cond.laysFinal "BoardCrossingModel" "BoardCrossingModel" "wasColumn" "[I") ∈ lw_all := lw_g (lw_at lw_m7 146 rfl) rfl
theorem q1715 : (Jvm.Cond.soleField "BoardCrossingModel" "wasColumn") ∈ lw_all := lw_g (lw_at lw_m7 147 rfl) rfl
theorem q1716 : (Jvm.Cond.laysFinal "BoardCrossingModel" "BoardCrossingModel" "wasHeat" "[I") ∈ lw_all := lw_g (lw_at lw_m7 148 rfl) rfl
theorem q1717 : (Jvm.Cond.soleField "BoardCrossingModel" "wasHeat") ∈ lw_all := lw_g (lw_at lw_m7 149 rfl) rfl
theorem q1718 : (Jvm.Cond.laysFinal "BoardCrossingModel" "BoardCrossingModel" "tally" "[I") ∈ lw_all := lw_g (lw_at lw_m7 150 rfl) rfl
theorem q1719 : (Jvm.Cond.soleField "BoardCrossingModel" "tally") ∈ lw_all := lw_g (lw_at lw_m7 151 rfl) rfl
theorem q1720 : (Jvm.Cond.laysFinal "BoardCrossingModel" "BoardCrossingModel" "hasBox" "[Z") ∈ lw_all := lw_g (lw_at lw_m7 152 rfl) rfl
theorem q1721 : (Jvm.Cond.soleField "BoardCrossingModel" "hasBox") ∈ lw_all := lw_g (lw_at lw_m7 153 rfl) rfl
theorem q1722 : (Jvm.Cond.laysFinal "BoardCrossingModel" "BoardCrossingModel" "boxes" "[I") ∈ lw_all := lw_g (lw_at lw_m7 154 rfl) rfl
theorem q1723 : (Jvm.Cond.soleField "BoardCrossingModel" "boxes") ∈ lw_all := lw_g (lw_at lw_m7 155 rfl) rfl
theorem q1724 : (Jvm.Cond.superclass "BoardCrossingModel" "java/lang/Object") ∈ lw_all := lw_g (lw_at lw_m7 156 rfl) rfl
theorem q1727 : (Jvm.Cond.instanceMethod ({ cls := "BoardCrossingModel", name := "feed", desc := "(IIIII)I" } : Jvm.MethodName)) ∈ lw_all := lw_g (lw_at lw_m7 159 rfl) rfl
theorem q1728 : (Jvm.Cond.selects "BoardCrossingModel" ({ cls := "BoardCrossingModel", name := "feed", desc := "(IIIII)I" } : Jvm.MethodName) ({ cls := "BoardCrossingModel", name := "feed", desc := "(IIIII)I" } : Jvm.MethodName)) ∈ lw_all := lw_g (lw_at lw_m7 160 rfl) rfl
theorem q1729 : (Jvm.Cond.code ({ cls := "BoardCrossingModel", name := "feed", desc := "(IIIII)I" } : Jvm.MethodName) prog_20_method_2_code (6 : Nat) (Option.some Jvm.ClassFile.FieldType.int)) ∈ lw_all := lw_g (lw_at lw_m7 161 rfl) rfl
theorem q1730 : (Jvm.Cond.methodLink "BoardCrossingModel" (157 : Nat) ({ cls := "BoardCrossingModel", name := "fou\x72", desc := "(I)V" } : Jvm.MethodName)) ∈ lw_all := lw_g (lw_at lw_m7 162 rfl) rfl
theorem q1731 : (Jvm.Cond.privateMethod ({ cls := "BoardCrossingModel", name := "fou\x72", desc := "(I)V" } : Jvm.MethodName)) ∈ lw_tbl := lw_at lw_m7 163 rfl
theorem q1732 : (Jvm.Cond.instanceMethod ({ cls := "BoardCrossingModel", name := "fou\x72", desc := "(I)V" } : Jvm.MethodName)) ∈ lw_all := lw_g (lw_at lw_m7 164 rfl) rfl
theorem q1733 : (Jvm.Cond.code ({ cls := "BoardCrossingModel", name := "fou\x72", desc := "(I)V" } : Jvm.MethodName) prog_20_method_3_code (3 : Nat) (Option.none : Option Jvm.ClassFile.FieldType)) ∈ lw_all := lw_g (lw_at lw_m7 165 rfl) rfl
theorem q1735 : (Jvm.Cond.instanceMethod ({ cls := "BoardCrossingModel", name := "end", desc := "(I)I" } : Jvm.MethodName)) ∈ lw_all := lw_g (lw_at lw_m7 167 rfl) rfl
theorem q1736 : (Jvm.Cond.selects "BoardCrossingModel" ({ cls := "BoardCrossingModel", name := "end", desc := "(I)I" } : Jvm.MethodName) ({ cls := "BoardCrossingModel", name := "end", desc := "(I)I" } : Jvm.MethodName)) ∈ lw_all := lw_g (lw_at lw_m7 168 rfl) rfl
theorem q1737 : (Jvm.Cond.code ({ cls := "BoardCrossingModel", name := "end", desc := "(I)I" } : Jvm.MethodName) prog_20_method_4_code (2 : Nat) (Option.some Jvm.ClassFile.FieldType.int)) ∈ lw_all := lw_g (lw_at lw_m7 169 rfl) rfl
theorem q1739 : (Jvm.Cond.instanceMethod ({ cls := "BoardCrossingModel", name := "rive\x72", desc := "()I" } : Jvm.MethodName)) ∈ lw_all := lw_g (lw_at lw_m7 171 rfl) rfl
theorem q1740 : (Jvm.Cond.selects "BoardCrossingModel" ({ cls := "BoardCrossingModel", name := "rive\x72", desc := "()I" } : Jvm.MethodName) ({ cls := "BoardCrossingModel", name := "rive\x72", desc := "()I" } : Jvm.MethodName)) ∈ lw_all := lw_g (lw_at lw_m7 172 rfl) rfl
theorem q1741 : (Jvm.Cond.code ({ cls := "BoardCrossingModel", name := "rive\x72", desc := "()I" } : Jvm.MethodName) prog_20_method_45_code (2 : Nat) (Option.some Jvm.ClassFile.FieldType.int)) ∈ lw_all := lw_g (lw_at lw_m7 173 rfl) rfl
theorem q1742 : (Jvm.Cond.methodLink "BoardCrossingModel" (402 : Nat) ({ cls := "BoardCrossingModel", name := "readAll", desc := "()V" } : Jvm.MethodName)) ∈ lw_all := lw_g (lw_at lw_m7 174 rfl) rfl
theorem q1743 : (Jvm.Cond.privateMethod ({ cls := "BoardCrossingModel", name := "readAll", desc := "()V" } : Jvm.MethodName)) ∈ lw_tbl := lw_at lw_m7 175 rfl
theorem q1744 : (Jvm.Cond.instanceMethod ({ cls := "BoardCrossingModel", name := "readAll", desc := "()V" } : Jvm.MethodName)) ∈ lw_all := lw_g (lw_at lw_m7 176 rfl) rfl
theorem q1745 : (Jvm.Cond.code ({ cls := "BoardCrossingModel", name := "readAll", desc := "()V" } : Jvm.MethodName) prog_20_method_44_code (2 : Nat) (Option.none : Option Jvm.ClassFile.FieldType)) ∈ lw_all := lw_g (lw_at lw_m7 177 rfl) rfl
theorem q1746 : (Jvm.Cond.methodLink "BoardCrossingModel" (246 : Nat) ({ cls := "BoardCrossingModel", name := "token", desc := "()V" } : Jvm.MethodName)) ∈ lw_all := lw_g (lw_at lw_m7 178 rfl) rfl
theorem q1747 : (Jvm.Cond.privateMethod ({ cls := "BoardCrossingModel", name := "token", desc := "()V" } : Jvm.MethodName)) ∈ lw_tbl := lw_at lw_m7 179 rfl
theorem q1748 : (Jvm.Cond.instanceMethod ({ cls := "BoardCrossingModel", name := "token", desc := "()V" } : Jvm.MethodName)) ∈ lw_all := lw_g (lw_at lw_m7 180 rfl) rfl
theorem q1749 : (Jvm.Cond.code ({ cls := "BoardCrossingModel", name := "token", desc := "()V" } : Jvm.MethodName) prog_20_method_9_code (3 : Nat) (Option.none : Option Jvm.ClassFile.FieldType)) ∈ lw_all := lw_g (lw_at lw_m7 181 rfl) rfl
theorem q1750 : (Jvm.Cond.methodLink "BoardCrossingModel" (167 : Nat) ({ cls := "BoardCrossingModel", name := "here", desc := "(I)I" } : Jvm.MethodName)) ∈ lw_all := lw_g (lw_at lw_m7 182 rfl) rfl
theorem q1751 : (Jvm.Cond.privateMethod ({ cls := "BoardCrossingModel", name := "here", desc := "(I)I" } : Jvm.MethodName)) ∈ lw_tbl := lw_at lw_m7 183 rfl
theorem q1752 : (Jvm.Cond.instanceMethod ({ cls := "BoardCrossingModel", name := "here", desc := "(I)I" } : Jvm.MethodName)) ∈ lw_all := lw_g (lw_at lw_m7 184 rfl) rfl
theorem q1753 : (Jvm.Cond.code ({ cls := "BoardCrossingModel", name := "here", desc := "(I)I" } : Jvm.MethodName) prog_20_method_5_code (2 : Nat) (Option.some Jvm.ClassFile.FieldType.int)) ∈ lw_all := lw_g (lw_at lw_m7 185 rfl) rfl
theorem q1754 : (Jvm.Cond.methodLink "BoardCrossingModel" (184 : Nat) ({ cls := "BoardCrossingModel", name := "isLette\x72", desc := "(I)Z" } : Jvm.MethodName)) ∈ lw_all := lw_g (lw_at lw_m7 186 rfl) rfl
theorem q1755 : (Jvm.Cond.static ({ cls := "BoardCrossingModel", name := "isLette\x72", desc := "(I)Z" } : Jvm.MethodName)) ∈ lw_all := lw_g (lw_at lw_m7 187 rfl) rfl
theorem q1756 : (Jvm.Cond.code ({ cls := "BoardCrossingModel", name := "isLette\x72", desc := "(I)Z" } : Jvm.MethodName) prog_20_method_6_code (1 : Nat) (Option.some Jvm.ClassFile.FieldType.boolean)) ∈ lw_all := lw_g (lw_at lw_m7 188 rfl) rfl
theorem q1757 : (Jvm.Cond.methodLink "BoardCrossingModel" (188 : Nat) ({ cls := "BoardCrossingModel", name := "isDigit", desc := "(I)Z" } : Jvm.MethodName)) ∈ lw_all := lw_g (lw_at lw_m7 189 rfl) rfl
theorem q1758 : (Jvm.Cond.static ({ cls := "BoardCrossingModel", name := "isDigit", desc := "(I)Z" } : Jvm.MethodName)) ∈ lw_all := lw_g (lw_at lw_m7 190 rfl) rfl
theorem q1759 : (Jvm.Cond.code ({ cls := "BoardCrossingModel", name := "isDigit", desc := "(I)Z" } : Jvm.MethodName) prog_20_method_7_code (1 : Nat) (Option.some Jvm.ClassFile.FieldType.boolean)) ∈ lw_all := lw_g (lw_at lw_m7 191 rfl) rfl
theorem q1760 : (Jvm.Cond.methodLink "BoardCrossingModel" (191 : Nat) ({ cls := "BoardCrossingModel", name := "isSign", desc := "(I)Z" } : Jvm.MethodName)) ∈ lw_all := lw_g (lw_at lw_m7 192 rfl) rfl
theorem q1761 : (Jvm.Cond.static ({ cls := "BoardCrossingModel", name := "isSign", desc := "(I)Z" } : Jvm.MethodName)) ∈ lw_all := lw_g (lw_at lw_m7 193 rfl) rfl
theorem q1762 : (Jvm.Cond.code ({ cls := "BoardCrossingModel", name := "isSign", desc := "(I)Z" } : Jvm.MethodName) prog_20_method_8_code (1 : Nat) (Option.some Jvm.ClassFile.FieldType.boolean)) ∈ lw_all := lw_g (lw_at lw_m7 194 rfl) rfl
theorem q1763 : (Jvm.Cond.methodLink "BoardCrossingModel" (399 : Nat) ({ cls := "BoardCrossingModel", name := "readLine", desc := "()V" } : Jvm.MethodName)) ∈ lw_all := lw_g (lw_at lw_m7 195 rfl) rfl
theorem q1764 : (Jvm.Cond.privateMethod ({ cls := "BoardCrossingModel", name := "readLine", desc := "()V" } : Jvm.MethodName)) ∈ lw_tbl := lw_at lw_m7 196 rfl
theorem q1765 : (Jvm.Cond.instanceMethod ({ cls := "BoardCrossingModel", name := "readLine", desc := "()V" } : Jvm.MethodName)) ∈ lw_all := lw_g (lw_at lw_m7 197 rfl) rfl
theorem q1766 : (Jvm.Cond.code ({ cls := "BoardCrossingModel", name := "readLine", desc := "()V" } : Jvm.MethodName) prog_20_method_43_code (1 : Nat) (Option.none : Option Jvm.ClassFile.FieldType)) ∈ lw_all := lw_g (lw_at lw_m7 198 rfl) rfl
theorem q1767 : (Jvm.Cond.constantLong "BoardCrossingModel" (197 : Nat) (512736126322 : Int64)) ∈ lw_all := lw_g (lw_at lw_m7 199 rfl) rfl
theorem q1768 : (Jvm.Cond.methodLink "BoardCrossingModel" (239 : Nat) ({ cls := "BoardCrossingModel", name := "isWord", desc := "(J)Z" } : Jvm.MethodName)) ∈ lw_all := lw_g (lw_at lw_m7 200 rfl) rfl
theorem q1769 : (Jvm.Cond.privateMethod ({ cls := "BoardCrossingModel", name := "isWord", desc := "(J)Z" } : Jvm.MethodName)) ∈ lw_tbl := lw_at lw_m7 201 rfl
theorem q1770 : (Jvm.Cond.instanceMethod ({ cls := "BoardCrossingModel", name := "isWord", desc := "(J)Z" } : Jvm.MethodName)) ∈ lw_all := lw_g (lw_at lw_m7 202 rfl) rfl
theorem q1771 : (Jvm.Cond.code ({ cls := "BoardCrossingModel", name := "isWord", desc := "(J)Z" } : Jvm.MethodName) prog_20_method_11_code (3 : Nat) (Option.some Jvm.ClassFile.FieldType.boolean)) ∈ lw_all := lw_g (lw_at lw_m7 203 rfl) rfl
theorem q1772 : (Jvm.Cond.methodLink "BoardCrossingModel" (369 : Nat) ({ cls := "BoardCrossingModel", name := "readWate\x72", desc := "()V" } : Jvm.MethodName)) ∈ lw_all := lw_g (lw_at lw_m7 204 rfl) rfl
theorem q1773 : (Jvm.Cond.privateMethod ({ cls := "BoardCrossingModel", name := "readWate\x72", desc := "()V" } : Jvm.MethodName)) ∈ lw_tbl := lw_at lw_m7 205 rfl
theorem q1774 : (Jvm.Cond.instanceMethod ({ cls := "BoardCrossingModel", name := "readWate\x72", desc := "()V" } : Jvm.MethodName)) ∈ lw_all := lw_g (lw_at lw_m7 206 rfl) rfl
theorem q1775 : (Jvm.Cond.code ({ cls := "BoardCrossingModel", name := "readWate\x72", desc := "()V" } : Jvm.MethodName) prog_20_method_37_code (1 : Nat) (Option.none : Option Jvm.ClassFile.FieldType)) ∈ lw_all := lw_g (lw_at lw_m7 207 rfl) rfl
theorem q1776 : (Jvm.Cond.methodLink "BoardCrossingModel" (253 : Nat) ({ cls := "BoardCrossingModel", name := "toldNumbe\x72", desc := "(II)I" } : Jvm.MethodName)) ∈ lw_all := lw_g (lw_at lw_m7 208 rfl) rfl
theorem q1777 : (Jvm.Cond.privateMethod ({ cls := "BoardCrossingModel", name := "toldNumbe\x72", desc := "(II)I" } : Jvm.MethodName)) ∈ lw_tbl := lw_at lw_m7 209 rfl
theorem q1778 : (Jvm.Cond.instanceMethod ({ cls := "BoardCrossingModel", name := "toldNumbe\x72", desc := "(II)I" } : Jvm.MethodName)) ∈ lw_all := lw_g (lw_at lw_m7 210 rfl) rfl
theorem q1779 : (Jvm.Cond.code ({ cls := "BoardCrossingModel", name := "toldNumbe\x72", desc := "(II)I" } : Jvm.MethodName) prog_20_method_15_code (4 : Nat) (Option.some Jvm.ClassFile.FieldType.int)) ∈ lw_all := lw_g (lw_at lw_m7 211 rfl) rfl
theorem q1780 : (Jvm.Cond.methodLink "BoardCrossingModel" (243 : Nat) ({ cls := "BoardCrossingModel", name := "wrong", desc := "(I)V" } : Jvm.MethodName)) ∈ lw_all := lw_g (lw_at lw_m7 212 rfl) rfl
theorem q1781 : (Jvm.Cond.privateMethod ({ cls := "BoardCrossingModel", name := "wrong", desc := "(I)V" } : Jvm.MethodName)) ∈ lw_tbl := lw_at lw_m7 213 rfl
theorem q1782 : (Jvm.Cond.instanceMethod ({ cls := "BoardCrossingModel", name := "wrong", desc := "(I)V" } : Jvm.MethodName)) ∈ lw_all := lw_g (lw_at lw_m7 214 rfl) rfl
theorem q1783 : (Jvm.Cond.code ({ cls := "BoardCrossingModel", name := "wrong", desc := "(I)V" } : Jvm.MethodName) prog_20_method_10_code (2 : Nat) (Option.none : Option Jvm.ClassFile.FieldType)) ∈ lw_all := lw_g (lw_at lw_m7 215 rfl) rfl
theorem q1784 : (Jvm.Cond.constantLong "BoardCrossingModel" (199 : Nat) (25209 : Int64)) ∈ lw_all := lw_g (lw_at lw_m7 216 rfl) rfl
theorem q1785 : (Jvm.Cond.methodLink "BoardCrossingModel" (340 : Nat) ({ cls := "BoardCrossingModel", name := "told", desc := "(JII)I" } : Jvm.MethodName)) ∈ lw_all := lw_g (lw_at lw_m7 217 rfl) rfl
theorem q1786 : (Jvm.Cond.privateMethod ({ cls := "BoardCrossingModel", name := "told", desc := "(JII)I" } : Jvm.MethodName)) ∈ lw_tbl := lw_at lw_m7 218 rfl
theorem q1787 : (Jvm.Cond.instanceMethod ({ cls := "BoardCrossingModel", name := "told", desc := "(JII)I" } : Jvm.MethodName)) ∈ lw_all := lw_g (lw_at lw_m7 219 rfl) rfl
theorem q1788 : (Jvm.Cond.code ({ cls := "BoardCrossingModel", name := "told", desc := "(JII)I" } : Jvm.MethodName) prog_20_method_16_code (5 : Nat) (Option.some Jvm.ClassFile.FieldType.int)) ∈ lw_all := lw_g (lw_at lw_m7 220 rfl) rfl
theorem q1789 : (Jvm.Cond.methodLink "BoardCrossingModel" (249 : Nat) ({ cls := "BoardCrossingModel", name := "want", desc := "(J)V" } : Jvm.MethodName)) ∈ lw_all := lw_g (lw_at lw_m7 221 rfl) rfl
theorem q1790 : (Jvm.Cond.privateMethod ({ cls := "BoardCrossingModel", name := "want", desc := "(J)V" } : Jvm.MethodName)) ∈ lw_tbl := lw_at lw_m7 222 rfl
theorem q1791 : (Jvm.Cond.instanceMethod ({ cls := "BoardCrossingModel", name := "want", desc := "(J)V" } : Jvm.MethodName)) ∈ lw_all := lw_g (lw_at lw_m7 223 rfl) rfl
theorem q1792 : (Jvm.Cond.code ({ cls := "BoardCrossingModel", name := "want", desc := "(J)V" } : Jvm.MethodName) prog_20_method_14_code (3 : Nat) (Option.none : Option Jvm.ClassFile.FieldType)) ∈ lw_all := lw_g (lw_at lw_m7 224 rfl) rfl
theorem q1793 : (Jvm.Cond.constantLong "BoardCrossingModel" (201 : Nat) (27995157100326516 : Int64)) ∈ lw_all := lw_g (lw_at lw_m7 225 rfl) rfl
theorem q1794 : (Jvm.Cond.methodLink "BoardCrossingModel" (372 : Nat) ({ cls := "BoardCrossingModel", name := "readCurrent", desc := "()V" } : Jvm.MethodName)) ∈ lw_all := lw_g (lw_at lw_m7 226 rfl) rfl
theorem q1795 : (Jvm.Cond.privateMethod ({ cls := "BoardCrossingModel", name := "readCurrent", desc := "()V" } : Jvm.MethodName)) ∈ lw_tbl := lw_at lw_m7 227 rfl
theorem q1796 : (Jvm.Cond.instanceMethod ({ cls := "BoardCrossingModel", name := "readCurrent", desc := "()V" } : Jvm.MethodName)) ∈ lw_all := lw_g (lw_at lw_m7 228 rfl) rfl
theorem q1797 : (Jvm.Cond.code ({ cls := "BoardCrossingModel", name := "readCurrent", desc := "()V" } : Jvm.MethodName) prog_20_method_39_code (3 : Nat) (Option.none : Option Jvm.ClassFile.FieldType)) ∈ lw_all := lw_g (lw_at lw_m7 229 rfl) rfl
theorem q1798 : (Jvm.Cond.constantLong "BoardCrossingModel" (203 : Nat) (24948 : Int64)) ∈ lw_all := lw_g (lw_at lw_m7 230 rfl) rfl
theorem q1799 : (Jvm.Cond.methodLink "BoardCrossingModel" (347 : Nat) ({ cls := "BoardCrossingModel", name := "readCell", desc := "([III)I" } : Jvm.MethodName)) ∈ lw_all := lw_g (lw_at lw_m7 231 rfl) rfl
theorem q1800 : (Jvm.Cond.privateMethod ({ cls := "BoardCrossingModel", name := "readCell", desc := "([III)I" } : Jvm.MethodName)) ∈ lw_tbl := lw_at lw_m7 232 rfl
theorem q1801 : (Jvm.Cond.instanceMethod ({ cls := "BoardCrossingModel", name := "readCell", desc := "([III)I" } : Jvm.MethodName)) ∈ lw_all := lw_g (lw_at lw_m7 233 rfl) rfl
theorem q1802 : (Jvm.Cond.code ({ cls := "BoardCrossingModel", name := "readCell", desc := "([III)I" } : Jvm.MethodName) prog_20_method_38_code (5 : Nat) (Option.some Jvm.ClassFile.FieldType.int)) ∈ lw_all := lw_g (lw_at lw_m7 234 rfl) rfl
theorem q1803 : (Jvm.Cond.constantLong "BoardCrossingModel" (205 : Nat) (1769107310 : Int64)) ∈ lw_all := lw_g (lw_at lw_m7 235 rfl) rfl
theorem q1804 : (Jvm.Cond.methodLink "BoardCrossingModel" (375 : Nat) ({ cls := "BoardCrossingModel", name := "readIron", desc := "()V" } : Jvm.MethodName)) ∈ lw_all := lw_g (lw_at lw_m7 236 rfl) rfl
theorem q1805 : (Jvm.Cond.privateMethod ({ cls := "BoardCrossingModel", name := "readIron", desc := "()V" } : Jvm.MethodName)) ∈ lw_tbl := lw_at lw_m7 237 rfl
theorem q1806 : (Jvm.Cond.instanceMethod ({ cls := "BoardCrossingModel", name := "readIron", desc := "()V" } : Jvm.MethodName)) ∈ lw_all := lw_g (lw_at lw_m7 238 rfl) rfl
theorem q1807 : (Jvm.Cond.code ({ cls := "BoardCrossingModel", name := "readIron", desc := "()V" } : Jvm.MethodName) prog_20_method_40_code (2 : Nat) (Option.none : Option Jvm.ClassFile.FieldType)) ∈ lw_all := lw_g (lw_at lw_m7 239 rfl) rfl
theorem q1808 : (Jvm.Cond.constantLong "BoardCrossingModel" (207 : Nat) (422775452260 : Int64)) ∈ lw_all := lw_g (lw_at lw_m8 0 rfl) rfl
theorem q1809 : (Jvm.Cond.methodLink "BoardCrossingModel" (378 : Nat) ({ cls := "BoardCrossingModel", name := "readBoard", desc := "()V" } : Jvm.MethodName)) ∈ lw_all := lw_g (lw_at lw_m8 1 rfl) rfl
theorem q1810 : (Jvm.Cond.privateMethod ({ cls := "BoardCrossingModel", name := "readBoard", desc := "()V" } : Jvm.MethodName)) ∈ lw_tbl := lw_at lw_m8 2 rfl
theorem q1811 : (Jvm.Cond.instanceMethod ({ cls := "BoardCrossingModel", name := "readBoard", desc := "()V" } : Jvm.MethodName)) ∈ lw_all := lw_g (lw_at lw_m8 3 rfl) rfl
theorem q1812 : (Jvm.Cond.code ({ cls := "BoardCrossingModel", name := "readBoard", desc := "()V" } : Jvm.MethodName) prog_20_method_41_code (2 : Nat) (Option.none : Option Jvm.ClassFile.FieldType)) ∈ lw_all := lw_g (lw_at lw_m8 4 rfl) rfl
theorem q1813 : (Jvm.Cond.methodLink "BoardCrossingModel" (360 : Nat) ({ cls := "BoardCrossingModel", name := "newName", desc := "(II)V" } : Jvm.MethodName)) ∈ lw_all := lw_g (lw_at lw_m8 5 rfl) rfl
theorem q1814 : (Jvm.Cond.privateMethod ({ cls := "BoardCrossingModel", name := "newName", desc := "(II)V" } : Jvm.MethodName)) ∈ lw_tbl := lw_at lw_m8 6 rfl
theorem q1815 : (Jvm.Cond.instanceMethod ({ cls := "BoardCrossingModel", name := "newName", desc := "(II)V" } : Jvm.MethodName)) ∈ lw_all := lw_g (lw_at lw_m8 7 rfl) rfl
theorem q1816 : (Jvm.Cond.code ({ cls := "BoardCrossingModel", name := "newName", desc := "(II)V" } : Jvm.MethodName) prog_20_method_17_code (4 : Nat) (Option.none : Option Jvm.ClassFile.FieldType)) ∈ lw_all := lw_g (lw_at lw_m8 8 rfl) rfl
theorem q1817 : (Jvm.Cond.methodLink "BoardCrossingModel" (257 : Nat) ({ cls := "BoardCrossingModel", name := "isName", desc := "()Z" } : Jvm.MethodName)) ∈ lw_all := lw_g (lw_at lw_m8 9 rfl) rfl
theorem q1818 : (Jvm.Cond.privateMethod ({ cls := "BoardCrossingModel", name := "isName", desc := "()Z" } : Jvm.MethodName)) ∈ lw_tbl := lw_at lw_m8 10 rfl
theorem q1819 : (Jvm.Cond.instanceMethod ({ cls := "BoardCrossingModel", name := "isName", desc := "()Z" } : Jvm.MethodName)) ∈ lw_all := lw_g (lw_at lw_m8 11 rfl) rfl
theorem q1820 : (Jvm.Cond.code ({ cls := "BoardCrossingModel", name := "isName", desc := "()Z" } : Jvm.MethodName) prog_20_method_13_code (1 : Nat) (Option.some Jvm.ClassFile.FieldType.boolean)) ∈ lw_all := lw_g (lw_at lw_m8 12 rfl) rfl
theorem q1821 : (Jvm.Cond.methodLink "BoardCrossingModel" (235 : Nat) ({ cls := "BoardCrossingModel", name := "isOwn", desc := "()Z" } : Jvm.MethodName)) ∈ lw_all := lw_g (lw_at lw_m8 13 rfl) rfl
theorem q1822 : (Jvm.Cond.privateMethod ({ cls := "BoardCrossingModel", name := "isOwn", desc := "()Z" } : Jvm.MethodName)) ∈ lw_tbl := lw_at lw_m8 14 rfl
theorem q1823 : (Jvm.Cond.instanceMethod ({ cls := "BoardCrossingModel", name := "isOwn", desc := "()Z" } : Jvm.MethodName)) ∈ lw_all := lw_g (lw_at lw_m8 15 rfl) rfl
theorem q1824 : (Jvm.Cond.code ({ cls := "BoardCrossingModel", name := "isOwn", desc := "()Z" } : Jvm.MethodName) prog_20_method_12_code (1 : Nat) (Option.some Jvm.ClassFile.FieldType.boolean)) ∈ lw_all := lw_g (lw_at lw_m8 16 rfl) rfl
theorem q1825 : (Jvm.Cond.constantLong "BoardCrossingModel" (209 : Nat) (2003395685 : Int64)) ∈ lw_all := lw_g (lw_at lw_m8 17 rfl) rfl
theorem q1826 : (Jvm.Cond.constantLong "BoardCrossingModel" (211 : Nat) (422607680115 : Int64)) ∈ lw_all := lw_g (lw_at lw_m8 18 rfl) rfl
theorem q1827 : (Jvm.Cond.constantLong "BoardCrossingModel" (213 : Nat) (1819238756 : Int64)) ∈ lw_all := lw_g (lw_at lw_m8 19 rfl) rfl
theorem q1828 : (Jvm.Cond.constantLong "BoardCrossingModel" (215 : Nat) (1751474548 : Int64)) ∈ lw_all := lw_g (lw_at lw_m8 20 rfl) rfl
theorem q1829 : (Jvm.Cond.constantLong "BoardCrossingModel" (217 : Nat) (439905906532 : Int64)) ∈ lw_all := lw_g (lw_at lw_m8 21 rfl) rfl
theorem q1830 : (Jvm.Cond.constantLong "BoardCrossingModel" (219 : Nat) (1685217655 : Int64)) ∈ lw_all := lw_g (lw_at lw_m8 22 rfl) rfl
theorem q1831 : (Jvm.Cond.constantLong "BoardCrossingModel" (221 : Nat) (7499639 : Int64)) ∈ lw_all := lw_g (lw_at lw_m8 23 rfl) rfl
theorem q1832 : (Jvm.Cond.constantLong "BoardCrossingModel" (223 : Nat) (109330212154734 : Int64)) ∈ lw_all := lw_g (lw_at lw_m8 24 rfl) rfl
theorem q1833 : (Jvm.Cond.constantLong "BoardCrossingModel" (225 : Nat) (32497657166128499 : Int64)) ∈ lw_all := lw_g (lw_at lw_m8 25 rfl) rfl
theorem q1834 : (Jvm.Cond.constantLong "BoardCrossingModel" (227 : Nat) (6844276 : Int64)) ∈ lw_all := lw_g (lw_at lw_m8 26 rfl) rfl
theorem q1835 : (Jvm.Cond.constantLong "BoardCrossingModel" (229 : Nat) (6385252 : Int64)) ∈ lw_all := lw_g (lw_at lw_m8 27 rfl) rfl
theorem q1836 : (Jvm.Cond.constantLong "BoardCrossingModel" (231 : Nat) (28530 : Int64)) ∈ lw_all := lw_g (lw_at lw_m8 28 rfl) rfl
theorem q1837 : (Jvm.Cond.constantLong "BoardCrossingModel" (233 : Nat) (7237492 : Int64)) ∈ lw_all := lw_g (lw_at lw_m8 29 rfl) rfl
theorem q1838 : (Jvm.Cond.methodLink "BoardCrossingModel" (381 : Nat) ({ cls := "BoardCrossingModel", name := "readLoad", desc := "()V" } : Jvm.MethodName)) ∈ lw_all := lw_g (lw_at lw_m8 30 rfl) rfl
theorem q1839 : (Jvm.Cond.privateMethod ({ cls := "BoardCrossingModel", name := "readLoad", desc := "()V" } : Jvm.MethodName)) ∈ lw_tbl := lw_at lw_m8 31 rfl
theorem q1840 : (Jvm.Cond.instanceMethod ({ cls := "BoardCrossingModel", name := "readLoad", desc := "()V" } : Jvm.MethodName)) ∈ lw_all := lw_g (lw_at lw_m8 32 rfl) rfl
theorem q1841 : (Jvm.Cond.code ({ cls := "BoardCrossingModel", name := "readLoad", desc := "()V" } : Jvm.MethodName) prog_20_method_42_code (1 : Nat) (Option.none : Option Jvm.ClassFile.FieldType)) ∈ lw_all := lw_g (lw_at lw_m8 33 rfl) rfl
theorem q1842 : (Jvm.Cond.methodLink "BoardCrossingModel" (384 : Nat) ({ cls := "BoardCrossingModel", name := "formula", desc := "()V" } : Jvm.MethodName)) ∈ lw_all := lw_g (lw_at lw_m8 34 rfl) rfl
theorem q1843 : (Jvm.Cond.privateMethod ({ cls := "BoardCrossingModel", name := "formula", desc := "()V" } : Jvm.MethodName)) ∈ lw_tbl := lw_at lw_m8 35 rfl
theorem q1844 : (Jvm.Cond.instanceMethod ({ cls := "BoardCrossingModel", name := "formula", desc := "()V" } : Jvm.MethodName)) ∈ lw_all := lw_g (lw_at lw_m8 36 rfl) rfl
theorem q1845 : (Jvm.Cond.code ({ cls := "BoardCrossingModel", name := "formula", desc := "()V" } : Jvm.MethodName) prog_20_method_30_code (3 : Nat) (Option.none : Option Jvm.ClassFile.FieldType)) ∈ lw_all := lw_g (lw_at lw_m8 37 rfl) rfl
theorem q1846 : (Jvm.Cond.methodLink "BoardCrossingModel" (302 : Nat) ({ cls := "BoardCrossingModel", name := "unit", desc := "()V" } : Jvm.MethodName)) ∈ lw_all := lw_g (lw_at lw_m8 38 rfl) rfl
theorem q1847 : (Jvm.Cond.privateMethod ({ cls := "BoardCrossingModel", name := "unit", desc := "()V" } : Jvm.MethodName)) ∈ lw_tbl := lw_at lw_m8 39 rfl
theorem q1848 : (Jvm.Cond.instanceMethod ({ cls := "BoardCrossingModel", name := "unit", desc := "()V" } : Jvm.MethodName)) ∈ lw_all := lw_g (lw_at lw_m8 40 rfl) rfl
theorem q1849 : (Jvm.Cond.code ({ cls := "BoardCrossingModel", name := "unit", desc := "()V" } : Jvm.MethodName) prog_20_method_27_code (3 : Nat) (Option.none : Option Jvm.ClassFile.FieldType)) ∈ lw_all := lw_g (lw_at lw_m8 41 rfl) rfl
theorem q1850 : (Jvm.Cond.methodLink "BoardCrossingModel" (282 : Nat) ({ cls := "BoardCrossingModel", name := "mayNot", desc := "()Z" } : Jvm.MethodName)) ∈ lw_all := lw_g (lw_at lw_m8 42 rfl) rfl
theorem q1851 : (Jvm.Cond.privateMethod ({ cls := "BoardCrossingModel", name := "mayNot", desc := "()Z" } : Jvm.MethodName)) ∈ lw_tbl := lw_at lw_m8 43 rfl
theorem q1852 : (Jvm.Cond.instanceMethod ({ cls := "BoardCrossingModel", name := "mayNot", desc := "()Z" } : Jvm.MethodName)) ∈ lw_all := lw_g (lw_at lw_m8 44 rfl) rfl
theorem q1853 : (Jvm.Cond.code ({ cls := "BoardCrossingModel", name := "mayNot", desc := "()Z" } : Jvm.MethodName) prog_20_method_22_code (1 : Nat) (Option.some Jvm.ClassFile.FieldType.boolean)) ∈ lw_all := lw_g (lw_at lw_m8 45 rfl) rfl
theorem q1854 : (Jvm.Cond.methodLink "BoardCrossingModel" (266 : Nat) ({ cls := "BoardCrossingModel", name := "tight", desc := "(I)I" } : Jvm.MethodName)) ∈ lw_all := lw_g (lw_at lw_m8 46 rfl) rfl
theorem q1855 : (Jvm.Cond.static ({ cls := "BoardCrossingModel", name := "tight", desc := "(I)I" } : Jvm.MethodName)) ∈ lw_all := lw_g (lw_at lw_m8 47 rfl) rfl
theorem q1856 : (Jvm.Cond.code ({ cls := "BoardCrossingModel", name := "tight", desc := "(I)I" } : Jvm.MethodName) prog_20_method_19_code (1 : Nat) (Option.some Jvm.ClassFile.FieldType.int)) ∈ lw_all := lw_g (lw_at lw_m8 48 rfl) rfl
theorem q1857 : (Jvm.Cond.methodLink "BoardCrossingModel" (285 : Nat) ({ cls := "BoardCrossingModel", name := "openUp", desc := "(I)V" } : Jvm.MethodName)) ∈ lw_all := lw_g (lw_at lw_m8 49 rfl) rfl
theorem q1858 : (Jvm.Cond.privateMethod ({ cls := "BoardCrossingModel", name := "openUp", desc := "(I)V" } : Jvm.MethodName)) ∈ lw_tbl := lw_at lw_m8 50 rfl
theorem q1859 : (Jvm.Cond.instanceMethod ({ cls := "BoardCrossingModel", name := "openUp", desc := "(I)V" } : Jvm.MethodName)) ∈ lw_all := lw_g (lw_at lw_m8 51 rfl) rfl
theorem q1860 : (Jvm.Cond.code ({ cls := "BoardCrossingModel", name := "openUp", desc := "(I)V" } : Jvm.MethodName) prog_20_method_26_code (2 : Nat) (Option.none : Option Jvm.ClassFile.FieldType)) ∈ lw_all := lw_g (lw_at lw_m8 52 rfl) rfl
theorem q1861 : (Jvm.Cond.methodLink "BoardCrossingModel" (288 : Nat) ({ cls := "BoardCrossingModel", name := "isFull", desc := "()Z" } : Jvm.MethodName)) ∈ lw_all := lw_g (lw_at lw_m8 53 rfl) rfl
theorem q1862 : (Jvm.Cond.privateMethod ({ cls := "BoardCrossingModel", name := "isFull", desc := "()Z" } : Jvm.MethodName)) ∈ lw_tbl := lw_at lw_m8 54 rfl
theorem q1863 : (Jvm.Cond.instanceMethod ({ cls := "BoardCrossingModel", name := "isFull", desc := "()Z" } : Jvm.MethodName)) ∈ lw_all := lw_g (lw_at lw_m8 55 rfl) rfl
theorem q1864 : (Jvm.Cond.code ({ cls := "BoardCrossingModel", name := "isFull", desc := "()Z" } : Jvm.MethodName) prog_20_method_24_code (1 : Nat) (Option.some Jvm.ClassFile.FieldType.boolean)) ∈ lw_all := lw_g (lw_at lw_m8 56 rfl) rfl
theorem q1865 : (Jvm.Cond.methodLink "BoardCrossingModel" (291 : Nat) ({ cls := "BoardCrossingModel", name := "countUnit", desc := "()V" } : Jvm.MethodName)) ∈ lw_all := lw_g (lw_at lw_m8 57 rfl) rfl
theorem q1866 : (Jvm.Cond.privateMethod ({ cls := "BoardCrossingModel", name := "countUnit", desc := "()V" } : Jvm.MethodName)) ∈ lw_tbl := lw_at lw_m8 58 rfl
theorem q1867 : (Jvm.Cond.instanceMethod ({ cls := "BoardCrossingModel", name := "countUnit", desc := "()V" } : Jvm.MethodName)) ∈ lw_all := lw_g (lw_at lw_m8 59 rfl) rfl
theorem q1868 : (Jvm.Cond.code ({ cls := "BoardCrossingModel", name := "countUnit", desc := "()V" } : Jvm.MethodName) prog_20_method_25_code (1 : Nat) (Option.none : Option Jvm.ClassFile.FieldType)) ∈ lw_all := lw_g (lw_at lw_m8 60 rfl) rfl
theorem q1869 : (Jvm.Cond.methodLink "BoardCrossingModel" (294 : Nat) ({ cls := "BoardCrossingModel", name := "asked", desc := "()I" } : Jvm.MethodName)) ∈ lw_all := lw_g (lw_at lw_m8 61 rfl) rfl
theorem q1870 : (Jvm.Cond.privateMethod ({ cls := "BoardCrossingModel", name := "asked", desc := "()I" } : Jvm.MethodName)) ∈ lw_tbl := lw_at lw_m8 62 rfl
theorem q1871 : (Jvm.Cond.instanceMethod ({ cls := "BoardCrossingModel", name := "asked", desc := "()I" } : Jvm.MethodName)) ∈ lw_all := lw_g (lw_at lw_m8 63 rfl) rfl
theorem q1872 : (Jvm.Cond.code ({ cls := "BoardCrossingModel", name := "asked", desc := "()I" } : Jvm.MethodName) prog_20_method_23_code (1 : Nat) (Option.some Jvm.ClassFile.FieldType.int)) ∈ lw_all := lw_g (lw_at lw_m8 64 rfl) rfl
theorem q1873 : (Jvm.Cond.methodLink "BoardCrossingModel" (269 : Nat) ({ cls := "BoardCrossingModel", name := "add", desc := "(II)V" } : Jvm.MethodName)) ∈ lw_all := lw_g (lw_at lw_m8 65 rfl) rfl
theorem q1874 : (Jvm.Cond.privateMethod ({ cls := "BoardCrossingModel", name := "add", desc := "(II)V" } : Jvm.MethodName)) ∈ lw_tbl := lw_at lw_m8 66 rfl
theorem q1875 : (Jvm.Cond.instanceMethod ({ cls := "BoardCrossingModel", name := "add", desc := "(II)V" } : Jvm.MethodName)) ∈ lw_all := lw_g (lw_at lw_m8 67 rfl) rfl
theorem q1876 : (Jvm.Cond.code ({ cls := "BoardCrossingModel", name := "add", desc := "(II)V" } : Jvm.MethodName) prog_20_method_18_code (3 : Nat) (Option.none : Option Jvm.ClassFile.FieldType)) ∈ lw_all := lw_g (lw_at lw_m8 68 rfl) rfl
theorem q1877 : (Jvm.Cond.methodLink "BoardCrossingModel" (305 : Nat) ({ cls := "BoardCrossingModel", name := "sign", desc := "()I" } : Jvm.MethodName)) ∈ lw_all := lw_g (lw_at lw_m8 69 rfl) rfl
theorem q1878 : (Jvm.Cond.privateMethod ({ cls := "BoardCrossingModel", name := "sign", desc := "()I" } : Jvm.MethodName)) ∈ lw_tbl := lw_at lw_m8 70 rfl
theorem q1879 : (Jvm.Cond.instanceMethod ({ cls := "BoardCrossingModel", name := "sign", desc := "()I" } : Jvm.MethodName)) ∈ lw_all := lw_g (lw_at lw_m8 71 rfl) rfl
theorem q1880 : (Jvm.Cond.code ({ cls := "BoardCrossingModel", name := "sign", desc := "()I" } : Jvm.MethodName) prog_20_method_28_code (1 : Nat) (Option.some Jvm.ClassFile.FieldType.int)) ∈ lw_all := lw_g (lw_at lw_m8 72 rfl) rfl
theorem q1881 : (Jvm.Cond.methodLink "BoardCrossingModel" (308 : Nat) ({ cls := "BoardCrossingModel", name := "hasBracket", desc := "()Z" } : Jvm.MethodName)) ∈ lw_all := lw_g (lw_at lw_m8 73 rfl) rfl
theorem q1882 : (Jvm.Cond.privateMethod ({ cls := "BoardCrossingModel", name := "hasBracket", desc := "()Z" } : Jvm.MethodName)) ∈ lw_tbl := lw_at lw_m8 74 rfl
theorem q1883 : (Jvm.Cond.instanceMethod ({ cls := "BoardCrossingModel", name := "hasBracket", desc := "()Z" } : Jvm.MethodName)) ∈ lw_all := lw_g (lw_at lw_m8 75 rfl) rfl
theorem q1884 : (Jvm.Cond.code ({ cls := "BoardCrossingModel", name := "hasBracket", desc := "()Z" } : Jvm.MethodName) prog_20_method_29_code (3 : Nat) (Option.some Jvm.ClassFile.FieldType.boolean)) ∈ lw_all := lw_g (lw_at lw_m8 76 rfl) rfl
theorem q1885 : (Jvm.Cond.methodLink "BoardCrossingModel" (311 : Nat) ({ cls := "BoardCrossingModel", name := "close", desc := "(I)V" } : Jvm.MethodName)) ∈ lw_all := lw_g (lw_at lw_m8 77 rfl) rfl
theorem q1886 : (Jvm.Cond.privateMethod ({ cls := "BoardCrossingModel", name := "close", desc := "(I)V" } : Jvm.MethodName)) ∈ lw_tbl := lw_at lw_m8 78 rfl
theorem q1887 : (Jvm.Cond.instanceMethod ({ cls := "BoardCrossingModel", name := "close", desc := "(I)V" } : Jvm.MethodName)) ∈ lw_all := lw_g (lw_at lw_m8 79 rfl) rfl
theorem q1888 : (Jvm.Cond.code ({ cls := "BoardCrossingModel", name := "close", desc := "(I)V" } : Jvm.MethodName) prog_20_method_20_code (2 : Nat) (Option.none : Option Jvm.ClassFile.FieldType)) ∈ lw_all := lw_g (lw_at lw_m8 80 rfl) rfl
theorem q1889 : (Jvm.Cond.methodLink "BoardCrossingModel" (314 : Nat) ({ cls := "BoardCrossingModel", name := "hasRelation", desc := "()Z" } : Jvm.MethodName)) ∈ lw_all := lw_g (lw_at lw_m8 81 rfl) rfl
theorem q1890 : (Jvm.Cond.privateMethod ({ cls := "BoardCrossingModel", name := "hasRelation", desc := "()Z" } : Jvm.MethodName)) ∈ lw_tbl := lw_at lw_m8 82 rfl
theorem q1891 : (Jvm.Cond.instanceMethod ({ cls := "BoardCrossingModel", name := "hasRelation", desc := "()Z" } : Jvm.MethodName)) ∈ lw_all := lw_g (lw_at lw_m8 83 rfl) rfl
theorem q1892 : (Jvm.Cond.code ({ cls := "BoardCrossingModel", name := "hasRelation", desc := "()Z" } : Jvm.MethodName) prog_20_method_21_code (2 : Nat) (Option.some Jvm.ClassFile.FieldType.boolean)) ∈ lw_all := lw_g (lw_at lw_m8 84 rfl) rfl
theorem q1894 : (Jvm.Cond.instanceMethod ({ cls := "BoardCrossingModel", name := "fault", desc := "(I)I" } : Jvm.MethodName)) ∈ lw_all := lw_g (lw_at lw_m8 86 rfl) rfl
theorem q1895 : (Jvm.Cond.selects "BoardCrossingModel" ({ cls := "BoardCrossingModel", name := "fault", desc := "(I)I" } : Jvm.MethodName) ({ cls := "BoardCrossingModel", name := "fault", desc := "(I)I" } : Jvm.MethodName)) ∈ lw_all := lw_g (lw_at lw_m8 87 rfl) rfl
theorem q1896 : (Jvm.Cond.code ({ cls := "BoardCrossingModel", name := "fault", desc := "(I)I" } : Jvm.MethodName) prog_20_method_46_code (2 : Nat) (Option.some Jvm.ClassFile.FieldType.int)) ∈ lw_all := lw_g (lw_at lw_m8 88 rfl) rfl
theorem q1898 : (Jvm.Cond.instanceMethod ({ cls := "BoardCrossingModel", name := "board", desc := "(II)I" } : Jvm.MethodName)) ∈ lw_all := lw_g (lw_at lw_m8 90 rfl) rfl
theorem q1899 : (Jvm.Cond.selects "BoardCrossingModel" ({ cls := "BoardCrossingModel", name := "board", desc := "(II)I" } : Jvm.MethodName) ({ cls := "BoardCrossingModel", name := "board", desc := "(II)I" } : Jvm.MethodName)) ∈ lw_all := lw_g (lw_at lw_m8 91 rfl) rfl
theorem q1900 : (Jvm.Cond.code ({ cls := "BoardCrossingModel", name := "board", desc := "(II)I" } : Jvm.MethodName) prog_20_method_58_code (3 : Nat) (Option.some Jvm.ClassFile.FieldType.int)) ∈ lw_all := lw_g (lw_at lw_m8 92 rfl) rfl
theorem q1901 : (Jvm.Cond.methodLink "BoardCrossingModel" (444 : Nat) ({ cls := "BoardCrossingModel", name := "isBoard", desc := "(I)Z" } : Jvm.MethodName)) ∈ lw_all := lw_g (lw_at lw_m8 93 rfl) rfl
theorem q1902 : (Jvm.Cond.privateMethod ({ cls := "BoardCrossingModel", name := "isBoard", desc := "(I)Z" } : Jvm.MethodName)) ∈ lw_tbl := lw_at lw_m8 94 rfl
theorem q1903 : (Jvm.Cond.instanceMethod ({ cls := "BoardCrossingModel", name := "isBoard", desc := "(I)Z" } : Jvm.MethodName)) ∈ lw_all := lw_g (lw_at lw_m8 95 rfl) rfl
theorem q1904 : (Jvm.Cond.code ({ cls := "BoardCrossingModel", name := "isBoard", desc := "(I)Z" } : Jvm.MethodName) prog_20_method_48_code (2 : Nat) (Option.some Jvm.ClassFile.FieldType.boolean)) ∈ lw_all := lw_g (lw_at lw_m8 96 rfl) rfl
theorem q1905 : (Jvm.Cond.methodLink "BoardCrossingModel" (426 : Nat) ({ cls := "BoardCrossingModel", name := "isIn", desc := "(III)Z" } : Jvm.MethodName)) ∈ lw_all := lw_g (lw_at lw_m8 97 rfl) rfl
theorem q1906 : (Jvm.Cond.static ({ cls := "BoardCrossingModel", name := "isIn", desc := "(III)Z" } : Jvm.MethodName)) ∈ lw_all := lw_g (lw_at lw_m8 98 rfl) rfl
theorem q1907 : (Jvm.Cond.code ({ cls := "BoardCrossingModel", name := "isIn", desc := "(III)Z" } : Jvm.MethodName) prog_20_method_47_code (3 : Nat) (Option.some Jvm.ClassFile.FieldType.boolean)) ∈ lw_all := lw_g (lw_at lw_m8 99 rfl) rfl
theorem q1908 : (Jvm.Cond.methodLink "BoardCrossingModel" (447 : Nat) ({ cls := "BoardCrossingModel", name := "fill", desc := "()V" } : Jvm.MethodName)) ∈ lw_all := lw_g (lw_at lw_m8 100 rfl) rfl
theorem q1909 : (Jvm.Cond.privateMethod ({ cls := "BoardCrossingModel", name := "fill", desc := "()V" } : Jvm.MethodName)) ∈ lw_tbl := lw_at lw_m8 101 rfl
theorem q1910 : (Jvm.Cond.instanceMethod ({ cls := "BoardCrossingModel", name := "fill", desc := "()V" } : Jvm.MethodName)) ∈ lw_all := lw_g (lw_at lw_m8 102 rfl) rfl
theorem q1911 : (Jvm.Cond.code ({ cls := "BoardCrossingModel", name := "fill", desc := "()V" } : Jvm.MethodName) prog_20_method_51_code (2 : Nat) (Option.none : Option Jvm.ClassFile.FieldType)) ∈ lw_all := lw_g (lw_at lw_m8 103 rfl) rfl
theorem q1912 : (Jvm.Cond.methodLink "BoardCrossingModel" (324 : Nat) ({ cls := "BoardCrossingModel", name := "burdenOf", desc := "(I)I" } : Jvm.MethodName)) ∈ lw_all := lw_g (lw_at lw_m8 104 rfl) rfl
theorem q1913 : (Jvm.Cond.privateMethod ({ cls := "BoardCrossingModel", name := "burdenOf", desc := "(I)I" } : Jvm.MethodName)) ∈ lw_tbl := lw_at lw_m8 105 rfl
theorem q1914 : (Jvm.Cond.instanceMethod ({ cls := "BoardCrossingModel", name := "burdenOf", desc := "(I)I" } : Jvm.MethodName)) ∈ lw_all := lw_g (lw_at lw_m8 106 rfl) rfl
theorem q1915 : (Jvm.Cond.code ({ cls := "BoardCrossingModel", name := "burdenOf", desc := "(I)I" } : Jvm.MethodName) prog_20_method_35_code (4 : Nat) (Option.some Jvm.ClassFile.FieldType.int)) ∈ lw_all := lw_g (lw_at lw_m8 107 rfl) rfl
theorem q1916 : (Jvm.Cond.methodLink "BoardCrossingModel" (450 : Nat) ({ cls := "BoardCrossingModel", name := "loadsAt", desc := "(I)I" } : Jvm.MethodName)) ∈ lw_all := lw_g (lw_at lw_m8 108 rfl) rfl
theorem q1917 : (Jvm.Cond.privateMethod ({ cls := "BoardCrossingModel", name := "loadsAt", desc := "(I)I" } : Jvm.MethodName)) ∈ lw_tbl := lw_at lw_m8 109 rfl
theorem q1918 : (Jvm.Cond.instanceMethod ({ cls := "BoardCrossingModel", name := "loadsAt", desc := "(I)I" } : Jvm.MethodName)) ∈ lw_all := lw_g (lw_at lw_m8 110 rfl) rfl
theorem q1919 : (Jvm.Cond.code ({ cls := "BoardCrossingModel", name := "loadsAt", desc := "(I)I" } : Jvm.MethodName) prog_20_method_57_code (4 : Nat) (Option.some Jvm.ClassFile.FieldType.int)) ∈ lw_all := lw_g (lw_at lw_m8 111 rfl) rfl
theorem q1920 : (Jvm.Cond.methodLink "BoardCrossingModel" (317 : Nat) ({ cls := "BoardCrossingModel", name := "truth", desc := "(Z)I" } : Jvm.MethodName)) ∈ lw_all := lw_g (lw_at lw_m8 112 rfl) rfl
theorem q1921 : (Jvm.Cond.static ({ cls := "BoardCrossingModel", name := "truth", desc := "(Z)I" } : Jvm.MethodName)) ∈ lw_all := lw_g (lw_at lw_m8 113 rfl) rfl
theorem q1922 : (Jvm.Cond.code ({ cls := "BoardCrossingModel", name := "truth", desc := "(Z)I" } : Jvm.MethodName) prog_20_method_31_code (1 : Nat) (Option.some Jvm.ClassFile.FieldType.int)) ∈ lw_all := lw_g (lw_at lw_m8 114 rfl) rfl
theorem q1924 : (Jvm.Cond.instanceMethod ({ cls := "BoardCrossingModel", name := "load", desc := "(II)I" } : Jvm.MethodName)) ∈ lw_all := lw_g (lw_at lw_m8 116 rfl) rfl
theorem q1925 : (Jvm.Cond.selects "BoardCrossingModel" ({ cls := "BoardCrossingModel", name := "load", desc := "(II)I" } : Jvm.MethodName) ({ cls := "BoardCrossingModel", name := "load", desc := "(II)I" } : Jvm.MethodName)) ∈ lw_all := lw_g (lw_at lw_m8 117 rfl) rfl
theorem q1926 : (Jvm.Cond.code ({ cls := "BoardCrossingModel", name := "load", desc := "(II)I" } : Jvm.MethodName) prog_20_method_59_code (3 : Nat) (Option.some Jvm.ClassFile.FieldType.int)) ∈ lw_all := lw_g (lw_at lw_m8 118 rfl) rfl
theorem q1927 : (Jvm.Cond.methodLink "BoardCrossingModel" (453 : Nat) ({ cls := "BoardCrossingModel", name := "isLoad", desc := "(I)Z" } : Jvm.MethodName)) ∈ lw_all := lw_g (lw_at lw_m8 119 rfl) rfl
theorem q1928 : (Jvm.Cond.privateMethod ({ cls := "BoardCrossingModel", name := "isLoad", desc := "(I)Z" } : Jvm.MethodName)) ∈ lw_tbl := lw_at lw_m8 120 rfl
theorem q1929 : (Jvm.Cond.instanceMethod ({ cls := "BoardCrossingModel", name := "isLoad", desc := "(I)Z" } : Jvm.MethodName)) ∈ lw_all := lw_g (lw_at lw_m8 121 rfl) rfl
theorem q1930 : (Jvm.Cond.code ({ cls := "BoardCrossingModel", name := "isLoad", desc := "(I)Z" } : Jvm.MethodName) prog_20_method_49_code (2 : Nat) (Option.some Jvm.ClassFile.FieldType.boolean)) ∈ lw_all := lw_g (lw_at lw_m8 122 rfl) rfl
theorem q1932 : (Jvm.Cond.instanceMethod ({ cls := "BoardCrossingModel", name := "spot", desc := "(III)I" } : Jvm.MethodName)) ∈ lw_all := lw_g (lw_at lw_m8 124 rfl) rfl
theorem q1933 : (Jvm.Cond.selects "BoardCrossingModel" ({ cls := "BoardCrossingModel", name := "spot", desc := "(III)I" } : Jvm.MethodName) ({ cls := "BoardCrossingModel", name := "spot", desc := "(III)I" } : Jvm.MethodName)) ∈ lw_all := lw_g (lw_at lw_m8 125 rfl) rfl
theorem q1934 : (Jvm.Cond.code ({ cls := "BoardCrossingModel", name := "spot", desc := "(III)I" } : Jvm.MethodName) prog_20_method_60_code (4 : Nat) (Option.some Jvm.ClassFile.FieldType.int)) ∈ lw_all := lw_g (lw_at lw_m8 126 rfl) rfl
theorem q1935 : (Jvm.Cond.methodLink "BoardCrossingModel" (430 : Nat) ({ cls := "BoardCrossingModel", name := "currentAt", desc := "(II)I" } : Jvm.MethodName)) ∈ lw_all := lw_g (lw_at lw_m8 127 rfl) rfl
theorem q1936 : (Jvm.Cond.privateMethod ({ cls := "BoardCrossingModel", name := "currentAt", desc := "(II)I" } : Jvm.MethodName)) ∈ lw_tbl := lw_at lw_m8 128 rfl
theorem q1937 : (Jvm.Cond.instanceMethod ({ cls := "BoardCrossingModel", name := "currentAt", desc := "(II)I" } : Jvm.MethodName)) ∈ lw_all := lw_g (lw_at lw_m8 129 rfl) rfl
theorem q1938 : (Jvm.Cond.code ({ cls := "BoardCrossingModel", name := "currentAt", desc := "(II)I" } : Jvm.MethodName) prog_20_method_53_code (3 : Nat) (Option.some Jvm.ClassFile.FieldType.int)) ∈ lw_all := lw_g (lw_at lw_m8 130 rfl) rfl
theorem q1939 : (Jvm.Cond.methodLink "BoardCrossingModel" (440 : Nat) ({ cls := "BoardCrossingModel", name := "isIron", desc := "(II)Z" } : Jvm.MethodName)) ∈ lw_all := lw_g (lw_at lw_m8 131 rfl) rfl
theorem q1940 : (Jvm.Cond.privateMethod ({ cls := "BoardCrossingModel", name := "isIron", desc := "(II)Z" } : Jvm.MethodName)) ∈ lw_tbl := lw_at lw_m8 132 rfl
theorem q1941 : (Jvm.Cond.instanceMethod ({ cls := "BoardCrossingModel", name := "isIron", desc := "(II)Z" } : Jvm.MethodName)) ∈ lw_all := lw_g (lw_at lw_m8 133 rfl) rfl
theorem q1942 : (Jvm.Cond.code ({ cls := "BoardCrossingModel", name := "isIron", desc := "(II)Z" } : Jvm.MethodName) prog_20_method_55_code (3 : Nat) (Option.some Jvm.ClassFile.FieldType.boolean)) ∈ lw_all := lw_g (lw_at lw_m8 134 rfl) rfl
theorem q1944 : (Jvm.Cond.instanceMethod ({ cls := "BoardCrossingModel", name := "hotte\x72", desc := "(I)I" } : Jvm.MethodName)) ∈ lw_all := lw_g (lw_at lw_m8 136 rfl) rfl
theorem q1945 : (Jvm.Cond.selects "BoardCrossingModel" ({ cls := "BoardCrossingModel", name := "hotte\x72", desc := "(I)I" } : Jvm.MethodName) ({ cls := "BoardCrossingModel", name := "hotte\x72", desc := "(I)I" } : Jvm.MethodName)) ∈ lw_all := lw_g (lw_at lw_m8 137 rfl) rfl
theorem q1946 : (Jvm.Cond.code ({ cls := "BoardCrossingModel", name := "hotte\x72", desc := "(I)I" } : Jvm.MethodName) prog_20_method_61_code (2 : Nat) (Option.some Jvm.ClassFile.FieldType.int)) ∈ lw_all := lw_g (lw_at lw_m8 138 rfl) rfl
theorem q1947 : (Jvm.Cond.methodLink "BoardCrossingModel" (437 : Nat) ({ cls := "BoardCrossingModel", name := "hotterOf", desc := "(I)I" } : Jvm.MethodName)) ∈ lw_all := lw_g (lw_at lw_m8 139 rfl) rfl
theorem q1948 : (Jvm.Cond.privateMethod ({ cls := "BoardCrossingModel", name := "hotterOf", desc := "(I)I" } : Jvm.MethodName)) ∈ lw_tbl := lw_at lw_m8 140 rfl
theorem q1949 : (Jvm.Cond.instanceMethod ({ cls := "BoardCrossingModel", name := "hotterOf", desc := "(I)I" } : Jvm.MethodName)) ∈ lw_all := lw_g (lw_at lw_m8 141 rfl) rfl
theorem q1950 : (Jvm.Cond.code ({ cls := "BoardCrossingModel", name := "hotterOf", desc := "(I)I" } : Jvm.MethodName) prog_20_method_36_code (4 : Nat) (Option.some Jvm.ClassFile.FieldType.int)) ∈ lw_all := lw_g (lw_at lw_m8 142 rfl) rfl
theorem q1951 : (Jvm.Cond.methodLink "BoardCrossingModel" (330 : Nat) ({ cls := "BoardCrossingModel", name := "done", desc := "(III)I" } : Jvm.MethodName)) ∈ lw_all := lw_g (lw_at lw_m8 143 rfl) rfl
theorem q1952 : (Jvm.Cond.static ({ cls := "BoardCrossingModel", name := "done", desc := "(III)I" } : Jvm.MethodName)) ∈ lw_all := lw_g (lw_at lw_m8 144 rfl) rfl
theorem q1953 : (Jvm.Cond.code ({ cls := "BoardCrossingModel", name := "done", desc := "(III)I" } : Jvm.MethodName) prog_20_method_32_code (3 : Nat) (Option.some Jvm.ClassFile.FieldType.int)) ∈ lw_all := lw_g (lw_at lw_m8 145 rfl) rfl
theorem q1954 : (Jvm.Cond.methodLink "BoardCrossingModel" (334 : Nat) ({ cls := "BoardCrossingModel", name := "within", desc := "(II)I" } : Jvm.MethodName)) ∈ lw_all := lw_g (lw_at lw_m8 146 rfl) rfl
theorem q1955 : (Jvm.Cond.static ({ cls := "BoardCrossingModel", name := "within", desc := "(II)I" } : Jvm.MethodName)) ∈ lw_all := lw_g (lw_at lw_m8 147 rfl) rfl
theorem q1956 : (Jvm.Cond.code ({ cls := "BoardCrossingModel", name := "within", desc := "(II)I" } : Jvm.MethodName) prog_20_method_33_code (2 : Nat) (Option.some Jvm.ClassFile.FieldType.int)) ∈ lw_all := lw_g (lw_at lw_m8 148 rfl) rfl
theorem q1958 : (Jvm.Cond.instanceMethod ({ cls := "BoardCrossingModel", name := "stroke", desc := "(IIZ)I" } : Jvm.MethodName)) ∈ lw_all := lw_g (lw_at lw_m8 150 rfl) rfl
theorem q1959 : (Jvm.Cond.selects "BoardCrossingModel" ({ cls := "BoardCrossingModel", name := "stroke", desc := "(IIZ)I" } : Jvm.MethodName) ({ cls := "BoardCrossingModel", name := "stroke", desc := "(IIZ)I" } : Jvm.MethodName)) ∈ lw_all := lw_g (lw_at lw_m8 151 rfl) rfl
theorem q1960 : (Jvm.Cond.code ({ cls := "BoardCrossingModel", name := "stroke", desc := "(IIZ)I" } : Jvm.MethodName) prog_20_method_64_code (5 : Nat) (Option.some Jvm.ClassFile.FieldType.int)) ∈ lw_all := lw_g (lw_at lw_m8 152 rfl) rfl
theorem q1961 : (Jvm.Cond.methodLink "BoardCrossingModel" (456 : Nat) ({ cls := "BoardCrossingModel", name := "act", desc := "()V" } : Jvm.MethodName)) ∈ lw_all := lw_g (lw_at lw_m8 153 rfl) rfl
theorem q1962 : (Jvm.Cond.privateMethod ({ cls := "BoardCrossingModel", name := "act", desc := "()V" } : Jvm.MethodName)) ∈ lw_tbl := lw_at lw_m8 154 rfl
theorem q1963 : (Jvm.Cond.instanceMethod ({ cls := "BoardCrossingModel", name := "act", desc := "()V" } : Jvm.MethodName)) ∈ lw_all := lw_g (lw_at lw_m8 155 rfl) rfl
theorem q1964 : (Jvm.Cond.code ({ cls := "BoardCrossingModel", name := "act", desc := "()V" } : Jvm.MethodName) prog_20_method_62_code (2 : Nat) (Option.none : Option Jvm.ClassFile.FieldType)) ∈ lw_all := lw_g (lw_at lw_m8 156 rfl) rfl
theorem q1965 : (Jvm.Cond.methodLink "BoardCrossingModel" (459 : Nat) ({ cls := "BoardCrossingModel", name := "goStroke", desc := "(IIII)I" } : Jvm.MethodName)) ∈ lw_all := lw_g (lw_at lw_m8 157 rfl) rfl
theorem q1966 : (Jvm.Cond.privateMethod ({ cls := "BoardCrossingModel", name := "goStroke", desc := "(IIII)I" } : Jvm.MethodName)) ∈ lw_tbl := lw_at lw_m8 158 rfl
theorem q1967 : (Jvm.Cond.instanceMethod ({ cls := "BoardCrossingModel", name := "goStroke", desc := "(IIII)I" } : Jvm.MethodName)) ∈ lw_all := lw_g (lw_at lw_m8 159 rfl) rfl
theorem q1968 : (Jvm.Cond.code ({ cls := "BoardCrossingModel", name := "goStroke", desc := "(IIII)I" } : Jvm.MethodName) prog_20_method_56_code (10 : Nat) (Option.some Jvm.ClassFile.FieldType.int)) ∈ lw_all := lw_g (lw_at lw_m8 160 rfl) rfl
theorem q1969 : (Jvm.Cond.methodLink "BoardCrossingModel" (433 : Nat) ({ cls := "BoardCrossingModel", name := "columnBy", desc := "(IIII)I" } : Jvm.MethodName)) ∈ lw_all := lw_g (lw_at lw_m8 161 rfl) rfl
theorem q1970 : (Jvm.Cond.privateMethod ({ cls := "BoardCrossingModel", name := "columnBy", desc := "(IIII)I" } : Jvm.MethodName)) ∈ lw_tbl := lw_at lw_m8 162 rfl
theorem q1971 : (Jvm.Cond.instanceMethod ({ cls := "BoardCrossingModel", name := "columnBy", desc := "(IIII)I" } : Jvm.MethodName)) ∈ lw_all := lw_g (lw_at lw_m8 163 rfl) rfl
theorem q1972 : (Jvm.Cond.code ({ cls := "BoardCrossingModel", name := "columnBy", desc := "(IIII)I" } : Jvm.MethodName) prog_20_method_54_code (5 : Nat) (Option.some Jvm.ClassFile.FieldType.int)) ∈ lw_all := lw_g (lw_at lw_m8 164 rfl) rfl
theorem q1973 : (Jvm.Cond.methodLink "BoardCrossingModel" (462 : Nat) ({ cls := "BoardCrossingModel", name := "keepAi\x72", desc := "()V" } : Jvm.MethodName)) ∈ lw_all := lw_g (lw_at lw_m8 165 rfl) rfl
theorem q1974 : (Jvm.Cond.privateMethod ({ cls := "BoardCrossingModel", name := "keepAi\x72", desc := "()V" } : Jvm.MethodName)) ∈ lw_tbl := lw_at lw_m8 166 rfl
theorem q1975 : (Jvm.Cond.instanceMethod ({ cls := "BoardCrossingModel", name := "keepAi\x72", desc := "()V" } : Jvm.MethodName)) ∈ lw_all := lw_g (lw_at lw_m8 167 rfl) rfl
theorem q1976 : (Jvm.Cond.code ({ cls := "BoardCrossingModel", name := "keepAi\x72", desc := "()V" } : Jvm.MethodName) prog_20_method_52_code (2 : Nat) (Option.none : Option Jvm.ClassFile.FieldType)) ∈ lw_all := lw_g (lw_at lw_m8 168 rfl) rfl
theorem q1978 : (Jvm.Cond.instanceMethod ({ cls := "BoardCrossingModel", name := "stow", desc := "(II)I" } : Jvm.MethodName)) ∈ lw_all := lw_g (lw_at lw_m8 170 rfl) rfl
theorem q1979 : (Jvm.Cond.selects "BoardCrossingModel" ({ cls := "BoardCrossingModel", name := "stow", desc := "(II)I" } : Jvm.MethodName) ({ cls := "BoardCrossingModel", name := "stow", desc := "(II)I" } : Jvm.MethodName)) ∈ lw_all := lw_g (lw_at lw_m8 171 rfl) rfl
theorem q1980 : (Jvm.Cond.code ({ cls := "BoardCrossingModel", name := "stow", desc := "(II)I" } : Jvm.MethodName) prog_20_method_67_code (3 : Nat) (Option.some Jvm.ClassFile.FieldType.int)) ∈ lw_all := lw_g (lw_at lw_m8 172 rfl) rfl
theorem q1981 : (Jvm.Cond.methodLink "BoardCrossingModel" (465 : Nat) ({ cls := "BoardCrossingModel", name := "isAtBank", desc := "(I)Z" } : Jvm.MethodName)) ∈ lw_all := lw_g (lw_at lw_m8 173 rfl) rfl
theorem q1982 : (Jvm.Cond.privateMethod ({ cls := "BoardCrossingModel", name := "isAtBank", desc := "(I)Z" } : Jvm.MethodName)) ∈ lw_tbl := lw_at lw_m8 174 rfl
theorem q1983 : (Jvm.Cond.instanceMethod ({ cls := "BoardCrossingModel", name := "isAtBank", desc := "(I)Z" } : Jvm.MethodName)) ∈ lw_all := lw_g (lw_at lw_m8 175 rfl) rfl
theorem q1984 : (Jvm.Cond.code ({ cls := "BoardCrossingModel", name := "isAtBank", desc := "(I)Z" } : Jvm.MethodName) prog_20_method_65_code (2 : Nat) (Option.some Jvm.ClassFile.FieldType.boolean)) ∈ lw_all := lw_g (lw_at lw_m8 176 rfl) rfl
theorem q1985 : (Jvm.Cond.methodLink "BoardCrossingModel" (468 : Nat) ({ cls := "BoardCrossingModel", name := "bankOf", desc := "(I)I" } : Jvm.MethodName)) ∈ lw_all := lw_g (lw_at lw_m8 177 rfl) rfl
theorem q1986 : (Jvm.Cond.privateMethod ({ cls := "BoardCrossingModel", name := "bankOf", desc := "(I)I" } : Jvm.MethodName)) ∈ lw_tbl := lw_at lw_m8 178 rfl
theorem q1987 : (Jvm.Cond.instanceMethod ({ cls := "BoardCrossingModel", name := "bankOf", desc := "(I)I" } : Jvm.MethodName)) ∈ lw_all := lw_g (lw_at lw_m8 179 rfl) rfl
theorem q1988 : (Jvm.Cond.code ({ cls := "BoardCrossingModel", name := "bankOf", desc := "(I)I" } : Jvm.MethodName) prog_20_method_66_code (2 : Nat) (Option.some Jvm.ClassFile.FieldType.int)) ∈ lw_all := lw_g (lw_at lw_m8 180 rfl) rfl
theorem q1990 : (Jvm.Cond.instanceMethod ({ cls := "BoardCrossingModel", name := "take", desc := "(I)I" } : Jvm.MethodName)) ∈ lw_all := lw_g (lw_at lw_m8 182 rfl) rfl
theorem q1991 : (Jvm.Cond.selects "BoardCrossingModel" ({ cls := "BoardCrossingModel", name := "take", desc := "(I)I" } : Jvm.MethodName) ({ cls := "BoardCrossingModel", name := "take", desc := "(I)I" } : Jvm.MethodName)) ∈ lw_all := lw_g (lw_at lw_m8 183 rfl) rfl
theorem q1992 : (Jvm.Cond.code ({ cls := "BoardCrossingModel", name := "take", desc := "(I)I" } : Jvm.MethodName) prog_20_method_68_code (3 : Nat) (Option.some Jvm.ClassFile.FieldType.int)) ∈ lw_all := lw_g (lw_at lw_m8 184 rfl) rfl
theorem q1994 : (Jvm.Cond.instanceMethod ({ cls := "BoardCrossingModel", name := "cool", desc := "(II)I" } : Jvm.MethodName)) ∈ lw_all := lw_g (lw_at lw_m8 186 rfl) rfl
theorem q1995 : (Jvm.Cond.selects "BoardCrossingModel" ({ cls := "BoardCrossingModel", name := "cool", desc := "(II)I" } : Jvm.MethodName) ({ cls := "BoardCrossingModel", name := "cool", desc := "(II)I" } : Jvm.MethodName)) ∈ lw_all := lw_g (lw_at lw_m8 187 rfl) rfl
theorem q1996 : (Jvm.Cond.code ({ cls := "BoardCrossingModel", name := "cool", desc := "(II)I" } : Jvm.MethodName) prog_20_method_69_code (3 : Nat) (Option.some Jvm.ClassFile.FieldType.int)) ∈ lw_all := lw_g (lw_at lw_m8 188 rfl) rfl
theorem q1998 : (Jvm.Cond.instanceMethod ({ cls := "BoardCrossingModel", name := "undo", desc := "()Z" } : Jvm.MethodName)) ∈ lw_all := lw_g (lw_at lw_m8 190 rfl) rfl
theorem q1999 : (Jvm.Cond.selects "BoardCrossingModel" ({ cls := "BoardCrossingModel", name := "undo", desc := "()Z" } : Jvm.MethodName) ({ cls := "BoardCrossingModel", name := "undo", desc := "()Z" } : Jvm.MethodName)) ∈ lw_all := lw_g (lw_at lw_m8 191 rfl) rfl
theorem q2000 : (Jvm.Cond.code ({ cls := "BoardCrossingModel", name := "undo", desc := "()Z" } : Jvm.MethodName) prog_20_method_70_code (1 : Nat) (Option.some Jvm.ClassFile.FieldType.boolean)) ∈ lw_all := lw_g (lw_at lw_m8 192 rfl) rfl
theorem q2001 : (Jvm.Cond.methodLink "BoardCrossingModel" (471 : Nat) ({ cls := "BoardCrossingModel", name := "exchange", desc := "(I)V" } : Jvm.MethodName)) ∈ lw_all := lw_g (lw_at lw_m8 193 rfl) rfl
theorem q2002 : (Jvm.Cond.privateMethod ({ cls := "BoardCrossingModel", name := "exchange", desc := "(I)V" } : Jvm.MethodName)) ∈ lw_tbl := lw_at lw_m8 194 rfl
theorem q2003 : (Jvm.Cond.instanceMethod ({ cls := "BoardCrossingModel", name := "exchange", desc := "(I)V" } : Jvm.MethodName)) ∈ lw_all := lw_g (lw_at lw_m8 195 rfl) rfl
theorem q2004 : (Jvm.Cond.code ({ cls := "BoardCrossingModel", name := "exchange", desc := "(I)V" } : Jvm.MethodName) prog_20_method_63_code (4 : Nat) (Option.none : Option Jvm.ClassFile.FieldType)) ∈ lw_all := lw_g (lw_at lw_m8 196 rfl) rfl
theorem q2006 : (Jvm.Cond.instanceMethod ({ cls := "BoardCrossingModel", name := "redo", desc := "()Z" } : Jvm.MethodName)) ∈ lw_all := lw_g (lw_at lw_m8 198 rfl) rfl
theorem q2007 : (Jvm.Cond.selects "BoardCrossingModel" ({ cls := "BoardCrossingModel", name := "redo", desc := "()Z" } : Jvm.MethodName) ({ cls := "BoardCrossingModel", name := "redo", desc := "()Z" } : Jvm.MethodName)) ∈ lw_all := lw_g (lw_at lw_m8 199 rfl) rfl
theorem q2008 : (Jvm.Cond.code ({ cls := "BoardCrossingModel", name := "redo", desc := "()Z" } : Jvm.MethodName) prog_20_method_71_code (1 : Nat) (Option.some Jvm.ClassFile.FieldType.boolean)) ∈ lw_all := lw_g (lw_at lw_m8 200 rfl) rfl
theorem q2010 : (Jvm.Cond.instanceMethod ({ cls := "BoardCrossingModel", name := "landings", desc := "(I)I" } : Jvm.MethodName)) ∈ lw_all := lw_g (lw_at lw_m8 202 rfl) rfl
theorem q2011 : (Jvm.Cond.selects "BoardCrossingModel" ({ cls := "BoardCrossingModel", name := "landings", desc := "(I)I" } : Jvm.MethodName) ({ cls := "BoardCrossingModel", name := "landings", desc := "(I)I" } : Jvm.MethodName)) ∈ lw_all := lw_g (lw_at lw_m8 203 rfl) rfl
theorem q2012 : (Jvm.Cond.code ({ cls := "BoardCrossingModel", name := "landings", desc := "(I)I" } : Jvm.MethodName) prog_20_method_77_code (2 : Nat) (Option.some Jvm.ClassFile.FieldType.int)) ∈ lw_all := lw_g (lw_at lw_m8 204 rfl) rfl
theorem q2013 : (Jvm.Cond.methodLink "BoardCrossingModel" (483 : Nat) ({ cls := "BoardCrossingModel", name := "landingsOf", desc := "(I)I" } : Jvm.MethodName)) ∈ lw_all := lw_g (lw_at lw_m8 205 rfl) rfl
theorem q2014 : (Jvm.Cond.privateMethod ({ cls := "BoardCrossingModel", name := "landingsOf", desc := "(I)I" } : Jvm.MethodName)) ∈ lw_tbl := lw_at lw_m8 206 rfl
theorem q2015 : (Jvm.Cond.instanceMethod ({ cls := "BoardCrossingModel", name := "landingsOf", desc := "(I)I" } : Jvm.MethodName)) ∈ lw_all := lw_g (lw_at lw_m8 207 rfl) rfl
theorem q2016 : (Jvm.Cond.code ({ cls := "BoardCrossingModel", name := "landingsOf", desc := "(I)I" } : Jvm.MethodName) prog_20_method_76_code (4 : Nat) (Option.some Jvm.ClassFile.FieldType.int)) ∈ lw_all := lw_g (lw_at lw_m8 208 rfl) rfl
theorem q2017 : (Jvm.Cond.methodLink "BoardCrossingModel" (474 : Nat) ({ cls := "BoardCrossingModel", name := "leftOf", desc := "(I)I" } : Jvm.MethodName)) ∈ lw_all := lw_g (lw_at lw_m8 209 rfl) rfl
theorem q2018 : (Jvm.Cond.privateMethod ({ cls := "BoardCrossingModel", name := "leftOf", desc := "(I)I" } : Jvm.MethodName)) ∈ lw_tbl := lw_at lw_m8 210 rfl
theorem q2019 : (Jvm.Cond.instanceMethod ({ cls := "BoardCrossingModel", name := "leftOf", desc := "(I)I" } : Jvm.MethodName)) ∈ lw_all := lw_g (lw_at lw_m8 211 rfl) rfl
theorem q2020 : (Jvm.Cond.code ({ cls := "BoardCrossingModel", name := "leftOf", desc := "(I)I" } : Jvm.MethodName) prog_20_method_73_code (2 : Nat) (Option.some Jvm.ClassFile.FieldType.int)) ∈ lw_all := lw_g (lw_at lw_m8 212 rfl) rfl
theorem q2021 : (Jvm.Cond.methodLink "BoardCrossingModel" (477 : Nat) ({ cls := "BoardCrossingModel", name := "powe\x72", desc := "(II)I" } : Jvm.MethodName)) ∈ lw_all := lw_g (lw_at lw_m8 213 rfl) rfl
theorem q2022 : (Jvm.Cond.static ({ cls := "BoardCrossingModel", name := "powe\x72", desc := "(II)I" } : Jvm.MethodName)) ∈ lw_all := lw_g (lw_at lw_m8 214 rfl) rfl
theorem q2023 : (Jvm.Cond.code ({ cls := "BoardCrossingModel", name := "powe\x72", desc := "(II)I" } : Jvm.MethodName) prog_20_method_72_code (4 : Nat) (Option.some Jvm.ClassFile.FieldType.int)) ∈ lw_all := lw_g (lw_at lw_m8 215 rfl) rfl
theorem q2024 : (Jvm.Cond.methodLink "BoardCrossingModel" (480 : Nat) ({ cls := "BoardCrossingModel", name := "goRow", desc := "(II)Z" } : Jvm.MethodName)) ∈ lw_all := lw_g (lw_at lw_m8 216 rfl) rfl
theorem q2025 : (Jvm.Cond.privateMethod ({ cls := "BoardCrossingModel", name := "goRow", desc := "(II)Z" } : Jvm.MethodName)) ∈ lw_tbl := lw_at lw_m8 217 rfl
theorem q2026 : (Jvm.Cond.instanceMethod ({ cls := "BoardCrossingModel", name := "goRow", desc := "(II)Z" } : Jvm.MethodName)) ∈ lw_all := lw_g (lw_at lw_m8 218 rfl) rfl
theorem q2027 : (Jvm.Cond.code ({ cls := "BoardCrossingModel", name := "goRow", desc := "(II)Z" } : Jvm.MethodName) prog_20_method_74_code (7 : Nat) (Option.some Jvm.ClassFile.FieldType.boolean)) ∈ lw_all := lw_g (lw_at lw_m8 219 rfl) rfl
theorem q2029 : (Jvm.Cond.instanceMethod ({ cls := "BoardCrossingModel", name := "rows", desc := "(I)I" } : Jvm.MethodName)) ∈ lw_all := lw_g (lw_at lw_m8 221 rfl) rfl
theorem q2030 : (Jvm.Cond.selects "BoardCrossingModel" ({ cls := "BoardCrossingModel", name := "rows", desc := "(I)I" } : Jvm.MethodName) ({ cls := "BoardCrossingModel", name := "rows", desc := "(I)I" } : Jvm.MethodName)) ∈ lw_all := lw_g (lw_at lw_m8 222 rfl) rfl
theorem q2031 : (Jvm.Cond.code ({ cls := "BoardCrossingModel", name := "rows", desc := "(I)I" } : Jvm.MethodName) prog_20_method_78_code (4 : Nat) (Option.some Jvm.ClassFile.FieldType.int)) ∈ lw_all := lw_g (lw_at lw_m8 223 rfl) rfl
theorem q2033 : (Jvm.Cond.instanceMethod ({ cls := "BoardCrossingModel", name := "drift", desc := "(I)I" } : Jvm.MethodName)) ∈ lw_all := lw_g (lw_at lw_m8 225 rfl) rfl
theorem q2034 : (Jvm.Cond.selects "BoardCrossingModel" ({ cls := "BoardCrossingModel", name := "drift", desc := "(I)I" } : Jvm.MethodName) ({ cls := "BoardCrossingModel", name := "drift", desc := "(I)I" } : Jvm.MethodName)) ∈ lw_all := lw_g (lw_at lw_m8 226 rfl) rfl
theorem q2035 : (Jvm.Cond.code ({ cls := "BoardCrossingModel", name := "drift", desc := "(I)I" } : Jvm.MethodName) prog_20_method_80_code (2 : Nat) (Option.some Jvm.ClassFile.FieldType.int)) ∈ lw_all := lw_g (lw_at lw_m8 227 rfl) rfl
theorem q2036 : (Jvm.Cond.methodLink "BoardCrossingModel" (486 : Nat) ({ cls := "BoardCrossingModel", name := "unsteered", desc := "(I)I" } : Jvm.MethodName)) ∈ lw_all := lw_g (lw_at lw_m8 228 rfl) rfl
theorem q2037 : (Jvm.Cond.privateMethod ({ cls := "BoardCrossingModel", name := "unsteered", desc := "(I)I" } : Jvm.MethodName)) ∈ lw_tbl := lw_at lw_m8 229 rfl
theorem q2038 : (Jvm.Cond.instanceMethod ({ cls := "BoardCrossingModel", name := "unsteered", desc := "(I)I" } : Jvm.MethodName)) ∈ lw_all := lw_g (lw_at lw_m8 230 rfl) rfl
theorem q2039 : (Jvm.Cond.code ({ cls := "BoardCrossingModel", name := "unsteered", desc := "(I)I" } : Jvm.MethodName) prog_20_method_79_code (2 : Nat) (Option.some Jvm.ClassFile.FieldType.int)) ∈ lw_all := lw_g (lw_at lw_m8 231 rfl) rfl
theorem q2041 : (Jvm.Cond.instanceMethod ({ cls := "BoardCrossingModel", name := "coolest", desc := "(II)I" } : Jvm.MethodName)) ∈ lw_all := lw_g (lw_at lw_m8 233 rfl) rfl
theorem q2042 : (Jvm.Cond.selects "BoardCrossingModel" ({ cls := "BoardCrossingModel", name := "coolest", desc := "(II)I" } : Jvm.MethodName) ({ cls := "BoardCrossingModel", name := "coolest", desc := "(II)I" } : Jvm.MethodName)) ∈ lw_all := lw_g (lw_at lw_m8 234 rfl) rfl
theorem q2043 : (Jvm.Cond.code ({ cls := "BoardCrossingModel", name := "coolest", desc := "(II)I" } : Jvm.MethodName) prog_20_method_81_code (7 : Nat) (Option.some Jvm.ClassFile.FieldType.int)) ∈ lw_all := lw_g (lw_at lw_m8 235 rfl) rfl
theorem q2044 : (Jvm.Cond.constant "BoardCrossingModel" (489 : Nat) (1000000 : Int32)) ∈ lw_all := lw_g (lw_at lw_m8 236 rfl) rfl
theorem q2045 : (Jvm.Cond.methodLink "BoardCrossingModel" (490 : Nat) ({ cls := "BoardCrossingModel", name := "putSteers", desc := "(I)V" } : Jvm.MethodName)) ∈ lw_all := lw_g (lw_at lw_m8 237 rfl) rfl
theorem q2046 : (Jvm.Cond.privateMethod ({ cls := "BoardCrossingModel", name := "putSteers", desc := "(I)V" } : Jvm.MethodName)) ∈ lw_tbl := lw_at lw_m8 238 rfl
theorem q2047 : (Jvm.Cond.instanceMethod ({ cls := "BoardCrossingModel", name := "putSteers", desc := "(I)V" } : Jvm.MethodName)) ∈ lw_all := lw_g (lw_at lw_m8 239 rfl) rfl
theorem q2048 : (Jvm.Cond.code ({ cls := "BoardCrossingModel", name := "putSteers", desc := "(I)V" } : Jvm.MethodName) prog_20_method_75_code (3 : Nat) (Option.none : Option Jvm.ClassFile.FieldType)) ∈ lw_all := lw_g (lw_at lw_m9 0 rfl) rfl
theorem q2050 : (Jvm.Cond.instanceMethod ({ cls := "BoardCrossingModel", name := "straight", desc := "(II)I" } : Jvm.MethodName)) ∈ lw_all := lw_g (lw_at lw_m9 2 rfl) rfl
theorem q2051 : (Jvm.Cond.selects "BoardCrossingModel" ({ cls := "BoardCrossingModel", name := "straight", desc := "(II)I" } : Jvm.MethodName) ({ cls := "BoardCrossingModel", name := "straight", desc := "(II)I" } : Jvm.MethodName)) ∈ lw_all := lw_g (lw_at lw_m9 3 rfl) rfl
theorem q2052 : (Jvm.Cond.code ({ cls := "BoardCrossingModel", name := "straight", desc := "(II)I" } : Jvm.MethodName) prog_20_method_83_code (5 : Nat) (Option.some Jvm.ClassFile.FieldType.int)) ∈ lw_all := lw_g (lw_at lw_m9 4 rfl) rfl
theorem q2053 : (Jvm.Cond.methodLink "BoardCrossingModel" (493 : Nat) ({ cls := "BoardCrossingModel", name := "turned", desc := "(I)I" } : Jvm.MethodName)) ∈ lw_all := lw_g (lw_at lw_m9 5 rfl) rfl
theorem q2054 : (Jvm.Cond.privateMethod ({ cls := "BoardCrossingModel", name := "turned", desc := "(I)I" } : Jvm.MethodName)) ∈ lw_tbl := lw_at lw_m9 6 rfl
theorem q2055 : (Jvm.Cond.instanceMethod ({ cls := "BoardCrossingModel", name := "turned", desc := "(I)I" } : Jvm.MethodName)) ∈ lw_all := lw_g (lw_at lw_m9 7 rfl) rfl
theorem q2056 : (Jvm.Cond.code ({ cls := "BoardCrossingModel", name := "turned", desc := "(I)I" } : Jvm.MethodName) prog_20_method_82_code (4 : Nat) (Option.some Jvm.ClassFile.FieldType.int)) ∈ lw_all := lw_g (lw_at lw_m9 8 rfl) rfl
theorem q2058 : (Jvm.Cond.instanceMethod ({ cls := "BoardCrossingModel", name := "widest", desc := "(II)I" } : Jvm.MethodName)) ∈ lw_all := lw_g (lw_at lw_m9 10 rfl) rfl
theorem q2059 : (Jvm.Cond.selects "BoardCrossingModel" ({ cls := "BoardCrossingModel", name := "widest", desc := "(II)I" } : Jvm.MethodName) ({ cls := "BoardCrossingModel", name := "widest", desc := "(II)I" } : Jvm.MethodName)) ∈ lw_all := lw_g (lw_at lw_m9 11 rfl) rfl
theorem q2060 : (Jvm.Cond.code ({ cls := "BoardCrossingModel", name := "widest", desc := "(II)I" } : Jvm.MethodName) prog_20_method_85_code (6 : Nat) (Option.some Jvm.ClassFile.FieldType.int)) ∈ lw_all := lw_g (lw_at lw_m9 12 rfl) rfl
theorem q2061 : (Jvm.Cond.methodLink "BoardCrossingModel" (496 : Nat) ({ cls := "BoardCrossingModel", name := "wideOf", desc := "(I)I" } : Jvm.MethodName)) ∈ lw_all := lw_g (lw_at lw_m9 13 rfl) rfl
theorem q2062 : (Jvm.Cond.privateMethod ({ cls := "BoardCrossingModel", name := "wideOf", desc := "(I)I" } : Jvm.MethodName)) ∈ lw_tbl := lw_at lw_m9 14 rfl
theorem q2063 : (Jvm.Cond.instanceMethod ({ cls := "BoardCrossingModel", name := "wideOf", desc := "(I)I" } : Jvm.MethodName)) ∈ lw_all := lw_g (lw_at lw_m9 15 rfl) rfl
theorem q2064 : (Jvm.Cond.code ({ cls := "BoardCrossingModel", name := "wideOf", desc := "(I)I" } : Jvm.MethodName) prog_20_method_84_code (4 : Nat) (Option.some Jvm.ClassFile.FieldType.int)) ∈ lw_all := lw_g (lw_at lw_m9 16 rfl) rfl
theorem q2066 : (Jvm.Cond.instanceMethod ({ cls := "BoardCrossingModel", name := "trips", desc := "(I)I" } : Jvm.MethodName)) ∈ lw_all := lw_g (lw_at lw_m9 18 rfl) rfl
theorem q2067 : (Jvm.Cond.selects "BoardCrossingModel" ({ cls := "BoardCrossingModel", name := "trips", desc := "(I)I" } : Jvm.MethodName) ({ cls := "BoardCrossingModel", name := "trips", desc := "(I)I" } : Jvm.MethodName)) ∈ lw_all := lw_g (lw_at lw_m9 19 rfl) rfl
theorem q2068 : (Jvm.Cond.code ({ cls := "BoardCrossingModel", name := "trips", desc := "(I)I" } : Jvm.MethodName) prog_20_method_90_code (7 : Nat) (Option.some Jvm.ClassFile.FieldType.int)) ∈ lw_all := lw_g (lw_at lw_m9 20 rfl) rfl
theorem q2069 : (Jvm.Cond.methodLink "BoardCrossingModel" (502 : Nat) ({ cls := "BoardCrossingModel", name := "nearLoads", desc := "()I" } : Jvm.MethodName)) ∈ lw_all := lw_g (lw_at lw_m9 21 rfl) rfl
theorem q2070 : (Jvm.Cond.privateMethod ({ cls := "BoardCrossingModel", name := "nearLoads", desc := "()I" } : Jvm.MethodName)) ∈ lw_tbl := lw_at lw_m9 22 rfl
theorem q2071 : (Jvm.Cond.instanceMethod ({ cls := "BoardCrossingModel", name := "nearLoads", desc := "()I" } : Jvm.MethodName)) ∈ lw_all := lw_g (lw_at lw_m9 23 rfl) rfl
theorem q2072 : (Jvm.Cond.code ({ cls := "BoardCrossingModel", name := "nearLoads", desc := "()I" } : Jvm.MethodName) prog_20_method_86_code (1 : Nat) (Option.some Jvm.ClassFile.FieldType.int)) ∈ lw_all := lw_g (lw_at lw_m9 24 rfl) rfl
theorem q2073 : (Jvm.Cond.methodLink "BoardCrossingModel" (499 : Nat) ({ cls := "BoardCrossingModel", name := "layBefore", desc := "(I)I" } : Jvm.MethodName)) ∈ lw_all := lw_g (lw_at lw_m9 25 rfl) rfl
theorem q2074 : (Jvm.Cond.privateMethod ({ cls := "BoardCrossingModel", name := "layBefore", desc := "(I)I" } : Jvm.MethodName)) ∈ lw_tbl := lw_at lw_m9 26 rfl
theorem q2075 : (Jvm.Cond.instanceMethod ({ cls := "BoardCrossingModel", name := "layBefore", desc := "(I)I" } : Jvm.MethodName)) ∈ lw_all := lw_g (lw_at lw_m9 27 rfl) rfl
theorem q2076 : (Jvm.Cond.code ({ cls := "BoardCrossingModel", name := "layBefore", desc := "(I)I" } : Jvm.MethodName) prog_20_method_89_code (4 : Nat) (Option.some Jvm.ClassFile.FieldType.int)) ∈ lw_all := lw_g (lw_at lw_m9 28 rfl) rfl
theorem q2077 : (Jvm.Cond.methodLink "BoardCrossingModel" (505 : Nat) ({ cls := "BoardCrossingModel", name := "isFlat", desc := "(II)Z" } : Jvm.MethodName)) ∈ lw_all := lw_g (lw_at lw_m9 29 rfl) rfl
theorem q2078 : (Jvm.Cond.privateMethod ({ cls := "BoardCrossingModel", name := "isFlat", desc := "(II)Z" } : Jvm.MethodName)) ∈ lw_tbl := lw_at lw_m9 30 rfl
theorem q2079 : (Jvm.Cond.instanceMethod ({ cls := "BoardCrossingModel", name := "isFlat", desc := "(II)Z" } : Jvm.MethodName)) ∈ lw_all := lw_g (lw_at lw_m9 31 rfl) rfl
theorem q2080 : (Jvm.Cond.code ({ cls := "BoardCrossingModel", name := "isFlat", desc := "(II)Z" } : Jvm.MethodName) prog_20_method_87_code (5 : Nat) (Option.some Jvm.ClassFile.FieldType.boolean)) ∈ lw_all := lw_g (lw_at lw_m9 32 rfl) rfl
theorem q2081 : (Jvm.Cond.methodLink "BoardCrossingModel" (508 : Nat) ({ cls := "BoardCrossingModel", name := "nextTrips", desc := "(I)Z" } : Jvm.MethodName)) ∈ lw_all := lw_g (lw_at lw_m9 33 rfl) rfl
theorem q2082 : (Jvm.Cond.privateMethod ({ cls := "BoardCrossingModel", name := "nextTrips", desc := "(I)Z" } : Jvm.MethodName)) ∈ lw_tbl := lw_at lw_m9 34 rfl
theorem q2083 : (Jvm.Cond.instanceMethod ({ cls := "BoardCrossingModel", name := "nextTrips", desc := "(I)Z" } : Jvm.MethodName)) ∈ lw_all := lw_g (lw_at lw_m9 35 rfl) rfl
theorem q2084 : (Jvm.Cond.code ({ cls := "BoardCrossingModel", name := "nextTrips", desc := "(I)Z" } : Jvm.MethodName) prog_20_method_88_code (4 : Nat) (Option.some Jvm.ClassFile.FieldType.boolean)) ∈ lw_all := lw_g (lw_at lw_m9 36 rfl) rfl
theorem q2086 : (Jvm.Cond.instanceMethod ({ cls := "BoardCrossingModel", name := "stowing", desc := "()I" } : Jvm.MethodName)) ∈ lw_all := lw_g (lw_at lw_m9 38 rfl) rfl
theorem q2087 : (Jvm.Cond.selects "BoardCrossingModel" ({ cls := "BoardCrossingModel", name := "stowing", desc := "()I" } : Jvm.MethodName) ({ cls := "BoardCrossingModel", name := "stowing", desc := "()I" } : Jvm.MethodName)) ∈ lw_all := lw_g (lw_at lw_m9 39 rfl) rfl
theorem q2088 : (Jvm.Cond.code ({ cls := "BoardCrossingModel", name := "stowing", desc := "()I" } : Jvm.MethodName) prog_20_method_92_code (6 : Nat) (Option.some Jvm.ClassFile.FieldType.int)) ∈ lw_all := lw_g (lw_at lw_m9 40 rfl) rfl
theorem q2089 : (Jvm.Cond.methodLink "BoardCrossingModel" (511 : Nat) ({ cls := "BoardCrossingModel", name := "stowBy", desc := "(II)I" } : Jvm.MethodName)) ∈ lw_all := lw_g (lw_at lw_m9 41 rfl) rfl
theorem q2090 : (Jvm.Cond.privateMethod ({ cls := "BoardCrossingModel", name := "stowBy", desc := "(II)I" } : Jvm.MethodName)) ∈ lw_tbl := lw_at lw_m9 42 rfl
theorem q2091 : (Jvm.Cond.instanceMethod ({ cls := "BoardCrossingModel", name := "stowBy", desc := "(II)I" } : Jvm.MethodName)) ∈ lw_all := lw_g (lw_at lw_m9 43 rfl) rfl
theorem q2092 : (Jvm.Cond.code ({ cls := "BoardCrossingModel", name := "stowBy", desc := "(II)I" } : Jvm.MethodName) prog_20_method_91_code (7 : Nat) (Option.some Jvm.ClassFile.FieldType.int)) ∈ lw_all := lw_g (lw_at lw_m9 44 rfl) rfl
theorem q2093 : (Jvm.Cond.methodLink "BoardCrossingModel" (514 : Nat) ({ cls := "BoardCrossingModel", name := "members", desc := "(I)I" } : Jvm.MethodName)) ∈ lw_all := lw_g (lw_at lw_m9 45 rfl) rfl
theorem q2094 : (Jvm.Cond.static ({ cls := "BoardCrossingModel", name := "members", desc := "(I)I" } : Jvm.MethodName)) ∈ lw_all := lw_g (lw_at lw_m9 46 rfl) rfl
theorem q2095 : (Jvm.Cond.code ({ cls := "BoardCrossingModel", name := "members", desc := "(I)I" } : Jvm.MethodName) prog_20_method_50_code (3 : Nat) (Option.some Jvm.ClassFile.FieldType.int)) ∈ lw_all := lw_g (lw_at lw_m9 47 rfl) rfl
theorem q2097 : (Jvm.Cond.instanceMethod ({ cls := "BoardCrossingModel", name := "meet", desc := "(II)I" } : Jvm.MethodName)) ∈ lw_all := lw_g (lw_at lw_m9 49 rfl) rfl
theorem q2098 : (Jvm.Cond.selects "BoardCrossingModel" ({ cls := "BoardCrossingModel", name := "meet", desc := "(II)I" } : Jvm.MethodName) ({ cls := "BoardCrossingModel", name := "meet", desc := "(II)I" } : Jvm.MethodName)) ∈ lw_all := lw_g (lw_at lw_m9 50 rfl) rfl
theorem q2099 : (Jvm.Cond.code ({ cls := "BoardCrossingModel", name := "meet", desc := "(II)I" } : Jvm.MethodName) prog_20_method_95_code (4 : Nat) (Option.some Jvm.ClassFile.FieldType.int)) ∈ lw_all := lw_g (lw_at lw_m9 51 rfl) rfl
theorem q2100 : (Jvm.Cond.methodLink "BoardCrossingModel" (520 : Nat) ({ cls := "BoardCrossingModel", name := "areBeside", desc := "()Z" } : Jvm.MethodName)) ∈ lw_all := lw_g (lw_at lw_m9 52 rfl) rfl
theorem q2101 : (Jvm.Cond.privateMethod ({ cls := "BoardCrossingModel", name := "areBeside", desc := "()Z" } : Jvm.MethodName)) ∈ lw_tbl := lw_at lw_m9 53 rfl
theorem q2102 : (Jvm.Cond.instanceMethod ({ cls := "BoardCrossingModel", name := "areBeside", desc := "()Z" } : Jvm.MethodName)) ∈ lw_all := lw_g (lw_at lw_m9 54 rfl) rfl
theorem q2103 : (Jvm.Cond.code ({ cls := "BoardCrossingModel", name := "areBeside", desc := "()Z" } : Jvm.MethodName) prog_20_method_93_code (3 : Nat) (Option.some Jvm.ClassFile.FieldType.boolean)) ∈ lw_all := lw_g (lw_at lw_m9 55 rfl) rfl
theorem q2104 : (Jvm.Cond.methodLink "BoardCrossingModel" (517 : Nat) ({ cls := "BoardCrossingModel", name := "plain", desc := "(I)I" } : Jvm.MethodName)) ∈ lw_all := lw_g (lw_at lw_m9 56 rfl) rfl
theorem q2105 : (Jvm.Cond.static ({ cls := "BoardCrossingModel", name := "plain", desc := "(I)I" } : Jvm.MethodName)) ∈ lw_all := lw_g (lw_at lw_m9 57 rfl) rfl
theorem q2106 : (Jvm.Cond.code ({ cls := "BoardCrossingModel", name := "plain", desc := "(I)I" } : Jvm.MethodName) prog_20_method_34_code (1 : Nat) (Option.some Jvm.ClassFile.FieldType.int)) ∈ lw_all := lw_g (lw_at lw_m9 58 rfl) rfl
theorem q2107 : (Jvm.Cond.methodLink "BoardCrossingModel" (523 : Nat) ({ cls := "BoardCrossingModel", name := "goBoth", desc := "(I)V" } : Jvm.MethodName)) ∈ lw_all := lw_g (lw_at lw_m9 59 rfl) rfl
theorem q2108 : (Jvm.Cond.privateMethod ({ cls := "BoardCrossingModel", name := "goBoth", desc := "(I)V" } : Jvm.MethodName)) ∈ lw_tbl := lw_at lw_m9 60 rfl
theorem q2109 : (Jvm.Cond.instanceMethod ({ cls := "BoardCrossingModel", name := "goBoth", desc := "(I)V" } : Jvm.MethodName)) ∈ lw_all := lw_g (lw_at lw_m9 61 rfl) rfl
theorem q2110 : (Jvm.Cond.code ({ cls := "BoardCrossingModel", name := "goBoth", desc := "(I)V" } : Jvm.MethodName) prog_20_method_94_code (6 : Nat) (Option.none : Option Jvm.ClassFile.FieldType)) ∈ lw_all := lw_g (lw_at lw_m9 62 rfl) rfl
theorem q2112 : (Jvm.Cond.instanceMethod ({ cls := "BoardCrossingModel", name := "mooring", desc := "(I)I" } : Jvm.MethodName)) ∈ lw_all := lw_g (lw_at lw_m9 64 rfl) rfl
theorem q2113 : (Jvm.Cond.selects "BoardCrossingModel" ({ cls := "BoardCrossingModel", name := "mooring", desc := "(I)I" } : Jvm.MethodName) ({ cls := "BoardCrossingModel", name := "mooring", desc := "(I)I" } : Jvm.MethodName)) ∈ lw_all := lw_g (lw_at lw_m9 65 rfl) rfl
theorem q2114 : (Jvm.Cond.code ({ cls := "BoardCrossingModel", name := "mooring", desc := "(I)I" } : Jvm.MethodName) prog_20_method_98_code (7 : Nat) (Option.some Jvm.ClassFile.FieldType.int)) ∈ lw_all := lw_g (lw_at lw_m9 66 rfl) rfl
theorem q2115 : (Jvm.Cond.methodLink "BoardCrossingModel" (526 : Nat) ({ cls := "BoardCrossingModel", name := "layMooring", desc := "(I)I" } : Jvm.MethodName)) ∈ lw_all := lw_g (lw_at lw_m9 67 rfl) rfl
theorem q2116 : (Jvm.Cond.privateMethod ({ cls := "BoardCrossingModel", name := "layMooring", desc := "(I)I" } : Jvm.MethodName)) ∈ lw_tbl := lw_at lw_m9 68 rfl
theorem q2117 : (Jvm.Cond.instanceMethod ({ cls := "BoardCrossingModel", name := "layMooring", desc := "(I)I" } : Jvm.MethodName)) ∈ lw_all := lw_g (lw_at lw_m9 69 rfl) rfl
theorem q2118 : (Jvm.Cond.code ({ cls := "BoardCrossingModel", name := "layMooring", desc := "(I)I" } : Jvm.MethodName) prog_20_method_96_code (6 : Nat) (Option.some Jvm.ClassFile.FieldType.int)) ∈ lw_all := lw_g (lw_at lw_m9 70 rfl) rfl
theorem q2119 : (Jvm.Cond.methodLink "BoardCrossingModel" (529 : Nat) ({ cls := "BoardCrossingModel", name := "betweenAll", desc := "()I" } : Jvm.MethodName)) ∈ lw_all := lw_g (lw_at lw_m9 71 rfl) rfl
theorem q2120 : (Jvm.Cond.privateMethod ({ cls := "BoardCrossingModel", name := "betweenAll", desc := "()I" } : Jvm.MethodName)) ∈ lw_tbl := lw_at lw_m9 72 rfl
theorem q2121 : (Jvm.Cond.instanceMethod ({ cls := "BoardCrossingModel", name := "betweenAll", desc := "()I" } : Jvm.MethodName)) ∈ lw_all := lw_g (lw_at lw_m9 73 rfl) rfl
theorem q2122 : (Jvm.Cond.code ({ cls := "BoardCrossingModel", name := "betweenAll", desc := "()I" } : Jvm.MethodName) prog_20_method_97_code (3 : Nat) (Option.some Jvm.ClassFile.FieldType.int)) ∈ lw_all := lw_g (lw_at lw_m9 74 rfl) rfl
theorem q2124 : (Jvm.Cond.instanceMethod ({ cls := "BoardCrossingModel", name := "guests", desc := "(II)I" } : Jvm.MethodName)) ∈ lw_all := lw_g (lw_at lw_m9 76 rfl) rfl
theorem q2125 : (Jvm.Cond.selects "BoardCrossingModel" ({ cls := "BoardCrossingModel", name := "guests", desc := "(II)I" } : Jvm.MethodName) ({ cls := "BoardCrossingModel", name := "guests", desc := "(II)I" } : Jvm.MethodName)) ∈ lw_all := lw_g (lw_at lw_m9 77 rfl) rfl
theorem q2126 : (Jvm.Cond.code ({ cls := "BoardCrossingModel", name := "guests", desc := "(II)I" } : Jvm.MethodName) prog_20_method_101_code (8 : Nat) (Option.some Jvm.ClassFile.FieldType.int)) ∈ lw_all := lw_g (lw_at lw_m9 78 rfl) rfl
theorem q2127 : (Jvm.Cond.methodLink "BoardCrossingModel" (535 : Nat) ({ cls := "BoardCrossingModel", name := "isRest", desc := "(IIIIII)Z" } : Jvm.MethodName)) ∈ lw_all := lw_g (lw_at lw_m9 79 rfl) rfl
theorem q2128 : (Jvm.Cond.privateMethod ({ cls := "BoardCrossingModel", name := "isRest", desc := "(IIIIII)Z" } : Jvm.MethodName)) ∈ lw_tbl := lw_at lw_m9 80 rfl
theorem q2129 : (Jvm.Cond.instanceMethod ({ cls := "BoardCrossingModel", name := "isRest", desc := "(IIIIII)Z" } : Jvm.MethodName)) ∈ lw_all := lw_g (lw_at lw_m9 81 rfl) rfl
theorem q2130 : (Jvm.Cond.code ({ cls := "BoardCrossingModel", name := "isRest", desc := "(IIIIII)Z" } : Jvm.MethodName) prog_20_method_100_code (9 : Nat) (Option.some Jvm.ClassFile.FieldType.boolean)) ∈ lw_all := lw_g (lw_at lw_m9 82 rfl) rfl
theorem q2131 : (Jvm.Cond.methodLink "BoardCrossingModel" (532 : Nat) ({ cls := "BoardCrossingModel", name := "guestWorth", desc := "(III)I" } : Jvm.MethodName)) ∈ lw_all := lw_g (lw_at lw_m9 83 rfl) rfl
theorem q2132 : (Jvm.Cond.privateMethod ({ cls := "BoardCrossingModel", name := "guestWorth", desc := "(III)I" } : Jvm.MethodName)) ∈ lw_tbl := lw_at lw_m9 84 rfl
theorem q2133 : (Jvm.Cond.instanceMethod ({ cls := "BoardCrossingModel", name := "guestWorth", desc := "(III)I" } : Jvm.MethodName)) ∈ lw_all := lw_g (lw_at lw_m9 85 rfl) rfl
theorem q2134 : (Jvm.Cond.code ({ cls := "BoardCrossingModel", name := "guestWorth", desc := "(III)I" } : Jvm.MethodName) prog_20_method_99_code (4 : Nat) (Option.some Jvm.ClassFile.FieldType.int)) ∈ lw_all := lw_g (lw_at lw_m9 86 rfl) rfl
theorem q2136 : (Jvm.Cond.instanceMethod ({ cls := "BoardCrossingModel", name := "singe", desc := "(I)I" } : Jvm.MethodName)) ∈ lw_all := lw_g (lw_at lw_m9 88 rfl) rfl
theorem q2137 : (Jvm.Cond.selects "BoardCrossingModel" ({ cls := "BoardCrossingModel", name := "singe", desc := "(I)I" } : Jvm.MethodName) ({ cls := "BoardCrossingModel", name := "singe", desc := "(I)I" } : Jvm.MethodName)) ∈ lw_all := lw_g (lw_at lw_m9 89 rfl) rfl
theorem q2138 : (Jvm.Cond.code ({ cls := "BoardCrossingModel", name := "singe", desc := "(I)I" } : Jvm.MethodName) prog_20_method_102_code (4 : Nat) (Option.some Jvm.ClassFile.FieldType.int)) ∈ lw_all := lw_g (lw_at lw_m9 90 rfl) rfl
theorem q2140 : (Jvm.Cond.instanceMethod ({ cls := "BoardCrossingModel", name := "odds", desc := "(III)I" } : Jvm.MethodName)) ∈ lw_all := lw_g (lw_at lw_m9 92 rfl) rfl
theorem q2141 : (Jvm.Cond.selects "BoardCrossingModel" ({ cls := "BoardCrossingModel", name := "odds", desc := "(III)I" } : Jvm.MethodName) ({ cls := "BoardCrossingModel", name := "odds", desc := "(III)I" } : Jvm.MethodName)) ∈ lw_all := lw_g (lw_at lw_m9 93 rfl) rfl
theorem q2142 : (Jvm.Cond.code ({ cls := "BoardCrossingModel", name := "odds", desc := "(III)I" } : Jvm.MethodName) prog_20_method_105_code (8 : Nat) (Option.some Jvm.ClassFile.FieldType.int)) ∈ lw_all := lw_g (lw_at lw_m9 94 rfl) rfl
theorem q2143 : (Jvm.Cond.methodLink "BoardCrossingModel" (539 : Nat) ({ cls := "BoardCrossingModel", name := "landsBy", desc := "(III)Z" } : Jvm.MethodName)) ∈ lw_all := lw_g (lw_at lw_m9 95 rfl) rfl
theorem q2144 : (Jvm.Cond.privateMethod ({ cls := "BoardCrossingModel", name := "landsBy", desc := "(III)Z" } : Jvm.MethodName)) ∈ lw_tbl := lw_at lw_m9 96 rfl
theorem q2145 : (Jvm.Cond.instanceMethod ({ cls := "BoardCrossingModel", name := "landsBy", desc := "(III)Z" } : Jvm.MethodName)) ∈ lw_all := lw_g (lw_at lw_m9 97 rfl) rfl
theorem q2146 : (Jvm.Cond.code ({ cls := "BoardCrossingModel", name := "landsBy", desc := "(III)Z" } : Jvm.MethodName) prog_20_method_104_code (6 : Nat) (Option.some Jvm.ClassFile.FieldType.boolean)) ∈ lw_all := lw_g (lw_at lw_m9 98 rfl) rfl
theorem q2147 : (Jvm.Cond.methodLink "BoardCrossingModel" (542 : Nat) ({ cls := "BoardCrossingModel", name := "diviso\x72", desc := "(II)I" } : Jvm.MethodName)) ∈ lw_all := lw_g (lw_at lw_m9 99 rfl) rfl
theorem q2148 : (Jvm.Cond.static ({ cls := "BoardCrossingModel", name := "diviso\x72", desc := "(II)I" } : Jvm.MethodName)) ∈ lw_all := lw_g (lw_at lw_m9 100 rfl) rfl
theorem q2149 : (Jvm.Cond.code ({ cls := "BoardCrossingModel", name := "diviso\x72", desc := "(II)I" } : Jvm.MethodName) prog_20_method_103_code (5 : Nat) (Option.some Jvm.ClassFile.FieldType.int)) ∈ lw_all := lw_g (lw_at lw_m9 101 rfl) rfl
theorem q2151 : (Jvm.Cond.instanceMethod ({ cls := "BoardCrossingModel", name := "ove\x72", desc := "()I" } : Jvm.MethodName)) ∈ lw_all := lw_g (lw_at lw_m9 103 rfl) rfl
theorem q2152 : (Jvm.Cond.selects "BoardCrossingModel" ({ cls := "BoardCrossingModel", name := "ove\x72", desc := "()I" } : Jvm.MethodName) ({ cls := "BoardCrossingModel", name := "ove\x72", desc := "()I" } : Jvm.MethodName)) ∈ lw_all := lw_g (lw_at lw_m9 104 rfl) rfl
theorem q2153 : (Jvm.Cond.code ({ cls := "BoardCrossingModel", name := "ove\x72", desc := "()I" } : Jvm.MethodName) prog_20_method_106_code (1 : Nat) (Option.some Jvm.ClassFile.FieldType.int)) ∈ lw_all := lw_g (lw_at lw_m9 105 rfl) rfl
theorem q2155 : (Jvm.Cond.instanceMethod ({ cls := "BoardCrossingModel", name := "left", desc := "()I" } : Jvm.MethodName)) ∈ lw_all := lw_g (lw_at lw_m9 107 rfl) rfl
theorem q2156 : (Jvm.Cond.selects "BoardCrossingModel" ({ cls := "BoardCrossingModel", name := "left", desc := "()I" } : Jvm.MethodName) ({ cls := "BoardCrossingModel", name := "left", desc := "()I" } : Jvm.MethodName)) ∈ lw_all := lw_g (lw_at lw_m9 108 rfl) rfl
theorem q2157 : (Jvm.Cond.code ({ cls := "BoardCrossingModel", name := "left", desc := "()I" } : Jvm.MethodName) prog_20_method_107_code (1 : Nat) (Option.some Jvm.ClassFile.FieldType.int)) ∈ lw_all := lw_g (lw_at lw_m9 109 rfl) rfl
theorem q2159 : (Jvm.Cond.instanceMethod ({ cls := "BoardCrossingModel", name := "pulled", desc := "()I" } : Jvm.MethodName)) ∈ lw_all := lw_g (lw_at lw_m9 111 rfl) rfl
theorem q2160 : (Jvm.Cond.selects "BoardCrossingModel" ({ cls := "BoardCrossingModel", name := "pulled", desc := "()I" } : Jvm.MethodName) ({ cls := "BoardCrossingModel", name := "pulled", desc := "()I" } : Jvm.MethodName)) ∈ lw_all := lw_g (lw_at lw_m9 112 rfl) rfl
theorem q2161 : (Jvm.Cond.code ({ cls := "BoardCrossingModel", name := "pulled", desc := "()I" } : Jvm.MethodName) prog_20_method_108_code (3 : Nat) (Option.some Jvm.ClassFile.FieldType.int)) ∈ lw_all := lw_g (lw_at lw_m9 113 rfl) rfl
theorem q2163 : (Jvm.Cond.instanceMethod ({ cls := "BoardCrossingModel", name := "hottest", desc := "()I" } : Jvm.MethodName)) ∈ lw_all := lw_g (lw_at lw_m9 115 rfl) rfl
theorem q2164 : (Jvm.Cond.selects "BoardCrossingModel" ({ cls := "BoardCrossingModel", name := "hottest", desc := "()I" } : Jvm.MethodName) ({ cls := "BoardCrossingModel", name := "hottest", desc := "()I" } : Jvm.MethodName)) ∈ lw_all := lw_g (lw_at lw_m9 116 rfl) rfl
theorem q2165 : (Jvm.Cond.code ({ cls := "BoardCrossingModel", name := "hottest", desc := "()I" } : Jvm.MethodName) prog_20_method_109_code (3 : Nat) (Option.some Jvm.ClassFile.FieldType.int)) ∈ lw_all := lw_g (lw_at lw_m9 117 rfl) rfl
theorem q2167 : (Jvm.Cond.instanceMethod ({ cls := "BoardCrossingModel", name := "law", desc := "(I)I" } : Jvm.MethodName)) ∈ lw_all := lw_g (lw_at lw_m9 119 rfl) rfl
theorem q2168 : (Jvm.Cond.selects "BoardCrossingModel" ({ cls := "BoardCrossingModel", name := "law", desc := "(I)I" } : Jvm.MethodName) ({ cls := "BoardCrossingModel", name := "law", desc := "(I)I" } : Jvm.MethodName)) ∈ lw_all := lw_g (lw_at lw_m9 120 rfl) rfl
theorem q2169 : (Jvm.Cond.code ({ cls := "BoardCrossingModel", name := "law", desc := "(I)I" } : Jvm.MethodName) prog_20_method_110_code (5 : Nat) (Option.some Jvm.ClassFile.FieldType.int)) ∈ lw_all := lw_g (lw_at lw_m9 121 rfl) rfl
theorem q2171 : (Jvm.Cond.instanceMethod ({ cls := "BoardCrossingModel", name := "lies", desc := "(I)I" } : Jvm.MethodName)) ∈ lw_all := lw_g (lw_at lw_m9 123 rfl) rfl
theorem q2172 : (Jvm.Cond.selects "BoardCrossingModel" ({ cls := "BoardCrossingModel", name := "lies", desc := "(I)I" } : Jvm.MethodName) ({ cls := "BoardCrossingModel", name := "lies", desc := "(I)I" } : Jvm.MethodName)) ∈ lw_all := lw_g (lw_at lw_m9 124 rfl) rfl
theorem q2173 : (Jvm.Cond.code ({ cls := "BoardCrossingModel", name := "lies", desc := "(I)I" } : Jvm.MethodName) prog_20_method_111_code (2 : Nat) (Option.some Jvm.ClassFile.FieldType.int)) ∈ lw_all := lw_g (lw_at lw_m9 125 rfl) rfl
theorem q2175 : (Jvm.Cond.instanceMethod ({ cls := "BoardCrossingModel", name := "passed", desc := "(IIZ)I" } : Jvm.MethodName)) ∈ lw_all := lw_g (lw_at lw_m9 127 rfl) rfl
theorem q2176 : (Jvm.Cond.selects "BoardCrossingModel" ({ cls := "BoardCrossingModel", name := "passed", desc := "(IIZ)I" } : Jvm.MethodName) ({ cls := "BoardCrossingModel", name := "passed", desc := "(IIZ)I" } : Jvm.MethodName)) ∈ lw_all := lw_g (lw_at lw_m9 128 rfl) rfl
theorem q2177 : (Jvm.Cond.code ({ cls := "BoardCrossingModel", name := "passed", desc := "(IIZ)I" } : Jvm.MethodName) prog_20_method_113_code (4 : Nat) (Option.some Jvm.ClassFile.FieldType.int)) ∈ lw_all := lw_g (lw_at lw_m9 129 rfl) rfl
theorem q2178 : (Jvm.Cond.methodLink "BoardCrossingModel" (548 : Nat) ({ cls := "BoardCrossingModel", name := "see", desc := "(IIIZ)I" } : Jvm.MethodName)) ∈ lw_all := lw_g (lw_at lw_m9 130 rfl) rfl
theorem q2179 : (Jvm.Cond.privateMethod ({ cls := "BoardCrossingModel", name := "see", desc := "(IIIZ)I" } : Jvm.MethodName)) ∈ lw_tbl := lw_at lw_m9 131 rfl
theorem q2180 : (Jvm.Cond.instanceMethod ({ cls := "BoardCrossingModel", name := "see", desc := "(IIIZ)I" } : Jvm.MethodName)) ∈ lw_all := lw_g (lw_at lw_m9 132 rfl) rfl
theorem q2181 : (Jvm.Cond.code ({ cls := "BoardCrossingModel", name := "see", desc := "(IIIZ)I" } : Jvm.MethodName) prog_20_method_112_code (5 : Nat) (Option.some Jvm.ClassFile.FieldType.int)) ∈ lw_all := lw_g (lw_at lw_m9 133 rfl) rfl
theorem q2183 : (Jvm.Cond.instanceMethod ({ cls := "BoardCrossingModel", name := "felt", desc := "(IIZ)I" } : Jvm.MethodName)) ∈ lw_all := lw_g (lw_at lw_m9 135 rfl) rfl
theorem q2184 : (Jvm.Cond.selects "BoardCrossingModel" ({ cls := "BoardCrossingModel", name := "felt", desc := "(IIZ)I" } : Jvm.MethodName) ({ cls := "BoardCrossingModel", name := "felt", desc := "(IIZ)I" } : Jvm.MethodName)) ∈ lw_all := lw_g (lw_at lw_m9 136 rfl) rfl
theorem q2185 : (Jvm.Cond.code ({ cls := "BoardCrossingModel", name := "felt", desc := "(IIZ)I" } : Jvm.MethodName) prog_20_method_114_code (4 : Nat) (Option.some Jvm.ClassFile.FieldType.int)) ∈ lw_all := lw_g (lw_at lw_m9 137 rfl) rfl
theorem q2187 : (Jvm.Cond.instanceMethod ({ cls := "BoardCrossingModel", name := "untell", desc := "(I)Z" } : Jvm.MethodName)) ∈ lw_all := lw_g (lw_at lw_m9 139 rfl) rfl
theorem q2188 : (Jvm.Cond.selects "BoardCrossingModel" ({ cls := "BoardCrossingModel", name := "untell", desc := "(I)Z" } : Jvm.MethodName) ({ cls := "BoardCrossingModel", name := "untell", desc := "(I)Z" } : Jvm.MethodName)) ∈ lw_all := lw_g (lw_at lw_m9 140 rfl) rfl
theorem q2189 : (Jvm.Cond.code ({ cls := "BoardCrossingModel", name := "untell", desc := "(I)Z" } : Jvm.MethodName) prog_20_method_115_code (2 : Nat) (Option.some Jvm.ClassFile.FieldType.boolean)) ∈ lw_all := lw_g (lw_at lw_m9 141 rfl) rfl
theorem q2191 : (Jvm.Cond.instanceMethod ({ cls := "BoardCrossingModel", name := "late\x72", desc := "(I)I" } : Jvm.MethodName)) ∈ lw_all := lw_g (lw_at lw_m9 143 rfl) rfl
theorem q2192 : (Jvm.Cond.selects "BoardCrossingModel" ({ cls := "BoardCrossingModel", name := "late\x72", desc := "(I)I" } : Jvm.MethodName) ({ cls := "BoardCrossingModel", name := "late\x72", desc := "(I)I" } : Jvm.MethodName)) ∈ lw_all := lw_g (lw_at lw_m9 144 rfl) rfl
theorem q2193 : (Jvm.Cond.code ({ cls := "BoardCrossingModel", name := "late\x72", desc := "(I)I" } : Jvm.MethodName) prog_20_method_116_code (2 : Nat) (Option.some Jvm.ClassFile.FieldType.int)) ∈ lw_all := lw_g (lw_at lw_m9 145 rfl) rfl
theorem q2194 : (Jvm.Cond.constant "BoardCrossingModel" (552 : Nat) (100000 : Int32)) ∈ lw_all := lw_g (lw_at lw_m9 146 rfl) rfl
theorem q2196 : (Jvm.Cond.instanceMethod ({ cls := "BoardCrossingModel", name := "fits", desc := "(I)I" } : Jvm.MethodName)) ∈ lw_all := lw_g (lw_at lw_m9 148 rfl) rfl
theorem q2197 : (Jvm.Cond.selects "BoardCrossingModel" ({ cls := "BoardCrossingModel", name := "fits", desc := "(I)I" } : Jvm.MethodName) ({ cls := "BoardCrossingModel", name := "fits", desc := "(I)I" } : Jvm.MethodName)) ∈ lw_all := lw_g (lw_at lw_m9 149 rfl) rfl
theorem q2198 : (Jvm.Cond.code ({ cls := "BoardCrossingModel", name := "fits", desc := "(I)I" } : Jvm.MethodName) prog_20_method_119_code (2 : Nat) (Option.some Jvm.ClassFile.FieldType.int)) ∈ lw_all := lw_g (lw_at lw_m9 150 rfl) rfl
theorem q2199 : (Jvm.Cond.methodLink "BoardCrossingModel" (556 : Nat) ({ cls := "BoardCrossingModel", name := "layFits", desc := "(I)I" } : Jvm.MethodName)) ∈ lw_all := lw_g (lw_at lw_m9 151 rfl) rfl
theorem q2200 : (Jvm.Cond.privateMethod ({ cls := "BoardCrossingModel", name := "layFits", desc := "(I)I" } : Jvm.MethodName)) ∈ lw_tbl := lw_at lw_m9 152 rfl
theorem q2201 : (Jvm.Cond.instanceMethod ({ cls := "BoardCrossingModel", name := "layFits", desc := "(I)I" } : Jvm.MethodName)) ∈ lw_all := lw_g (lw_at lw_m9 153 rfl) rfl
theorem q2202 : (Jvm.Cond.code ({ cls := "BoardCrossingModel", name := "layFits", desc := "(I)I" } : Jvm.MethodName) prog_20_method_118_code (7 : Nat) (Option.some Jvm.ClassFile.FieldType.int)) ∈ lw_all := lw_g (lw_at lw_m9 154 rfl) rfl
theorem q2203 : (Jvm.Cond.methodLink "BoardCrossingModel" (553 : Nat) ({ cls := "BoardCrossingModel", name := "isSo", desc := "(I)Z" } : Jvm.MethodName)) ∈ lw_all := lw_g (lw_at lw_m9 155 rfl) rfl
theorem q2204 : (Jvm.Cond.privateMethod ({ cls := "BoardCrossingModel", name := "isSo", desc := "(I)Z" } : Jvm.MethodName)) ∈ lw_tbl := lw_at lw_m9 156 rfl
theorem q2205 : (Jvm.Cond.instanceMethod ({ cls := "BoardCrossingModel", name := "isSo", desc := "(I)Z" } : Jvm.MethodName)) ∈ lw_all := lw_g (lw_at lw_m9 157 rfl) rfl
theorem q2206 : (Jvm.Cond.code ({ cls := "BoardCrossingModel", name := "isSo", desc := "(I)Z" } : Jvm.MethodName) prog_20_method_117_code (3 : Nat) (Option.some Jvm.ClassFile.FieldType.boolean)) ∈ lw_all := lw_g (lw_at lw_m9 158 rfl) rfl
theorem q2208 : (Jvm.Cond.instanceMethod ({ cls := "BoardCrossingModel", name := "sure", desc := "(II)I" } : Jvm.MethodName)) ∈ lw_all := lw_g (lw_at lw_m9 160 rfl) rfl
theorem q2209 : (Jvm.Cond.selects "BoardCrossingModel" ({ cls := "BoardCrossingModel", name := "sure", desc := "(II)I" } : Jvm.MethodName) ({ cls := "BoardCrossingModel", name := "sure", desc := "(II)I" } : Jvm.MethodName)) ∈ lw_all := lw_g (lw_at lw_m9 161 rfl) rfl
theorem q2210 : (Jvm.Cond.code ({ cls := "BoardCrossingModel", name := "sure", desc := "(II)I" } : Jvm.MethodName) prog_20_method_120_code (6 : Nat) (Option.some Jvm.ClassFile.FieldType.int)) ∈ lw_all := lw_g (lw_at lw_m9 162 rfl) rfl
theorem q2212 : (Jvm.Cond.instanceMethod ({ cls := "BoardCrossingModel", name := "ask", desc := "(II)I" } : Jvm.MethodName)) ∈ lw_all := lw_g (lw_at lw_m9 164 rfl) rfl
theorem q2213 : (Jvm.Cond.selects "BoardCrossingModel" ({ cls := "BoardCrossingModel", name := "ask", desc := "(II)I" } : Jvm.MethodName) ({ cls := "BoardCrossingModel", name := "ask", desc := "(II)I" } : Jvm.MethodName)) ∈ lw_all := lw_g (lw_at lw_m9 165 rfl) rfl
theorem q2214 : (Jvm.Cond.code ({ cls := "BoardCrossingModel", name := "ask", desc := "(II)I" } : Jvm.MethodName) prog_20_method_122_code (5 : Nat) (Option.some Jvm.ClassFile.FieldType.int)) ∈ lw_all := lw_g (lw_at lw_m9 166 rfl) rfl
theorem q2215 : (Jvm.Cond.methodLink "BoardCrossingModel" (559 : Nat) ({ cls := "BoardCrossingModel", name := "leftBy", desc := "(I)I" } : Jvm.MethodName)) ∈ lw_all := lw_g (lw_at lw_m9 167 rfl) rfl
theorem q2216 : (Jvm.Cond.privateMethod ({ cls := "BoardCrossingModel", name := "leftBy", desc := "(I)I" } : Jvm.MethodName)) ∈ lw_tbl := lw_at lw_m9 168 rfl
theorem q2217 : (Jvm.Cond.instanceMethod ({ cls := "BoardCrossingModel", name := "leftBy", desc := "(I)I" } : Jvm.MethodName)) ∈ lw_all := lw_g (lw_at lw_m9 169 rfl) rfl
theorem q2218 : (Jvm.Cond.code ({ cls := "BoardCrossingModel", name := "leftBy", desc := "(I)I" } : Jvm.MethodName) prog_20_method_121_code (4 : Nat) (Option.some Jvm.ClassFile.FieldType.int)) ∈ lw_all := lw_g (lw_at lw_m9 170 rfl) rfl
theorem q2220 : (Jvm.Cond.instanceMethod ({ cls := "BoardCrossingModel", name := "image", desc := "(I)I" } : Jvm.MethodName)) ∈ lw_all := lw_g (lw_at lw_m9 172 rfl) rfl
theorem q2221 : (Jvm.Cond.selects "BoardCrossingModel" ({ cls := "BoardCrossingModel", name := "image", desc := "(I)I" } : Jvm.MethodName) ({ cls := "BoardCrossingModel", name := "image", desc := "(I)I" } : Jvm.MethodName)) ∈ lw_all := lw_g (lw_at lw_m9 173 rfl) rfl
theorem q2222 : (Jvm.Cond.code ({ cls := "BoardCrossingModel", name := "image", desc := "(I)I" } : Jvm.MethodName) prog_20_method_124_code (3 : Nat) (Option.some Jvm.ClassFile.FieldType.int)) ∈ lw_all := lw_g (lw_at lw_m9 174 rfl) rfl
theorem q2223 : (Jvm.Cond.methodLink "BoardCrossingModel" (562 : Nat) ({ cls := "BoardCrossingModel", name := "isBox", desc := "(I)Z" } : Jvm.MethodName)) ∈ lw_all := lw_g (lw_at lw_m9 175 rfl) rfl
theorem q2224 : (Jvm.Cond.static ({ cls := "BoardCrossingModel", name := "isBox", desc := "(I)Z" } : Jvm.MethodName)) ∈ lw_all := lw_g (lw_at lw_m9 176 rfl) rfl
theorem q2225 : (Jvm.Cond.code ({ cls := "BoardCrossingModel", name := "isBox", desc := "(I)Z" } : Jvm.MethodName) prog_20_method_123_code (1 : Nat) (Option.some Jvm.ClassFile.FieldType.boolean)) ∈ lw_all := lw_g (lw_at lw_m9 177 rfl) rfl
theorem q2226 : (Jvm.Cond.methodLink "BoardCrossingModel" (565 : Nat) ({ cls := "BoardCrossingModel", name := "ove\x72", desc := "()I" } : Jvm.MethodName)) ∈ lw_all := lw_g (lw_at lw_m9 178 rfl) rfl
theorem q2228 : (Jvm.Cond.instanceMethod ({ cls := "BoardCrossingModel", name := "back", desc := "(I)I" } : Jvm.MethodName)) ∈ lw_all := lw_g (lw_at lw_m9 180 rfl) rfl
theorem q2229 : (Jvm.Cond.selects "BoardCrossingModel" ({ cls := "BoardCrossingModel", name := "back", desc := "(I)I" } : Jvm.MethodName) ({ cls := "BoardCrossingModel", name := "back", desc := "(I)I" } : Jvm.MethodName)) ∈ lw_all := lw_g (lw_at lw_m9 181 rfl) rfl
theorem q2230 : (Jvm.Cond.code ({ cls := "BoardCrossingModel", name := "back", desc := "(I)I" } : Jvm.MethodName) prog_20_method_125_code (3 : Nat) (Option.some Jvm.ClassFile.FieldType.int)) ∈ lw_all := lw_g (lw_at lw_m9 182 rfl) rfl
theorem q2232 : (Jvm.Cond.instanceMethod ({ cls := "BoardCrossingModel", name := "about", desc := "(I)I" } : Jvm.MethodName)) ∈ lw_all := lw_g (lw_at lw_m9 184 rfl) rfl
theorem q2233 : (Jvm.Cond.selects "BoardCrossingModel" ({ cls := "BoardCrossingModel", name := "about", desc := "(I)I" } : Jvm.MethodName) ({ cls := "BoardCrossingModel", name := "about", desc := "(I)I" } : Jvm.MethodName)) ∈ lw_all := lw_g (lw_at lw_m9 185 rfl) rfl
theorem q2234 : (Jvm.Cond.code ({ cls := "BoardCrossingModel", name := "about", desc := "(I)I" } : Jvm.MethodName) prog_20_method_126_code (2 : Nat) (Option.some Jvm.ClassFile.FieldType.int)) ∈ lw_all := lw_g (lw_at lw_m9 186 rfl) rfl
theorem q2248 : (Jvm.Cond.castable "BoardCrossingModel" "java/lang/Object") ∈ lw_tbl := lw_at lw_m9 200 rfl
theorem in_X8 : ∀ w ∈ wsX80, w ∈ lw_all := lw_in wsX80 [1560, 1562, 1564, 1566, 1568, 1570, 1572, 1574, 1576, 1578, 1580, 1582, 1584, 1586, 1588, 1590, 1592, 1594, 1596, 1598, 1600, 1602, 1604, 1606, 1608, 1610, 1612, 1614, 1616, 1618, 1620, 1622, 1624, 1626, 1628, 1630, 1632, 1634, 1636, 1638, 1640, 1642, 1644, 1646, 1648, 1650, 1652, 1654, 1656, 1658, 1660, 1662, 1664, 1666, 1668, 1670, 1672, 1674, 1676, 1678, 1680, 1682, 1684, 1686, 1688, 1690, 1692, 1694, 1696, 1698, 1700, 1702, 1704, 1706, 1708, 1710, 1712, 1714, 1716, 1718, 1720, 1722] (by decide +kernel) (by decide +kernel)
