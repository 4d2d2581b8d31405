/-! BoardCrossing$Reader -/
set_option maxRecDepth 100000
def RX9 : String := "BoardCrossing$Reade\x72"
def TX9 : u_T := fun k => match k with
  | 0 => ("BoardCrossing$Reade\x72", "text", "[B", true)
  | 1 => ("BoardCrossing$Reade\x72", "size", "I", true)
  | 2 => ("BoardCrossing$Reade\x72", "fault", "LBoardCrossing$Wrong;", true)
  | 3 => ("BoardCrossing$Reade\x72", "\x72", "LBoardCrossing$River;", true)
  | 4 => ("BoardCrossing$Reade\x72", "at", "I", false)
  | 5 => ("BoardCrossing$Reade\x72", "end", "I", false)
  | 6 => ("BoardCrossing$Reade\x72", "token", "I", false)
  | 7 => ("BoardCrossing$Reade\x72", "numbe\x72", "I", false)
  | 8 => ("BoardCrossing$Reade\x72", "name", "J", false)
  | 9 => ("BoardCrossing$Reade\x72", "deep", "I", false)
  | _ => ("BoardCrossing$Reade\x72", "mine", "I", false)
def tyX9 : Nat → FieldType := fun k => match k with
  | 0 => .array .byte
  | 1 => .int
  | 2 => .object "BoardCrossing$Wrong"
  | 3 => .object "BoardCrossing$Rive\x72"
  | 4 => .int
  | 5 => .int
  | 6 => .int
  | 7 => .int
  | 8 => .long
  | 9 => .int
  | _ => .int
abbrev wsX90 : List Cond := u_ws RX9 TX9 11
theorem nmX9 : ∀ a, a < 11 → ∀ b, b < 11 → a ≠ b → (TX9 a).2.1 ≠ (TX9 b).2.1 := by decide +kernel
theorem tyX9_ok : ∀ k, k < 11 → parseFieldDescriptor (TX9 k).2.2.1 = some (tyX9 k) := by decide +kernel
abbrev cX9_init : ByteArray := prog_11_method_1_code
def yX9_init : MethodName := ⟨RX9, "<init>", "([BILBoardCrossing$Wrong;)V"⟩
def dkwX9_init_1 : List UInt8 := [181, 0, 22, 42, 45, 181, 0, 26, 177]
abbrev dktX9_init_1 : List UInt8 := dkwX9_init_1 ++ []
def dkwX9_init_0 : List UInt8 := [42, 183, 0, 3, 42, 187, 0, 9, 89, 183, 0, 11, 181, 0, 12, 42, 43, 181, 0, 18, 42, 28]
abbrev dktX9_init_0 : List UInt8 := dkwX9_init_0 ++ dktX9_init_1
theorem dksX9_init_0 : cX9_init.data.toList.drop 0 = dktX9_init_0 := by decide +kernel
theorem dksX9_init_1 : cX9_init.data.toList.drop 22 = dktX9_init_1 := dk_seg dksX9_init_0 22 rfl rfl
theorem dX9_init_0 : decode cX9_init 0 = .ok (.aload_n 0, 1) := dk_42 (dk_at dksX9_init_0 0 rfl rfl)
theorem dX9_init_1 : decode cX9_init 1 = .ok (.invokespecial 3, 3) := dk_183 0 3 (dk_at dksX9_init_0 1 rfl rfl)
theorem dX9_init_4 : decode cX9_init 4 = .ok (.aload_n 0, 1) := dk_42 (dk_at dksX9_init_0 4 rfl rfl)
theorem dX9_init_5 : decode cX9_init 5 = .ok (.new 9, 3) := dk_187 0 9 (dk_at dksX9_init_0 5 rfl rfl)
theorem dX9_init_8 : decode cX9_init 8 = .ok (.dup, 1) := dk_89 (dk_at dksX9_init_0 8 rfl rfl)
theorem dX9_init_9 : decode cX9_init 9 = .ok (.invokespecial 11, 3) := dk_183 0 11 (dk_at dksX9_init_0 9 rfl rfl)
theorem dX9_init_12 : decode cX9_init 12 = .ok (.putfield 12, 3) := dk_181 0 12 (dk_at dksX9_init_0 12 rfl rfl)
theorem dX9_init_15 : decode cX9_init 15 = .ok (.aload_n 0, 1) := dk_42 (dk_at dksX9_init_0 15 rfl rfl)
theorem dX9_init_16 : decode cX9_init 16 = .ok (.aload_n 1, 1) := dk_43 (dk_at dksX9_init_0 16 rfl rfl)
theorem dX9_init_17 : decode cX9_init 17 = .ok (.putfield 18, 3) := dk_181 0 18 (dk_at dksX9_init_0 17 rfl rfl)
theorem dX9_init_20 : decode cX9_init 20 = .ok (.aload_n 0, 1) := dk_42 (dk_at dksX9_init_0 20 rfl rfl)
theorem dX9_init_21 : decode cX9_init 21 = .ok (.iload_n 2, 1) := dk_28 (dk_at dksX9_init_0 21 rfl rfl)
theorem dX9_init_22 : decode cX9_init 22 = .ok (.putfield 22, 3) := dk_181 0 22 (dk_at dksX9_init_1 0 rfl rfl)
theorem dX9_init_25 : decode cX9_init 25 = .ok (.aload_n 0, 1) := dk_42 (dk_at dksX9_init_1 3 rfl rfl)
theorem dX9_init_26 : decode cX9_init 26 = .ok (.aload_n 3, 1) := dk_45 (dk_at dksX9_init_1 4 rfl rfl)
theorem dX9_init_27 : decode cX9_init 27 = .ok (.putfield 26, 3) := dk_181 0 26 (dk_at dksX9_init_1 5 rfl rfl)
theorem dX9_init_30 : decode cX9_init 30 = .ok (.return_, 1) := dk_177 (dk_at dksX9_init_1 8 rfl rfl)
abbrev cX9_read : ByteArray := prog_11_method_33_code
def yX9_read : MethodName := ⟨RX9, "read", "()LBoardCrossing$River;"⟩
def dkwX9_read_1 : List UInt8 := [182, 0, 93, 167, 255, 235, 42, 180, 0, 12, 176]
abbrev dktX9_read_1 : List UInt8 := dkwX9_read_1 ++ []
def dkwX9_read_0 : List UInt8 := [42, 182, 0, 90, 42, 180, 0, 40, 153, 0, 20, 42, 182, 1, 50, 42, 42, 16, 59, 182, 0, 234]
abbrev dktX9_read_0 : List UInt8 := dkwX9_read_0 ++ dktX9_read_1
theorem dksX9_read_0 : cX9_read.data.toList.drop 0 = dktX9_read_0 := by decide +kernel
theorem dksX9_read_1 : cX9_read.data.toList.drop 22 = dktX9_read_1 := dk_seg dksX9_read_0 22 rfl rfl
theorem dX9_read_0 : decode cX9_read 0 = .ok (.aload_n 0, 1) := dk_42 (dk_at dksX9_read_0 0 rfl rfl)
theorem dX9_read_1 : decode cX9_read 1 = .ok (.invokevirtual 90, 3) := dk_182 0 90 (dk_at dksX9_read_0 1 rfl rfl)
theorem dX9_read_4 : decode cX9_read 4 = .ok (.aload_n 0, 1) := dk_42 (dk_at dksX9_read_0 4 rfl rfl)
theorem dX9_read_5 : decode cX9_read 5 = .ok (.getfield 40, 3) := dk_180 0 40 (dk_at dksX9_read_0 5 rfl rfl)
theorem dX9_read_8 : decode cX9_read 8 = .ok (.ifCond .eq 20, 3) := dk_153 0 20 (dk_at dksX9_read_0 8 rfl rfl)
theorem dX9_read_11 : decode cX9_read 11 = .ok (.aload_n 0, 1) := dk_42 (dk_at dksX9_read_0 11 rfl rfl)
theorem dX9_read_12 : decode cX9_read 12 = .ok (.invokevirtual 306, 3) := dk_182 1 50 (dk_at dksX9_read_0 12 rfl rfl)
theorem dX9_read_15 : decode cX9_read 15 = .ok (.aload_n 0, 1) := dk_42 (dk_at dksX9_read_0 15 rfl rfl)
theorem dX9_read_16 : decode cX9_read 16 = .ok (.aload_n 0, 1) := dk_42 (dk_at dksX9_read_0 16 rfl rfl)
theorem dX9_read_17 : decode cX9_read 17 = .ok (.bipush 59, 2) := dk_16 59 (dk_at dksX9_read_0 17 rfl rfl)
theorem dX9_read_19 : decode cX9_read 19 = .ok (.invokevirtual 234, 3) := dk_182 0 234 (dk_at dksX9_read_0 19 rfl rfl)
theorem dX9_read_22 : decode cX9_read 22 = .ok (.invokevirtual 93, 3) := dk_182 0 93 (dk_at dksX9_read_1 0 rfl rfl)
theorem dX9_read_25 : decode cX9_read 25 = .ok (.goto (-21), 3) := dk_167 255 235 (dk_at dksX9_read_1 3 rfl rfl)
theorem dX9_read_28 : decode cX9_read 28 = .ok (.aload_n 0, 1) := dk_42 (dk_at dksX9_read_1 6 rfl rfl)
theorem dX9_read_29 : decode cX9_read 29 = .ok (.getfield 12, 3) := dk_180 0 12 (dk_at dksX9_read_1 7 rfl rfl)
theorem dX9_read_32 : decode cX9_read 32 = .ok (.areturn, 1) := dk_176 (dk_at dksX9_read_1 10 rfl rfl)
abbrev cX9_next : ByteArray := prog_11_method_6_code
def yX9_next : MethodName := ⟨RX9, "next", "()V"⟩
def dkwX9_next_6 : List UInt8 := [167, 0, 19, 42, 27, 184, 0, 56, 153, 0, 7, 6, 167, 0, 4, 7, 181, 0, 40, 177]
abbrev dktX9_next_6 : List UInt8 := dkwX9_next_6 ++ []
def dkwX9_next_5 : List UInt8 := [184, 0, 43, 153, 0, 10, 42, 182, 0, 47, 167, 0, 33, 27, 184, 0, 50, 153, 0, 10, 42, 182, 0, 53]
abbrev dktX9_next_5 : List UInt8 := dkwX9_next_5 ++ dktX9_next_6
def dkwX9_next_4 : List UInt8 := [181, 0, 30, 42, 180, 0, 33, 42, 180, 0, 22, 161, 0, 11, 42, 3, 181, 0, 40, 167, 0, 47, 27]
abbrev dktX9_next_4 : List UInt8 := dkwX9_next_4 ++ dktX9_next_5
def dkwX9_next_3 : List UInt8 := [180, 0, 33, 42, 180, 0, 22, 162, 0, 12, 42, 180, 0, 33, 4, 96, 167, 0, 7, 42, 180, 0, 33]
abbrev dktX9_next_3 : List UInt8 := dkwX9_next_3 ++ dktX9_next_4
def dkwX9_next_2 : List UInt8 := [180, 0, 33, 4, 96, 181, 0, 33, 167, 255, 209, 42, 42, 180, 0, 33, 182, 0, 36, 60, 42, 42]
abbrev dktX9_next_2 : List UInt8 := dkwX9_next_2 ++ dktX9_next_3
def dkwX9_next_1 : List UInt8 := [182, 0, 36, 16, 32, 159, 0, 16, 42, 42, 180, 0, 33, 182, 0, 36, 16, 10, 160, 0, 16, 42, 89]
abbrev dktX9_next_1 : List UInt8 := dkwX9_next_1 ++ dktX9_next_2
def dkwX9_next_0 : List UInt8 := [42, 42, 180, 0, 30, 181, 0, 33, 42, 180, 0, 33, 42, 180, 0, 22, 162, 0, 42, 42, 42, 180, 0, 33]
abbrev dktX9_next_0 : List UInt8 := dkwX9_next_0 ++ dktX9_next_1
theorem dksX9_next_0 : cX9_next.data.toList.drop 0 = dktX9_next_0 := by decide +kernel
theorem dksX9_next_1 : cX9_next.data.toList.drop 24 = dktX9_next_1 := dk_seg dksX9_next_0 24 rfl rfl
theorem dksX9_next_2 : cX9_next.data.toList.drop 47 = dktX9_next_2 := dk_seg dksX9_next_1 23 rfl rfl
theorem dksX9_next_3 : cX9_next.data.toList.drop 69 = dktX9_next_3 := dk_seg dksX9_next_2 22 rfl rfl
theorem dksX9_next_4 : cX9_next.data.toList.drop 92 = dktX9_next_4 := dk_seg dksX9_next_3 23 rfl rfl
theorem dksX9_next_5 : cX9_next.data.toList.drop 115 = dktX9_next_5 := dk_seg dksX9_next_4 23 rfl rfl
theorem dksX9_next_6 : cX9_next.data.toList.drop 139 = dktX9_next_6 := dk_seg dksX9_next_5 24 rfl rfl
theorem dX9_next_0 : decode cX9_next 0 = .ok (.aload_n 0, 1) := dk_42 (dk_at dksX9_next_0 0 rfl rfl)
theorem dX9_next_1 : decode cX9_next 1 = .ok (.aload_n 0, 1) := dk_42 (dk_at dksX9_next_0 1 rfl rfl)
theorem dX9_next_2 : decode cX9_next 2 = .ok (.getfield 30, 3) := dk_180 0 30 (dk_at dksX9_next_0 2 rfl rfl)
theorem dX9_next_5 : decode cX9_next 5 = .ok (.putfield 33, 3) := dk_181 0 33 (dk_at dksX9_next_0 5 rfl rfl)
theorem dX9_next_8 : decode cX9_next 8 = .ok (.aload_n 0, 1) := dk_42 (dk_at dksX9_next_0 8 rfl rfl)
theorem dX9_next_9 : decode cX9_next 9 = .ok (.getfield 33, 3) := dk_180 0 33 (dk_at dksX9_next_0 9 rfl rfl)
theorem dX9_next_12 : decode cX9_next 12 = .ok (.aload_n 0, 1) := dk_42 (dk_at dksX9_next_0 12 rfl rfl)
theorem dX9_next_13 : decode cX9_next 13 = .ok (.getfield 22, 3) := dk_180 0 22 (dk_at dksX9_next_0 13 rfl rfl)
theorem dX9_next_16 : decode cX9_next 16 = .ok (.if_icmp .ge 42, 3) := dk_162 0 42 (dk_at dksX9_next_0 16 rfl rfl)
theorem dX9_next_19 : decode cX9_next 19 = .ok (.aload_n 0, 1) := dk_42 (dk_at dksX9_next_0 19 rfl rfl)
theorem dX9_next_20 : decode cX9_next 20 = .ok (.aload_n 0, 1) := dk_42 (dk_at dksX9_next_0 20 rfl rfl)
theorem dX9_next_21 : decode cX9_next 21 = .ok (.getfield 33, 3) := dk_180 0 33 (dk_at dksX9_next_0 21 rfl rfl)
theorem dX9_next_24 : decode cX9_next 24 = .ok (.invokevirtual 36, 3) := dk_182 0 36 (dk_at dksX9_next_1 0 rfl rfl)
theorem dX9_next_27 : decode cX9_next 27 = .ok (.bipush 32, 2) := dk_16 32 (dk_at dksX9_next_1 3 rfl rfl)
theorem dX9_next_29 : decode cX9_next 29 = .ok (.if_icmp .eq 16, 3) := dk_159 0 16 (dk_at dksX9_next_1 5 rfl rfl)
theorem dX9_next_32 : decode cX9_next 32 = .ok (.aload_n 0, 1) := dk_42 (dk_at dksX9_next_1 8 rfl rfl)
theorem dX9_next_33 : decode cX9_next 33 = .ok (.aload_n 0, 1) := dk_42 (dk_at dksX9_next_1 9 rfl rfl)
theorem dX9_next_34 : decode cX9_next 34 = .ok (.getfield 33, 3) := dk_180 0 33 (dk_at dksX9_next_1 10 rfl rfl)
theorem dX9_next_37 : decode cX9_next 37 = .ok (.invokevirtual 36, 3) := dk_182 0 36 (dk_at dksX9_next_1 13 rfl rfl)
theorem dX9_next_40 : decode cX9_next 40 = .ok (.bipush 10, 2) := dk_16 10 (dk_at dksX9_next_1 16 rfl rfl)
theorem dX9_next_42 : decode cX9_next 42 = .ok (.if_icmp .ne 16, 3) := dk_160 0 16 (dk_at dksX9_next_1 18 rfl rfl)
theorem dX9_next_45 : decode cX9_next 45 = .ok (.aload_n 0, 1) := dk_42 (dk_at dksX9_next_1 21 rfl rfl)
theorem dX9_next_46 : decode cX9_next 46 = .ok (.dup, 1) := dk_89 (dk_at dksX9_next_1 22 rfl rfl)
theorem dX9_next_47 : decode cX9_next 47 = .ok (.getfield 33, 3) := dk_180 0 33 (dk_at dksX9_next_2 0 rfl rfl)
theorem dX9_next_50 : decode cX9_next 50 = .ok (.iconst 1, 1) := dk_4 (dk_at dksX9_next_2 3 rfl rfl)
theorem dX9_next_51 : decode cX9_next 51 = .ok (.iadd, 1) := dk_96 (dk_at dksX9_next_2 4 rfl rfl)
theorem dX9_next_52 : decode cX9_next 52 = .ok (.putfield 33, 3) := dk_181 0 33 (dk_at dksX9_next_2 5 rfl rfl)
theorem dX9_next_55 : decode cX9_next 55 = .ok (.goto (-47), 3) := dk_167 255 209 (dk_at dksX9_next_2 8 rfl rfl)
theorem dX9_next_58 : decode cX9_next 58 = .ok (.aload_n 0, 1) := dk_42 (dk_at dksX9_next_2 11 rfl rfl)
theorem dX9_next_59 : decode cX9_next 59 = .ok (.aload_n 0, 1) := dk_42 (dk_at dksX9_next_2 12 rfl rfl)
theorem dX9_next_60 : decode cX9_next 60 = .ok (.getfield 33, 3) := dk_180 0 33 (dk_at dksX9_next_2 13 rfl rfl)
theorem dX9_next_63 : decode cX9_next 63 = .ok (.invokevirtual 36, 3) := dk_182 0 36 (dk_at dksX9_next_2 16 rfl rfl)
theorem dX9_next_66 : decode cX9_next 66 = .ok (.istore_n 1, 1) := dk_60 (dk_at dksX9_next_2 19 rfl rfl)
theorem dX9_next_67 : decode cX9_next 67 = .ok (.aload_n 0, 1) := dk_42 (dk_at dksX9_next_2 20 rfl rfl)
theorem dX9_next_68 : decode cX9_next 68 = .ok (.aload_n 0, 1) := dk_42 (dk_at dksX9_next_2 21 rfl rfl)
theorem dX9_next_69 : decode cX9_next 69 = .ok (.getfield 33, 3) := dk_180 0 33 (dk_at dksX9_next_3 0 rfl rfl)
theorem dX9_next_72 : decode cX9_next 72 = .ok (.aload_n 0, 1) := dk_42 (dk_at dksX9_next_3 3 rfl rfl)
theorem dX9_next_73 : decode cX9_next 73 = .ok (.getfield 22, 3) := dk_180 0 22 (dk_at dksX9_next_3 4 rfl rfl)
theorem dX9_next_76 : decode cX9_next 76 = .ok (.if_icmp .ge 12, 3) := dk_162 0 12 (dk_at dksX9_next_3 7 rfl rfl)
theorem dX9_next_79 : decode cX9_next 79 = .ok (.aload_n 0, 1) := dk_42 (dk_at dksX9_next_3 10 rfl rfl)
theorem dX9_next_80 : decode cX9_next 80 = .ok (.getfield 33, 3) := dk_180 0 33 (dk_at dksX9_next_3 11 rfl rfl)
theorem dX9_next_83 : decode cX9_next 83 = .ok (.iconst 1, 1) := dk_4 (dk_at dksX9_next_3 14 rfl rfl)
theorem dX9_next_84 : decode cX9_next 84 = .ok (.iadd, 1) := dk_96 (dk_at dksX9_next_3 15 rfl rfl)
theorem dX9_next_85 : decode cX9_next 85 = .ok (.goto 7, 3) := dk_167 0 7 (dk_at dksX9_next_3 16 rfl rfl)
theorem dX9_next_88 : decode cX9_next 88 = .ok (.aload_n 0, 1) := dk_42 (dk_at dksX9_next_3 19 rfl rfl)
theorem dX9_next_89 : decode cX9_next 89 = .ok (.getfield 33, 3) := dk_180 0 33 (dk_at dksX9_next_3 20 rfl rfl)
theorem dX9_next_92 : decode cX9_next 92 = .ok (.putfield 30, 3) := dk_181 0 30 (dk_at dksX9_next_4 0 rfl rfl)
theorem dX9_next_95 : decode cX9_next 95 = .ok (.aload_n 0, 1) := dk_42 (dk_at dksX9_next_4 3 rfl rfl)
theorem dX9_next_96 : decode cX9_next 96 = .ok (.getfield 33, 3) := dk_180 0 33 (dk_at dksX9_next_4 4 rfl rfl)
theorem dX9_next_99 : decode cX9_next 99 = .ok (.aload_n 0, 1) := dk_42 (dk_at dksX9_next_4 7 rfl rfl)
theorem dX9_next_100 : decode cX9_next 100 = .ok (.getfield 22, 3) := dk_180 0 22 (dk_at dksX9_next_4 8 rfl rfl)
theorem dX9_next_103 : decode cX9_next 103 = .ok (.if_icmp .lt 11, 3) := dk_161 0 11 (dk_at dksX9_next_4 11 rfl rfl)
theorem dX9_next_106 : decode cX9_next 106 = .ok (.aload_n 0, 1) := dk_42 (dk_at dksX9_next_4 14 rfl rfl)
theorem dX9_next_107 : decode cX9_next 107 = .ok (.iconst 0, 1) := dk_3 (dk_at dksX9_next_4 15 rfl rfl)
theorem dX9_next_108 : decode cX9_next 108 = .ok (.putfield 40, 3) := dk_181 0 40 (dk_at dksX9_next_4 16 rfl rfl)
theorem dX9_next_111 : decode cX9_next 111 = .ok (.goto 47, 3) := dk_167 0 47 (dk_at dksX9_next_4 19 rfl rfl)
theorem dX9_next_114 : decode cX9_next 114 = .ok (.iload_n 1, 1) := dk_27 (dk_at dksX9_next_4 22 rfl rfl)
theorem dX9_next_115 : decode cX9_next 115 = .ok (.invokestatic 43, 3) := dk_184 0 43 (dk_at dksX9_next_5 0 rfl rfl)
theorem dX9_next_118 : decode cX9_next 118 = .ok (.ifCond .eq 10, 3) := dk_153 0 10 (dk_at dksX9_next_5 3 rfl rfl)
theorem dX9_next_121 : decode cX9_next 121 = .ok (.aload_n 0, 1) := dk_42 (dk_at dksX9_next_5 6 rfl rfl)
theorem dX9_next_122 : decode cX9_next 122 = .ok (.invokevirtual 47, 3) := dk_182 0 47 (dk_at dksX9_next_5 7 rfl rfl)
theorem dX9_next_125 : decode cX9_next 125 = .ok (.goto 33, 3) := dk_167 0 33 (dk_at dksX9_next_5 10 rfl rfl)
theorem dX9_next_128 : decode cX9_next 128 = .ok (.iload_n 1, 1) := dk_27 (dk_at dksX9_next_5 13 rfl rfl)
theorem dX9_next_129 : decode cX9_next 129 = .ok (.invokestatic 50, 3) := dk_184 0 50 (dk_at dksX9_next_5 14 rfl rfl)
theorem dX9_next_132 : decode cX9_next 132 = .ok (.ifCond .eq 10, 3) := dk_153 0 10 (dk_at dksX9_next_5 17 rfl rfl)
theorem dX9_next_135 : decode cX9_next 135 = .ok (.aload_n 0, 1) := dk_42 (dk_at dksX9_next_5 20 rfl rfl)
theorem dX9_next_136 : decode cX9_next 136 = .ok (.invokevirtual 53, 3) := dk_182 0 53 (dk_at dksX9_next_5 21 rfl rfl)
theorem dX9_next_139 : decode cX9_next 139 = .ok (.goto 19, 3) := dk_167 0 19 (dk_at dksX9_next_6 0 rfl rfl)
theorem dX9_next_142 : decode cX9_next 142 = .ok (.aload_n 0, 1) := dk_42 (dk_at dksX9_next_6 3 rfl rfl)
theorem dX9_next_143 : decode cX9_next 143 = .ok (.iload_n 1, 1) := dk_27 (dk_at dksX9_next_6 4 rfl rfl)
theorem dX9_next_144 : decode cX9_next 144 = .ok (.invokestatic 56, 3) := dk_184 0 56 (dk_at dksX9_next_6 5 rfl rfl)
theorem dX9_next_147 : decode cX9_next 147 = .ok (.ifCond .eq 7, 3) := dk_153 0 7 (dk_at dksX9_next_6 8 rfl rfl)
theorem dX9_next_150 : decode cX9_next 150 = .ok (.iconst 3, 1) := dk_6 (dk_at dksX9_next_6 11 rfl rfl)
theorem dX9_next_151 : decode cX9_next 151 = .ok (.goto 4, 3) := dk_167 0 4 (dk_at dksX9_next_6 12 rfl rfl)
theorem dX9_next_154 : decode cX9_next 154 = .ok (.iconst 4, 1) := dk_7 (dk_at dksX9_next_6 15 rfl rfl)
theorem dX9_next_155 : decode cX9_next 155 = .ok (.putfield 40, 3) := dk_181 0 40 (dk_at dksX9_next_6 16 rfl rfl)
theorem dX9_next_158 : decode cX9_next 158 = .ok (.return_, 1) := dk_177 (dk_at dksX9_next_6 19 rfl rfl)
abbrev cX9_sign : ByteArray := prog_11_method_2_code
def yX9_sign : MethodName := ⟨RX9, "sign", "(I)I"⟩
def dkwX9_sign_0 : List UInt8 := [27, 42, 180, 0, 22, 162, 0, 16, 42, 180, 0, 18, 27, 51, 17, 0, 255, 126, 167, 0, 4, 3, 172]
abbrev dktX9_sign_0 : List UInt8 := dkwX9_sign_0 ++ []
theorem dksX9_sign_0 : cX9_sign.data.toList.drop 0 = dktX9_sign_0 := by decide +kernel
theorem dX9_sign_0 : decode cX9_sign 0 = .ok (.iload_n 1, 1) := dk_27 (dk_at dksX9_sign_0 0 rfl rfl)
theorem dX9_sign_1 : decode cX9_sign 1 = .ok (.aload_n 0, 1) := dk_42 (dk_at dksX9_sign_0 1 rfl rfl)
theorem dX9_sign_2 : decode cX9_sign 2 = .ok (.getfield 22, 3) := dk_180 0 22 (dk_at dksX9_sign_0 2 rfl rfl)
theorem dX9_sign_5 : decode cX9_sign 5 = .ok (.if_icmp .ge 16, 3) := dk_162 0 16 (dk_at dksX9_sign_0 5 rfl rfl)
theorem dX9_sign_8 : decode cX9_sign 8 = .ok (.aload_n 0, 1) := dk_42 (dk_at dksX9_sign_0 8 rfl rfl)
theorem dX9_sign_9 : decode cX9_sign 9 = .ok (.getfield 18, 3) := dk_180 0 18 (dk_at dksX9_sign_0 9 rfl rfl)
theorem dX9_sign_12 : decode cX9_sign 12 = .ok (.iload_n 1, 1) := dk_27 (dk_at dksX9_sign_0 12 rfl rfl)
theorem dX9_sign_13 : decode cX9_sign 13 = .ok (.baload, 1) := dk_51 (dk_at dksX9_sign_0 13 rfl rfl)
theorem dX9_sign_14 : decode cX9_sign 14 = .ok (.sipush 255, 3) := dk_17 0 255 (dk_at dksX9_sign_0 14 rfl rfl)
theorem dX9_sign_17 : decode cX9_sign 17 = .ok (.iand, 1) := dk_126 (dk_at dksX9_sign_0 17 rfl rfl)
theorem dX9_sign_18 : decode cX9_sign 18 = .ok (.goto 4, 3) := dk_167 0 4 (dk_at dksX9_sign_0 18 rfl rfl)
theorem dX9_sign_21 : decode cX9_sign 21 = .ok (.iconst 0, 1) := dk_3 (dk_at dksX9_sign_0 21 rfl rfl)
theorem dX9_sign_22 : decode cX9_sign 22 = .ok (.ireturn, 1) := dk_172 (dk_at dksX9_sign_0 22 rfl rfl)
abbrev cX9_isLetter : ByteArray := prog_11_method_3_code
def yX9_isLetter : MethodName := ⟨RX9, "isLette\x72", "(I)Z"⟩
def dkwX9_isLetter_0 : List UInt8 := [26, 16, 97, 161, 0, 13, 26, 16, 122, 163, 0, 7, 4, 167, 0, 4, 3, 172]
abbrev dktX9_isLetter_0 : List UInt8 := dkwX9_isLetter_0 ++ []
theorem dksX9_isLetter_0 : cX9_isLetter.data.toList.drop 0 = dktX9_isLetter_0 := by decide +kernel
theorem dX9_isLetter_0 : decode cX9_isLetter 0 = .ok (.iload_n 0, 1) := dk_26 (dk_at dksX9_isLetter_0 0 rfl rfl)
theorem dX9_isLetter_1 : decode cX9_isLetter 1 = .ok (.bipush 97, 2) := dk_16 97 (dk_at dksX9_isLetter_0 1 rfl rfl)
theorem dX9_isLetter_3 : decode cX9_isLetter 3 = .ok (.if_icmp .lt 13, 3) := dk_161 0 13 (dk_at dksX9_isLetter_0 3 rfl rfl)
theorem dX9_isLetter_6 : decode cX9_isLetter 6 = .ok (.iload_n 0, 1) := dk_26 (dk_at dksX9_isLetter_0 6 rfl rfl)
theorem dX9_isLetter_7 : decode cX9_isLetter 7 = .ok (.bipush 122, 2) := dk_16 122 (dk_at dksX9_isLetter_0 7 rfl rfl)
theorem dX9_isLetter_9 : decode cX9_isLetter 9 = .ok (.if_icmp .gt 7, 3) := dk_163 0 7 (dk_at dksX9_isLetter_0 9 rfl rfl)
theorem dX9_isLetter_12 : decode cX9_isLetter 12 = .ok (.iconst 1, 1) := dk_4 (dk_at dksX9_isLetter_0 12 rfl rfl)
theorem dX9_isLetter_13 : decode cX9_isLetter 13 = .ok (.goto 4, 3) := dk_167 0 4 (dk_at dksX9_isLetter_0 13 rfl rfl)
theorem dX9_isLetter_16 : decode cX9_isLetter 16 = .ok (.iconst 0, 1) := dk_3 (dk_at dksX9_isLetter_0 16 rfl rfl)
theorem dX9_isLetter_17 : decode cX9_isLetter 17 = .ok (.ireturn, 1) := dk_172 (dk_at dksX9_isLetter_0 17 rfl rfl)
abbrev cX9_readWord : ByteArray := prog_11_method_7_code
def yX9_readWord : MethodName := ⟨RX9, "readWord", "()V"⟩
def dkwX9_readWord_4 : List UInt8 := [100, 16, 8, 164, 0, 8, 42, 7, 181, 0, 40, 177]
abbrev dktX9_readWord_4 : List UInt8 := dkwX9_readWord_4 ++ []
def dkwX9_readWord_3 : List UInt8 := [181, 0, 59, 42, 89, 180, 0, 30, 4, 96, 181, 0, 30, 167, 255, 190, 42, 180, 0, 30, 42, 180, 0, 33]
abbrev dktX9_readWord_3 : List UInt8 := dkwX9_readWord_3 ++ dktX9_readWord_4
def dkwX9_readWord_2 : List UInt8 := [42, 180, 0, 59, 16, 8, 121, 42, 42, 180, 0, 30, 182, 0, 36, 133, 129, 167, 0, 7, 42, 180, 0, 59]
abbrev dktX9_readWord_2 : List UInt8 := dkwX9_readWord_2 ++ dktX9_readWord_3
def dkwX9_readWord_1 : List UInt8 := [182, 0, 36, 184, 0, 43, 153, 0, 58, 42, 42, 180, 0, 30, 42, 180, 0, 33, 100, 16, 8, 162, 0, 23]
abbrev dktX9_readWord_1 : List UInt8 := dkwX9_readWord_1 ++ dktX9_readWord_2
def dkwX9_readWord_0 : List UInt8 := [42, 4, 181, 0, 40, 42, 9, 181, 0, 59, 42, 42, 180, 0, 33, 181, 0, 30, 42, 42, 180, 0, 30]
abbrev dktX9_readWord_0 : List UInt8 := dkwX9_readWord_0 ++ dktX9_readWord_1
theorem dksX9_readWord_0 : cX9_readWord.data.toList.drop 0 = dktX9_readWord_0 := by decide +kernel
theorem dksX9_readWord_1 : cX9_readWord.data.toList.drop 23 = dktX9_readWord_1 := dk_seg dksX9_readWord_0 23 rfl rfl
theorem dksX9_readWord_2 : cX9_readWord.data.toList.drop 47 = dktX9_readWord_2 := dk_seg dksX9_readWord_1 24 rfl rfl
theorem dksX9_readWord_3 : cX9_readWord.data.toList.drop 71 = dktX9_readWord_3 := dk_seg dksX9_readWord_2 24 rfl rfl
theorem dksX9_readWord_4 : cX9_readWord.data.toList.drop 95 = dktX9_readWord_4 := dk_seg dksX9_readWord_3 24 rfl rfl
theorem dX9_readWord_0 : decode cX9_readWord 0 = .ok (.aload_n 0, 1) := dk_42 (dk_at dksX9_readWord_0 0 rfl rfl)
theorem dX9_readWord_1 : decode cX9_readWord 1 = .ok (.iconst 1, 1) := dk_4 (dk_at dksX9_readWord_0 1 rfl rfl)
theorem dX9_readWord_2 : decode cX9_readWord 2 = .ok (.putfield 40, 3) := dk_181 0 40 (dk_at dksX9_readWord_0 2 rfl rfl)
theorem dX9_readWord_5 : decode cX9_readWord 5 = .ok (.aload_n 0, 1) := dk_42 (dk_at dksX9_readWord_0 5 rfl rfl)
theorem dX9_readWord_6 : decode cX9_readWord 6 = .ok (.lconst 0, 1) := dk_9 (dk_at dksX9_readWord_0 6 rfl rfl)
theorem dX9_readWord_7 : decode cX9_readWord 7 = .ok (.putfield 59, 3) := dk_181 0 59 (dk_at dksX9_readWord_0 7 rfl rfl)
theorem dX9_readWord_10 : decode cX9_readWord 10 = .ok (.aload_n 0, 1) := dk_42 (dk_at dksX9_readWord_0 10 rfl rfl)
theorem dX9_readWord_11 : decode cX9_readWord 11 = .ok (.aload_n 0, 1) := dk_42 (dk_at dksX9_readWord_0 11 rfl rfl)
theorem dX9_readWord_12 : decode cX9_readWord 12 = .ok (.getfield 33, 3) := dk_180 0 33 (dk_at dksX9_readWord_0 12 rfl rfl)
theorem dX9_readWord_15 : decode cX9_readWord 15 = .ok (.putfield 30, 3) := dk_181 0 30 (dk_at dksX9_readWord_0 15 rfl rfl)
theorem dX9_readWord_18 : decode cX9_readWord 18 = .ok (.aload_n 0, 1) := dk_42 (dk_at dksX9_readWord_0 18 rfl rfl)
theorem dX9_readWord_19 : decode cX9_readWord 19 = .ok (.aload_n 0, 1) := dk_42 (dk_at dksX9_readWord_0 19 rfl rfl)
theorem dX9_readWord_20 : decode cX9_readWord 20 = .ok (.getfield 30, 3) := dk_180 0 30 (dk_at dksX9_readWord_0 20 rfl rfl)
theorem dX9_readWord_23 : decode cX9_readWord 23 = .ok (.invokevirtual 36, 3) := dk_182 0 36 (dk_at dksX9_readWord_1 0 rfl rfl)
theorem dX9_readWord_26 : decode cX9_readWord 26 = .ok (.invokestatic 43, 3) := dk_184 0 43 (dk_at dksX9_readWord_1 3 rfl rfl)
theorem dX9_readWord_29 : decode cX9_readWord 29 = .ok (.ifCond .eq 58, 3) := dk_153 0 58 (dk_at dksX9_readWord_1 6 rfl rfl)
theorem dX9_readWord_32 : decode cX9_readWord 32 = .ok (.aload_n 0, 1) := dk_42 (dk_at dksX9_readWord_1 9 rfl rfl)
theorem dX9_readWord_33 : decode cX9_readWord 33 = .ok (.aload_n 0, 1) := dk_42 (dk_at dksX9_readWord_1 10 rfl rfl)
theorem dX9_readWord_34 : decode cX9_readWord 34 = .ok (.getfield 30, 3) := dk_180 0 30 (dk_at dksX9_readWord_1 11 rfl rfl)
theorem dX9_readWord_37 : decode cX9_readWord 37 = .ok (.aload_n 0, 1) := dk_42 (dk_at dksX9_readWord_1 14 rfl rfl)
theorem dX9_readWord_38 : decode cX9_readWord 38 = .ok (.getfield 33, 3) := dk_180 0 33 (dk_at dksX9_readWord_1 15 rfl rfl)
theorem dX9_readWord_41 : decode cX9_readWord 41 = .ok (.isub, 1) := dk_100 (dk_at dksX9_readWord_1 18 rfl rfl)
theorem dX9_readWord_42 : decode cX9_readWord 42 = .ok (.bipush 8, 2) := dk_16 8 (dk_at dksX9_readWord_1 19 rfl rfl)
theorem dX9_readWord_44 : decode cX9_readWord 44 = .ok (.if_icmp .ge 23, 3) := dk_162 0 23 (dk_at dksX9_readWord_1 21 rfl rfl)
theorem dX9_readWord_47 : decode cX9_readWord 47 = .ok (.aload_n 0, 1) := dk_42 (dk_at dksX9_readWord_2 0 rfl rfl)
theorem dX9_readWord_48 : decode cX9_readWord 48 = .ok (.getfield 59, 3) := dk_180 0 59 (dk_at dksX9_readWord_2 1 rfl rfl)
theorem dX9_readWord_51 : decode cX9_readWord 51 = .ok (.bipush 8, 2) := dk_16 8 (dk_at dksX9_readWord_2 4 rfl rfl)
theorem dX9_readWord_53 : decode cX9_readWord 53 = .ok (.lshl, 1) := dk_121 (dk_at dksX9_readWord_2 6 rfl rfl)
theorem dX9_readWord_54 : decode cX9_readWord 54 = .ok (.aload_n 0, 1) := dk_42 (dk_at dksX9_readWord_2 7 rfl rfl)
theorem dX9_readWord_55 : decode cX9_readWord 55 = .ok (.aload_n 0, 1) := dk_42 (dk_at dksX9_readWord_2 8 rfl rfl)
theorem dX9_readWord_56 : decode cX9_readWord 56 = .ok (.getfield 30, 3) := dk_180 0 30 (dk_at dksX9_readWord_2 9 rfl rfl)
theorem dX9_readWord_59 : decode cX9_readWord 59 = .ok (.invokevirtual 36, 3) := dk_182 0 36 (dk_at dksX9_readWord_2 12 rfl rfl)
theorem dX9_readWord_62 : decode cX9_readWord 62 = .ok (.i2l, 1) := dk_133 (dk_at dksX9_readWord_2 15 rfl rfl)
theorem dX9_readWord_63 : decode cX9_readWord 63 = .ok (.lor, 1) := dk_129 (dk_at dksX9_readWord_2 16 rfl rfl)
theorem dX9_readWord_64 : decode cX9_readWord 64 = .ok (.goto 7, 3) := dk_167 0 7 (dk_at dksX9_readWord_2 17 rfl rfl)
theorem dX9_readWord_67 : decode cX9_readWord 67 = .ok (.aload_n 0, 1) := dk_42 (dk_at dksX9_readWord_2 20 rfl rfl)
theorem dX9_readWord_68 : decode cX9_readWord 68 = .ok (.getfield 59, 3) := dk_180 0 59 (dk_at dksX9_readWord_2 21 rfl rfl)
theorem dX9_readWord_71 : decode cX9_readWord 71 = .ok (.putfield 59, 3) := dk_181 0 59 (dk_at dksX9_readWord_3 0 rfl rfl)
theorem dX9_readWord_74 : decode cX9_readWord 74 = .ok (.aload_n 0, 1) := dk_42 (dk_at dksX9_readWord_3 3 rfl rfl)
theorem dX9_readWord_75 : decode cX9_readWord 75 = .ok (.dup, 1) := dk_89 (dk_at dksX9_readWord_3 4 rfl rfl)
theorem dX9_readWord_76 : decode cX9_readWord 76 = .ok (.getfield 30, 3) := dk_180 0 30 (dk_at dksX9_readWord_3 5 rfl rfl)
theorem dX9_readWord_79 : decode cX9_readWord 79 = .ok (.iconst 1, 1) := dk_4 (dk_at dksX9_readWord_3 8 rfl rfl)
theorem dX9_readWord_80 : decode cX9_readWord 80 = .ok (.iadd, 1) := dk_96 (dk_at dksX9_readWord_3 9 rfl rfl)
theorem dX9_readWord_81 : decode cX9_readWord 81 = .ok (.putfield 30, 3) := dk_181 0 30 (dk_at dksX9_readWord_3 10 rfl rfl)
theorem dX9_readWord_84 : decode cX9_readWord 84 = .ok (.goto (-66), 3) := dk_167 255 190 (dk_at dksX9_readWord_3 13 rfl rfl)
theorem dX9_readWord_87 : decode cX9_readWord 87 = .ok (.aload_n 0, 1) := dk_42 (dk_at dksX9_readWord_3 16 rfl rfl)
theorem dX9_readWord_88 : decode cX9_readWord 88 = .ok (.getfield 30, 3) := dk_180 0 30 (dk_at dksX9_readWord_3 17 rfl rfl)
theorem dX9_readWord_91 : decode cX9_readWord 91 = .ok (.aload_n 0, 1) := dk_42 (dk_at dksX9_readWord_3 20 rfl rfl)
theorem dX9_readWord_92 : decode cX9_readWord 92 = .ok (.getfield 33, 3) := dk_180 0 33 (dk_at dksX9_readWord_3 21 rfl rfl)
theorem dX9_readWord_95 : decode cX9_readWord 95 = .ok (.isub, 1) := dk_100 (dk_at dksX9_readWord_4 0 rfl rfl)
theorem dX9_readWord_96 : decode cX9_readWord 96 = .ok (.bipush 8, 2) := dk_16 8 (dk_at dksX9_readWord_4 1 rfl rfl)
theorem dX9_readWord_98 : decode cX9_readWord 98 = .ok (.if_icmp .le 8, 3) := dk_164 0 8 (dk_at dksX9_readWord_4 3 rfl rfl)
theorem dX9_readWord_101 : decode cX9_readWord 101 = .ok (.aload_n 0, 1) := dk_42 (dk_at dksX9_readWord_4 6 rfl rfl)
theorem dX9_readWord_102 : decode cX9_readWord 102 = .ok (.iconst 4, 1) := dk_7 (dk_at dksX9_readWord_4 7 rfl rfl)
theorem dX9_readWord_103 : decode cX9_readWord 103 = .ok (.putfield 40, 3) := dk_181 0 40 (dk_at dksX9_readWord_4 8 rfl rfl)
theorem dX9_readWord_106 : decode cX9_readWord 106 = .ok (.return_, 1) := dk_177 (dk_at dksX9_readWord_4 11 rfl rfl)
abbrev cX9_isDigit : ByteArray := prog_11_method_4_code
def yX9_isDigit : MethodName := ⟨RX9, "isDigit", "(I)Z"⟩
def dkwX9_isDigit_0 : List UInt8 := [26, 16, 48, 161, 0, 13, 26, 16, 57, 163, 0, 7, 4, 167, 0, 4, 3, 172]
abbrev dktX9_isDigit_0 : List UInt8 := dkwX9_isDigit_0 ++ []
theorem dksX9_isDigit_0 : cX9_isDigit.data.toList.drop 0 = dktX9_isDigit_0 := by decide +kernel
theorem dX9_isDigit_0 : decode cX9_isDigit 0 = .ok (.iload_n 0, 1) := dk_26 (dk_at dksX9_isDigit_0 0 rfl rfl)
theorem dX9_isDigit_1 : decode cX9_isDigit 1 = .ok (.bipush 48, 2) := dk_16 48 (dk_at dksX9_isDigit_0 1 rfl rfl)
theorem dX9_isDigit_3 : decode cX9_isDigit 3 = .ok (.if_icmp .lt 13, 3) := dk_161 0 13 (dk_at dksX9_isDigit_0 3 rfl rfl)
theorem dX9_isDigit_6 : decode cX9_isDigit 6 = .ok (.iload_n 0, 1) := dk_26 (dk_at dksX9_isDigit_0 6 rfl rfl)
theorem dX9_isDigit_7 : decode cX9_isDigit 7 = .ok (.bipush 57, 2) := dk_16 57 (dk_at dksX9_isDigit_0 7 rfl rfl)
theorem dX9_isDigit_9 : decode cX9_isDigit 9 = .ok (.if_icmp .gt 7, 3) := dk_163 0 7 (dk_at dksX9_isDigit_0 9 rfl rfl)
theorem dX9_isDigit_12 : decode cX9_isDigit 12 = .ok (.iconst 1, 1) := dk_4 (dk_at dksX9_isDigit_0 12 rfl rfl)
theorem dX9_isDigit_13 : decode cX9_isDigit 13 = .ok (.goto 4, 3) := dk_167 0 4 (dk_at dksX9_isDigit_0 13 rfl rfl)
theorem dX9_isDigit_16 : decode cX9_isDigit 16 = .ok (.iconst 0, 1) := dk_3 (dk_at dksX9_isDigit_0 16 rfl rfl)
theorem dX9_isDigit_17 : decode cX9_isDigit 17 = .ok (.ireturn, 1) := dk_172 (dk_at dksX9_isDigit_0 17 rfl rfl)
abbrev cX9_readNumber : ByteArray := prog_11_method_8_code
def yX9_readNumber : MethodName := ⟨RX9, "readNumbe\x72", "()V"⟩
def dkwX9_readNumber_5 : List UInt8 := [181, 0, 40, 177]
abbrev dktX9_readNumber_5 : List UInt8 := dkwX9_readNumber_5 ++ []
def dkwX9_readNumber_4 : List UInt8 := [180, 0, 33, 100, 7, 163, 0, 17, 42, 42, 180, 0, 30, 182, 0, 36, 184, 0, 43, 153, 0, 8, 42, 7]
abbrev dktX9_readNumber_4 : List UInt8 := dkwX9_readNumber_4 ++ dktX9_readNumber_5
def dkwX9_readNumber_3 : List UInt8 := [180, 0, 63, 181, 0, 63, 42, 89, 180, 0, 30, 4, 96, 181, 0, 30, 167, 255, 189, 42, 180, 0, 30, 42]
abbrev dktX9_readNumber_3 : List UInt8 := dkwX9_readNumber_3 ++ dktX9_readNumber_4
def dkwX9_readNumber_2 : List UInt8 := [16, 10, 42, 180, 0, 63, 104, 42, 42, 180, 0, 30, 182, 0, 36, 96, 16, 48, 100, 167, 0, 7, 42]
abbrev dktX9_readNumber_2 : List UInt8 := dkwX9_readNumber_2 ++ dktX9_readNumber_3
def dkwX9_readNumber_1 : List UInt8 := [182, 0, 36, 184, 0, 50, 153, 0, 59, 42, 42, 180, 0, 30, 42, 180, 0, 33, 100, 7, 162, 0, 25]
abbrev dktX9_readNumber_1 : List UInt8 := dkwX9_readNumber_1 ++ dktX9_readNumber_2
def dkwX9_readNumber_0 : List UInt8 := [42, 5, 181, 0, 40, 42, 3, 181, 0, 63, 42, 42, 180, 0, 33, 181, 0, 30, 42, 42, 180, 0, 30]
abbrev dktX9_readNumber_0 : List UInt8 := dkwX9_readNumber_0 ++ dktX9_readNumber_1
theorem dksX9_readNumber_0 : cX9_readNumber.data.toList.drop 0 = dktX9_readNumber_0 := by decide +kernel
theorem dksX9_readNumber_1 : cX9_readNumber.data.toList.drop 23 = dktX9_readNumber_1 := dk_seg dksX9_readNumber_0 23 rfl rfl
theorem dksX9_readNumber_2 : cX9_readNumber.data.toList.drop 46 = dktX9_readNumber_2 := dk_seg dksX9_readNumber_1 23 rfl rfl
theorem dksX9_readNumber_3 : cX9_readNumber.data.toList.drop 69 = dktX9_readNumber_3 := dk_seg dksX9_readNumber_2 23 rfl rfl
theorem dksX9_readNumber_4 : cX9_readNumber.data.toList.drop 93 = dktX9_readNumber_4 := dk_seg dksX9_readNumber_3 24 rfl rfl
theorem dksX9_readNumber_5 : cX9_readNumber.data.toList.drop 117 = dktX9_readNumber_5 := dk_seg dksX9_readNumber_4 24 rfl rfl
theorem dX9_readNumber_0 : decode cX9_readNumber 0 = .ok (.aload_n 0, 1) := dk_42 (dk_at dksX9_readNumber_0 0 rfl rfl)
theorem dX9_readNumber_1 : decode cX9_readNumber 1 = .ok (.iconst 2, 1) := dk_5 (dk_at dksX9_readNumber_0 1 rfl rfl)
theorem dX9_readNumber_2 : decode cX9_readNumber 2 = .ok (.putfield 40, 3) := dk_181 0 40 (dk_at dksX9_readNumber_0 2 rfl rfl)
theorem dX9_readNumber_5 : decode cX9_readNumber 5 = .ok (.aload_n 0, 1) := dk_42 (dk_at dksX9_readNumber_0 5 rfl rfl)
theorem dX9_readNumber_6 : decode cX9_readNumber 6 = .ok (.iconst 0, 1) := dk_3 (dk_at dksX9_readNumber_0 6 rfl rfl)
theorem dX9_readNumber_7 : decode cX9_readNumber 7 = .ok (.putfield 63, 3) := dk_181 0 63 (dk_at dksX9_readNumber_0 7 rfl rfl)
theorem dX9_readNumber_10 : decode cX9_readNumber 10 = .ok (.aload_n 0, 1) := dk_42 (dk_at dksX9_readNumber_0 10 rfl rfl)
theorem dX9_readNumber_11 : decode cX9_readNumber 11 = .ok (.aload_n 0, 1) := dk_42 (dk_at dksX9_readNumber_0 11 rfl rfl)
theorem dX9_readNumber_12 : decode cX9_readNumber 12 = .ok (.getfield 33, 3) := dk_180 0 33 (dk_at dksX9_readNumber_0 12 rfl rfl)
theorem dX9_readNumber_15 : decode cX9_readNumber 15 = .ok (.putfield 30, 3) := dk_181 0 30 (dk_at dksX9_readNumber_0 15 rfl rfl)
theorem dX9_readNumber_18 : decode cX9_readNumber 18 = .ok (.aload_n 0, 1) := dk_42 (dk_at dksX9_readNumber_0 18 rfl rfl)
theorem dX9_readNumber_19 : decode cX9_readNumber 19 = .ok (.aload_n 0, 1) := dk_42 (dk_at dksX9_readNumber_0 19 rfl rfl)
theorem dX9_readNumber_20 : decode cX9_readNumber 20 = .ok (.getfield 30, 3) := dk_180 0 30 (dk_at dksX9_readNumber_0 20 rfl rfl)
theorem dX9_readNumber_23 : decode cX9_readNumber 23 = .ok (.invokevirtual 36, 3) := dk_182 0 36 (dk_at dksX9_readNumber_1 0 rfl rfl)
theorem dX9_readNumber_26 : decode cX9_readNumber 26 = .ok (.invokestatic 50, 3) := dk_184 0 50 (dk_at dksX9_readNumber_1 3 rfl rfl)
theorem dX9_readNumber_29 : decode cX9_readNumber 29 = .ok (.ifCond .eq 59, 3) := dk_153 0 59 (dk_at dksX9_readNumber_1 6 rfl rfl)
theorem dX9_readNumber_32 : decode cX9_readNumber 32 = .ok (.aload_n 0, 1) := dk_42 (dk_at dksX9_readNumber_1 9 rfl rfl)
theorem dX9_readNumber_33 : decode cX9_readNumber 33 = .ok (.aload_n 0, 1) := dk_42 (dk_at dksX9_readNumber_1 10 rfl rfl)
theorem dX9_readNumber_34 : decode cX9_readNumber 34 = .ok (.getfield 30, 3) := dk_180 0 30 (dk_at dksX9_readNumber_1 11 rfl rfl)
theorem dX9_readNumber_37 : decode cX9_readNumber 37 = .ok (.aload_n 0, 1) := dk_42 (dk_at dksX9_readNumber_1 14 rfl rfl)
theorem dX9_readNumber_38 : decode cX9_readNumber 38 = .ok (.getfield 33, 3) := dk_180 0 33 (dk_at dksX9_readNumber_1 15 rfl rfl)
theorem dX9_readNumber_41 : decode cX9_readNumber 41 = .ok (.isub, 1) := dk_100 (dk_at dksX9_readNumber_1 18 rfl rfl)
theorem dX9_readNumber_42 : decode cX9_readNumber 42 = .ok (.iconst 4, 1) := dk_7 (dk_at dksX9_readNumber_1 19 rfl rfl)
theorem dX9_readNumber_43 : decode cX9_readNumber 43 = .ok (.if_icmp .ge 25, 3) := dk_162 0 25 (dk_at dksX9_readNumber_1 20 rfl rfl)
theorem dX9_readNumber_46 : decode cX9_readNumber 46 = .ok (.bipush 10, 2) := dk_16 10 (dk_at dksX9_readNumber_2 0 rfl rfl)
theorem dX9_readNumber_48 : decode cX9_readNumber 48 = .ok (.aload_n 0, 1) := dk_42 (dk_at dksX9_readNumber_2 2 rfl rfl)
theorem dX9_readNumber_49 : decode cX9_readNumber 49 = .ok (.getfield 63, 3) := dk_180 0 63 (dk_at dksX9_readNumber_2 3 rfl rfl)
theorem dX9_readNumber_52 : decode cX9_readNumber 52 = .ok (.imul, 1) := dk_104 (dk_at dksX9_readNumber_2 6 rfl rfl)
theorem dX9_readNumber_53 : decode cX9_readNumber 53 = .ok (.aload_n 0, 1) := dk_42 (dk_at dksX9_readNumber_2 7 rfl rfl)
theorem dX9_readNumber_54 : decode cX9_readNumber 54 = .ok (.aload_n 0, 1) := dk_42 (dk_at dksX9_readNumber_2 8 rfl rfl)
theorem dX9_readNumber_55 : decode cX9_readNumber 55 = .ok (.getfield 30, 3) := dk_180 0 30 (dk_at dksX9_readNumber_2 9 rfl rfl)
theorem dX9_readNumber_58 : decode cX9_readNumber 58 = .ok (.invokevirtual 36, 3) := dk_182 0 36 (dk_at dksX9_readNumber_2 12 rfl rfl)
theorem dX9_readNumber_61 : decode cX9_readNumber 61 = .ok (.iadd, 1) := dk_96 (dk_at dksX9_readNumber_2 15 rfl rfl)
theorem dX9_readNumber_62 : decode cX9_readNumber 62 = .ok (.bipush 48, 2) := dk_16 48 (dk_at dksX9_readNumber_2 16 rfl rfl)
theorem dX9_readNumber_64 : decode cX9_readNumber 64 = .ok (.isub, 1) := dk_100 (dk_at dksX9_readNumber_2 18 rfl rfl)
theorem dX9_readNumber_65 : decode cX9_readNumber 65 = .ok (.goto 7, 3) := dk_167 0 7 (dk_at dksX9_readNumber_2 19 rfl rfl)
theorem dX9_readNumber_68 : decode cX9_readNumber 68 = .ok (.aload_n 0, 1) := dk_42 (dk_at dksX9_readNumber_2 22 rfl rfl)
theorem dX9_readNumber_69 : decode cX9_readNumber 69 = .ok (.getfield 63, 3) := dk_180 0 63 (dk_at dksX9_readNumber_3 0 rfl rfl)
theorem dX9_readNumber_72 : decode cX9_readNumber 72 = .ok (.putfield 63, 3) := dk_181 0 63 (dk_at dksX9_readNumber_3 3 rfl rfl)
theorem dX9_readNumber_75 : decode cX9_readNumber 75 = .ok (.aload_n 0, 1) := dk_42 (dk_at dksX9_readNumber_3 6 rfl rfl)
theorem dX9_readNumber_76 : decode cX9_readNumber 76 = .ok (.dup, 1) := dk_89 (dk_at dksX9_readNumber_3 7 rfl rfl)
theorem dX9_readNumber_77 : decode cX9_readNumber 77 = .ok (.getfield 30, 3) := dk_180 0 30 (dk_at dksX9_readNumber_3 8 rfl rfl)
theorem dX9_readNumber_80 : decode cX9_readNumber 80 = .ok (.iconst 1, 1) := dk_4 (dk_at dksX9_readNumber_3 11 rfl rfl)
theorem dX9_readNumber_81 : decode cX9_readNumber 81 = .ok (.iadd, 1) := dk_96 (dk_at dksX9_readNumber_3 12 rfl rfl)
theorem dX9_readNumber_82 : decode cX9_readNumber 82 = .ok (.putfield 30, 3) := dk_181 0 30 (dk_at dksX9_readNumber_3 13 rfl rfl)
theorem dX9_readNumber_85 : decode cX9_readNumber 85 = .ok (.goto (-67), 3) := dk_167 255 189 (dk_at dksX9_readNumber_3 16 rfl rfl)
theorem dX9_readNumber_88 : decode cX9_readNumber 88 = .ok (.aload_n 0, 1) := dk_42 (dk_at dksX9_readNumber_3 19 rfl rfl)
theorem dX9_readNumber_89 : decode cX9_readNumber 89 = .ok (.getfield 30, 3) := dk_180 0 30 (dk_at dksX9_readNumber_3 20 rfl rfl)
theorem dX9_readNumber_92 : decode cX9_readNumber 92 = .ok (.aload_n 0, 1) := dk_42 (dk_at dksX9_readNumber_3 23 rfl rfl)
theorem dX9_readNumber_93 : decode cX9_readNumber 93 = .ok (.getfield 33, 3) := dk_180 0 33 (dk_at dksX9_readNumber_4 0 rfl rfl)
theorem dX9_readNumber_96 : decode cX9_readNumber 96 = .ok (.isub, 1) := dk_100 (dk_at dksX9_readNumber_4 3 rfl rfl)
theorem dX9_readNumber_97 : decode cX9_readNumber 97 = .ok (.iconst 4, 1) := dk_7 (dk_at dksX9_readNumber_4 4 rfl rfl)
theorem dX9_readNumber_98 : decode cX9_readNumber 98 = .ok (.if_icmp .gt 17, 3) := dk_163 0 17 (dk_at dksX9_readNumber_4 5 rfl rfl)
theorem dX9_readNumber_101 : decode cX9_readNumber 101 = .ok (.aload_n 0, 1) := dk_42 (dk_at dksX9_readNumber_4 8 rfl rfl)
theorem dX9_readNumber_102 : decode cX9_readNumber 102 = .ok (.aload_n 0, 1) := dk_42 (dk_at dksX9_readNumber_4 9 rfl rfl)
theorem dX9_readNumber_103 : decode cX9_readNumber 103 = .ok (.getfield 30, 3) := dk_180 0 30 (dk_at dksX9_readNumber_4 10 rfl rfl)
theorem dX9_readNumber_106 : decode cX9_readNumber 106 = .ok (.invokevirtual 36, 3) := dk_182 0 36 (dk_at dksX9_readNumber_4 13 rfl rfl)
theorem dX9_readNumber_109 : decode cX9_readNumber 109 = .ok (.invokestatic 43, 3) := dk_184 0 43 (dk_at dksX9_readNumber_4 16 rfl rfl)
theorem dX9_readNumber_112 : decode cX9_readNumber 112 = .ok (.ifCond .eq 8, 3) := dk_153 0 8 (dk_at dksX9_readNumber_4 19 rfl rfl)
theorem dX9_readNumber_115 : decode cX9_readNumber 115 = .ok (.aload_n 0, 1) := dk_42 (dk_at dksX9_readNumber_4 22 rfl rfl)
theorem dX9_readNumber_116 : decode cX9_readNumber 116 = .ok (.iconst 4, 1) := dk_7 (dk_at dksX9_readNumber_4 23 rfl rfl)
theorem dX9_readNumber_117 : decode cX9_readNumber 117 = .ok (.putfield 40, 3) := dk_181 0 40 (dk_at dksX9_readNumber_5 0 rfl rfl)
theorem dX9_readNumber_120 : decode cX9_readNumber 120 = .ok (.return_, 1) := dk_177 (dk_at dksX9_readNumber_5 3 rfl rfl)
abbrev cX9_isSign : ByteArray := prog_11_method_5_code
def yX9_isSign : MethodName := ⟨RX9, "isSign", "(I)Z"⟩
def dkwX9_isSign_2 : List UInt8 := [26, 16, 42, 159, 0, 15, 26, 16, 47, 159, 0, 9, 26, 16, 37, 160, 0, 7, 4, 167, 0, 4, 3, 172]
abbrev dktX9_isSign_2 : List UInt8 := dkwX9_isSign_2 ++ []
def dkwX9_isSign_1 : List UInt8 := [26, 16, 62, 159, 0, 39, 26, 16, 61, 159, 0, 33, 26, 16, 43, 159, 0, 27, 26, 16, 45, 159, 0, 21]
abbrev dktX9_isSign_1 : List UInt8 := dkwX9_isSign_1 ++ dktX9_isSign_2
def dkwX9_isSign_0 : List UInt8 := [26, 16, 59, 159, 0, 63, 26, 16, 40, 159, 0, 57, 26, 16, 41, 159, 0, 51, 26, 16, 60, 159, 0, 45]
abbrev dktX9_isSign_0 : List UInt8 := dkwX9_isSign_0 ++ dktX9_isSign_1
theorem dksX9_isSign_0 : cX9_isSign.data.toList.drop 0 = dktX9_isSign_0 := by decide +kernel
theorem dksX9_isSign_1 : cX9_isSign.data.toList.drop 24 = dktX9_isSign_1 := dk_seg dksX9_isSign_0 24 rfl rfl
theorem dksX9_isSign_2 : cX9_isSign.data.toList.drop 48 = dktX9_isSign_2 := dk_seg dksX9_isSign_1 24 rfl rfl
theorem dX9_isSign_0 : decode cX9_isSign 0 = .ok (.iload_n 0, 1) := dk_26 (dk_at dksX9_isSign_0 0 rfl rfl)
theorem dX9_isSign_1 : decode cX9_isSign 1 = .ok (.bipush 59, 2) := dk_16 59 (dk_at dksX9_isSign_0 1 rfl rfl)
theorem dX9_isSign_3 : decode cX9_isSign 3 = .ok (.if_icmp .eq 63, 3) := dk_159 0 63 (dk_at dksX9_isSign_0 3 rfl rfl)
theorem dX9_isSign_6 : decode cX9_isSign 6 = .ok (.iload_n 0, 1) := dk_26 (dk_at dksX9_isSign_0 6 rfl rfl)
theorem dX9_isSign_7 : decode cX9_isSign 7 = .ok (.bipush 40, 2) := dk_16 40 (dk_at dksX9_isSign_0 7 rfl rfl)
theorem dX9_isSign_9 : decode cX9_isSign 9 = .ok (.if_icmp .eq 57, 3) := dk_159 0 57 (dk_at dksX9_isSign_0 9 rfl rfl)
theorem dX9_isSign_12 : decode cX9_isSign 12 = .ok (.iload_n 0, 1) := dk_26 (dk_at dksX9_isSign_0 12 rfl rfl)
theorem dX9_isSign_13 : decode cX9_isSign 13 = .ok (.bipush 41, 2) := dk_16 41 (dk_at dksX9_isSign_0 13 rfl rfl)
theorem dX9_isSign_15 : decode cX9_isSign 15 = .ok (.if_icmp .eq 51, 3) := dk_159 0 51 (dk_at dksX9_isSign_0 15 rfl rfl)
theorem dX9_isSign_18 : decode cX9_isSign 18 = .ok (.iload_n 0, 1) := dk_26 (dk_at dksX9_isSign_0 18 rfl rfl)
theorem dX9_isSign_19 : decode cX9_isSign 19 = .ok (.bipush 60, 2) := dk_16 60 (dk_at dksX9_isSign_0 19 rfl rfl)
theorem dX9_isSign_21 : decode cX9_isSign 21 = .ok (.if_icmp .eq 45, 3) := dk_159 0 45 (dk_at dksX9_isSign_0 21 rfl rfl)
theorem dX9_isSign_24 : decode cX9_isSign 24 = .ok (.iload_n 0, 1) := dk_26 (dk_at dksX9_isSign_1 0 rfl rfl)
theorem dX9_isSign_25 : decode cX9_isSign 25 = .ok (.bipush 62, 2) := dk_16 62 (dk_at dksX9_isSign_1 1 rfl rfl)
theorem dX9_isSign_27 : decode cX9_isSign 27 = .ok (.if_icmp .eq 39, 3) := dk_159 0 39 (dk_at dksX9_isSign_1 3 rfl rfl)
theorem dX9_isSign_30 : decode cX9_isSign 30 = .ok (.iload_n 0, 1) := dk_26 (dk_at dksX9_isSign_1 6 rfl rfl)
theorem dX9_isSign_31 : decode cX9_isSign 31 = .ok (.bipush 61, 2) := dk_16 61 (dk_at dksX9_isSign_1 7 rfl rfl)
theorem dX9_isSign_33 : decode cX9_isSign 33 = .ok (.if_icmp .eq 33, 3) := dk_159 0 33 (dk_at dksX9_isSign_1 9 rfl rfl)
theorem dX9_isSign_36 : decode cX9_isSign 36 = .ok (.iload_n 0, 1) := dk_26 (dk_at dksX9_isSign_1 12 rfl rfl)
theorem dX9_isSign_37 : decode cX9_isSign 37 = .ok (.bipush 43, 2) := dk_16 43 (dk_at dksX9_isSign_1 13 rfl rfl)
theorem dX9_isSign_39 : decode cX9_isSign 39 = .ok (.if_icmp .eq 27, 3) := dk_159 0 27 (dk_at dksX9_isSign_1 15 rfl rfl)
theorem dX9_isSign_42 : decode cX9_isSign 42 = .ok (.iload_n 0, 1) := dk_26 (dk_at dksX9_isSign_1 18 rfl rfl)
theorem dX9_isSign_43 : decode cX9_isSign 43 = .ok (.bipush 45, 2) := dk_16 45 (dk_at dksX9_isSign_1 19 rfl rfl)
theorem dX9_isSign_45 : decode cX9_isSign 45 = .ok (.if_icmp .eq 21, 3) := dk_159 0 21 (dk_at dksX9_isSign_1 21 rfl rfl)
theorem dX9_isSign_48 : decode cX9_isSign 48 = .ok (.iload_n 0, 1) := dk_26 (dk_at dksX9_isSign_2 0 rfl rfl)
theorem dX9_isSign_49 : decode cX9_isSign 49 = .ok (.bipush 42, 2) := dk_16 42 (dk_at dksX9_isSign_2 1 rfl rfl)
theorem dX9_isSign_51 : decode cX9_isSign 51 = .ok (.if_icmp .eq 15, 3) := dk_159 0 15 (dk_at dksX9_isSign_2 3 rfl rfl)
theorem dX9_isSign_54 : decode cX9_isSign 54 = .ok (.iload_n 0, 1) := dk_26 (dk_at dksX9_isSign_2 6 rfl rfl)
theorem dX9_isSign_55 : decode cX9_isSign 55 = .ok (.bipush 47, 2) := dk_16 47 (dk_at dksX9_isSign_2 7 rfl rfl)
theorem dX9_isSign_57 : decode cX9_isSign 57 = .ok (.if_icmp .eq 9, 3) := dk_159 0 9 (dk_at dksX9_isSign_2 9 rfl rfl)
theorem dX9_isSign_60 : decode cX9_isSign 60 = .ok (.iload_n 0, 1) := dk_26 (dk_at dksX9_isSign_2 12 rfl rfl)
theorem dX9_isSign_61 : decode cX9_isSign 61 = .ok (.bipush 37, 2) := dk_16 37 (dk_at dksX9_isSign_2 13 rfl rfl)
theorem dX9_isSign_63 : decode cX9_isSign 63 = .ok (.if_icmp .ne 7, 3) := dk_160 0 7 (dk_at dksX9_isSign_2 15 rfl rfl)
theorem dX9_isSign_66 : decode cX9_isSign 66 = .ok (.iconst 1, 1) := dk_4 (dk_at dksX9_isSign_2 18 rfl rfl)
theorem dX9_isSign_67 : decode cX9_isSign 67 = .ok (.goto 4, 3) := dk_167 0 4 (dk_at dksX9_isSign_2 19 rfl rfl)
theorem dX9_isSign_70 : decode cX9_isSign 70 = .ok (.iconst 0, 1) := dk_3 (dk_at dksX9_isSign_2 22 rfl rfl)
theorem dX9_isSign_71 : decode cX9_isSign 71 = .ok (.ireturn, 1) := dk_172 (dk_at dksX9_isSign_2 23 rfl rfl)
abbrev cX9_line : ByteArray := prog_11_method_32_code
def yX9_line : MethodName := ⟨RX9, "line", "()V"⟩
def dkwX9_line_9 : List UInt8 := [180, 0, 12, 42, 3, 17, 3, 231, 182, 0, 97, 181, 1, 48, 177]
abbrev dktX9_line_9 : List UInt8 := dkwX9_line_9 ++ []
def dkwX9_line_8 : List UInt8 := [182, 0, 97, 181, 1, 46, 167, 0, 30, 42, 182, 0, 90, 42, 180, 0, 12, 4, 181, 1, 28, 42]
abbrev dktX9_line_8 : List UInt8 := dkwX9_line_8 ++ dktX9_line_9
def dkwX9_line_7 : List UInt8 := [182, 0, 180, 153, 0, 28, 42, 180, 0, 12, 4, 181, 1, 22, 42, 180, 0, 12, 42, 3, 16, 100]
abbrev dktX9_line_7 : List UInt8 := dkwX9_line_7 ++ dktX9_line_8
def dkwX9_line_6 : List UInt8 := [182, 0, 180, 153, 0, 17, 42, 180, 0, 12, 42, 182, 1, 43, 181, 1, 17, 167, 0, 65, 42, 19, 1, 20]
abbrev dktX9_line_6 : List UInt8 := dkwX9_line_6 ++ dktX9_line_7
def dkwX9_line_5 : List UInt8 := [167, 0, 106, 42, 19, 1, 13, 182, 0, 180, 153, 0, 10, 42, 182, 1, 41, 167, 0, 89, 42, 19, 1, 15]
abbrev dktX9_line_5 : List UInt8 := dkwX9_line_5 ++ dktX9_line_6
def dkwX9_line_4 : List UInt8 := [153, 0, 10, 42, 182, 1, 37, 167, 0, 123, 42, 19, 1, 9, 182, 0, 180, 153, 0, 10, 42, 182, 1, 39]
abbrev dktX9_line_4 : List UInt8 := dkwX9_line_4 ++ dktX9_line_5
def dkwX9_line_3 : List UInt8 := [19, 1, 6, 182, 0, 180, 153, 0, 10, 42, 182, 1, 35, 167, 0, 140, 42, 19, 1, 7, 182, 0, 180]
abbrev dktX9_line_3 : List UInt8 := dkwX9_line_3 ++ dktX9_line_4
def dkwX9_line_2 : List UInt8 := [181, 0, 126, 42, 180, 0, 12, 42, 19, 1, 34, 4, 16, 6, 182, 0, 171, 181, 0, 137, 167, 0, 157, 42]
abbrev dktX9_line_2 : List UInt8 := dkwX9_line_2 ++ dktX9_line_3
def dkwX9_line_1 : List UInt8 := [181, 1, 3, 42, 19, 1, 1, 182, 0, 180, 153, 0, 37, 42, 180, 0, 12, 42, 4, 16, 8, 182, 0, 97]
abbrev dktX9_line_1 : List UInt8 := dkwX9_line_1 ++ dktX9_line_2
def dkwX9_line_0 : List UInt8 := [42, 182, 1, 31, 154, 0, 8, 42, 182, 0, 86, 191, 42, 180, 0, 12, 89, 180, 1, 3, 4, 96]
abbrev dktX9_line_0 : List UInt8 := dkwX9_line_0 ++ dktX9_line_1
theorem dksX9_line_0 : cX9_line.data.toList.drop 0 = dktX9_line_0 := by decide +kernel
theorem dksX9_line_1 : cX9_line.data.toList.drop 22 = dktX9_line_1 := dk_seg dksX9_line_0 22 rfl rfl
theorem dksX9_line_2 : cX9_line.data.toList.drop 46 = dktX9_line_2 := dk_seg dksX9_line_1 24 rfl rfl
theorem dksX9_line_3 : cX9_line.data.toList.drop 70 = dktX9_line_3 := dk_seg dksX9_line_2 24 rfl rfl
theorem dksX9_line_4 : cX9_line.data.toList.drop 93 = dktX9_line_4 := dk_seg dksX9_line_3 23 rfl rfl
theorem dksX9_line_5 : cX9_line.data.toList.drop 117 = dktX9_line_5 := dk_seg dksX9_line_4 24 rfl rfl
theorem dksX9_line_6 : cX9_line.data.toList.drop 141 = dktX9_line_6 := dk_seg dksX9_line_5 24 rfl rfl
theorem dksX9_line_7 : cX9_line.data.toList.drop 165 = dktX9_line_7 := dk_seg dksX9_line_6 24 rfl rfl
theorem dksX9_line_8 : cX9_line.data.toList.drop 187 = dktX9_line_8 := dk_seg dksX9_line_7 22 rfl rfl
theorem dksX9_line_9 : cX9_line.data.toList.drop 209 = dktX9_line_9 := dk_seg dksX9_line_8 22 rfl rfl
theorem dX9_line_0 : decode cX9_line 0 = .ok (.aload_n 0, 1) := dk_42 (dk_at dksX9_line_0 0 rfl rfl)
theorem dX9_line_1 : decode cX9_line 1 = .ok (.invokevirtual 287, 3) := dk_182 1 31 (dk_at dksX9_line_0 1 rfl rfl)
theorem dX9_line_4 : decode cX9_line 4 = .ok (.ifCond .ne 8, 3) := dk_154 0 8 (dk_at dksX9_line_0 4 rfl rfl)
theorem dX9_line_7 : decode cX9_line 7 = .ok (.aload_n 0, 1) := dk_42 (dk_at dksX9_line_0 7 rfl rfl)
theorem dX9_line_8 : decode cX9_line 8 = .ok (.invokevirtual 86, 3) := dk_182 0 86 (dk_at dksX9_line_0 8 rfl rfl)
theorem dX9_line_11 : decode cX9_line 11 = .ok (.athrow, 1) := dk_191 (dk_at dksX9_line_0 11 rfl rfl)
theorem dX9_line_12 : decode cX9_line 12 = .ok (.aload_n 0, 1) := dk_42 (dk_at dksX9_line_0 12 rfl rfl)
theorem dX9_line_13 : decode cX9_line 13 = .ok (.getfield 12, 3) := dk_180 0 12 (dk_at dksX9_line_0 13 rfl rfl)
theorem dX9_line_16 : decode cX9_line 16 = .ok (.dup, 1) := dk_89 (dk_at dksX9_line_0 16 rfl rfl)
theorem dX9_line_17 : decode cX9_line 17 = .ok (.getfield 259, 3) := dk_180 1 3 (dk_at dksX9_line_0 17 rfl rfl)
theorem dX9_line_20 : decode cX9_line 20 = .ok (.iconst 1, 1) := dk_4 (dk_at dksX9_line_0 20 rfl rfl)
theorem dX9_line_21 : decode cX9_line 21 = .ok (.iadd, 1) := dk_96 (dk_at dksX9_line_0 21 rfl rfl)
theorem dX9_line_22 : decode cX9_line 22 = .ok (.putfield 259, 3) := dk_181 1 3 (dk_at dksX9_line_1 0 rfl rfl)
theorem dX9_line_25 : decode cX9_line 25 = .ok (.aload_n 0, 1) := dk_42 (dk_at dksX9_line_1 3 rfl rfl)
theorem dX9_line_26 : decode cX9_line 26 = .ok (.ldc_w 257, 3) := dk_19 1 1 (dk_at dksX9_line_1 4 rfl rfl)
theorem dX9_line_29 : decode cX9_line 29 = .ok (.invokevirtual 180, 3) := dk_182 0 180 (dk_at dksX9_line_1 7 rfl rfl)
theorem dX9_line_32 : decode cX9_line 32 = .ok (.ifCond .eq 37, 3) := dk_153 0 37 (dk_at dksX9_line_1 10 rfl rfl)
theorem dX9_line_35 : decode cX9_line 35 = .ok (.aload_n 0, 1) := dk_42 (dk_at dksX9_line_1 13 rfl rfl)
theorem dX9_line_36 : decode cX9_line 36 = .ok (.getfield 12, 3) := dk_180 0 12 (dk_at dksX9_line_1 14 rfl rfl)
theorem dX9_line_39 : decode cX9_line 39 = .ok (.aload_n 0, 1) := dk_42 (dk_at dksX9_line_1 17 rfl rfl)
theorem dX9_line_40 : decode cX9_line 40 = .ok (.iconst 1, 1) := dk_4 (dk_at dksX9_line_1 18 rfl rfl)
theorem dX9_line_41 : decode cX9_line 41 = .ok (.bipush 8, 2) := dk_16 8 (dk_at dksX9_line_1 19 rfl rfl)
theorem dX9_line_43 : decode cX9_line 43 = .ok (.invokevirtual 97, 3) := dk_182 0 97 (dk_at dksX9_line_1 21 rfl rfl)
theorem dX9_line_46 : decode cX9_line 46 = .ok (.putfield 126, 3) := dk_181 0 126 (dk_at dksX9_line_2 0 rfl rfl)
theorem dX9_line_49 : decode cX9_line 49 = .ok (.aload_n 0, 1) := dk_42 (dk_at dksX9_line_2 3 rfl rfl)
theorem dX9_line_50 : decode cX9_line 50 = .ok (.getfield 12, 3) := dk_180 0 12 (dk_at dksX9_line_2 4 rfl rfl)
theorem dX9_line_53 : decode cX9_line 53 = .ok (.aload_n 0, 1) := dk_42 (dk_at dksX9_line_2 7 rfl rfl)
theorem dX9_line_54 : decode cX9_line 54 = .ok (.ldc_w 290, 3) := dk_19 1 34 (dk_at dksX9_line_2 8 rfl rfl)
theorem dX9_line_57 : decode cX9_line 57 = .ok (.iconst 1, 1) := dk_4 (dk_at dksX9_line_2 11 rfl rfl)
theorem dX9_line_58 : decode cX9_line 58 = .ok (.bipush 6, 2) := dk_16 6 (dk_at dksX9_line_2 12 rfl rfl)
theorem dX9_line_60 : decode cX9_line 60 = .ok (.invokevirtual 171, 3) := dk_182 0 171 (dk_at dksX9_line_2 14 rfl rfl)
theorem dX9_line_63 : decode cX9_line 63 = .ok (.putfield 137, 3) := dk_181 0 137 (dk_at dksX9_line_2 17 rfl rfl)
theorem dX9_line_66 : decode cX9_line 66 = .ok (.goto 157, 3) := dk_167 0 157 (dk_at dksX9_line_2 20 rfl rfl)
theorem dX9_line_69 : decode cX9_line 69 = .ok (.aload_n 0, 1) := dk_42 (dk_at dksX9_line_2 23 rfl rfl)
theorem dX9_line_70 : decode cX9_line 70 = .ok (.ldc_w 262, 3) := dk_19 1 6 (dk_at dksX9_line_3 0 rfl rfl)
theorem dX9_line_73 : decode cX9_line 73 = .ok (.invokevirtual 180, 3) := dk_182 0 180 (dk_at dksX9_line_3 3 rfl rfl)
theorem dX9_line_76 : decode cX9_line 76 = .ok (.ifCond .eq 10, 3) := dk_153 0 10 (dk_at dksX9_line_3 6 rfl rfl)
theorem dX9_line_79 : decode cX9_line 79 = .ok (.aload_n 0, 1) := dk_42 (dk_at dksX9_line_3 9 rfl rfl)
theorem dX9_line_80 : decode cX9_line 80 = .ok (.invokevirtual 291, 3) := dk_182 1 35 (dk_at dksX9_line_3 10 rfl rfl)
theorem dX9_line_83 : decode cX9_line 83 = .ok (.goto 140, 3) := dk_167 0 140 (dk_at dksX9_line_3 13 rfl rfl)
theorem dX9_line_86 : decode cX9_line 86 = .ok (.aload_n 0, 1) := dk_42 (dk_at dksX9_line_3 16 rfl rfl)
theorem dX9_line_87 : decode cX9_line 87 = .ok (.ldc_w 263, 3) := dk_19 1 7 (dk_at dksX9_line_3 17 rfl rfl)
theorem dX9_line_90 : decode cX9_line 90 = .ok (.invokevirtual 180, 3) := dk_182 0 180 (dk_at dksX9_line_3 20 rfl rfl)
theorem dX9_line_93 : decode cX9_line 93 = .ok (.ifCond .eq 10, 3) := dk_153 0 10 (dk_at dksX9_line_4 0 rfl rfl)
theorem dX9_line_96 : decode cX9_line 96 = .ok (.aload_n 0, 1) := dk_42 (dk_at dksX9_line_4 3 rfl rfl)
theorem dX9_line_97 : decode cX9_line 97 = .ok (.invokevirtual 293, 3) := dk_182 1 37 (dk_at dksX9_line_4 4 rfl rfl)
theorem dX9_line_100 : decode cX9_line 100 = .ok (.goto 123, 3) := dk_167 0 123 (dk_at dksX9_line_4 7 rfl rfl)
theorem dX9_line_103 : decode cX9_line 103 = .ok (.aload_n 0, 1) := dk_42 (dk_at dksX9_line_4 10 rfl rfl)
theorem dX9_line_104 : decode cX9_line 104 = .ok (.ldc_w 265, 3) := dk_19 1 9 (dk_at dksX9_line_4 11 rfl rfl)
theorem dX9_line_107 : decode cX9_line 107 = .ok (.invokevirtual 180, 3) := dk_182 0 180 (dk_at dksX9_line_4 14 rfl rfl)
theorem dX9_line_110 : decode cX9_line 110 = .ok (.ifCond .eq 10, 3) := dk_153 0 10 (dk_at dksX9_line_4 17 rfl rfl)
theorem dX9_line_113 : decode cX9_line 113 = .ok (.aload_n 0, 1) := dk_42 (dk_at dksX9_line_4 20 rfl rfl)
theorem dX9_line_114 : decode cX9_line 114 = .ok (.invokevirtual 295, 3) := dk_182 1 39 (dk_at dksX9_line_4 21 rfl rfl)
theorem dX9_line_117 : decode cX9_line 117 = .ok (.goto 106, 3) := dk_167 0 106 (dk_at dksX9_line_5 0 rfl rfl)
theorem dX9_line_120 : decode cX9_line 120 = .ok (.aload_n 0, 1) := dk_42 (dk_at dksX9_line_5 3 rfl rfl)
theorem dX9_line_121 : decode cX9_line 121 = .ok (.ldc_w 269, 3) := dk_19 1 13 (dk_at dksX9_line_5 4 rfl rfl)
theorem dX9_line_124 : decode cX9_line 124 = .ok (.invokevirtual 180, 3) := dk_182 0 180 (dk_at dksX9_line_5 7 rfl rfl)
theorem dX9_line_127 : decode cX9_line 127 = .ok (.ifCond .eq 10, 3) := dk_153 0 10 (dk_at dksX9_line_5 10 rfl rfl)
theorem dX9_line_130 : decode cX9_line 130 = .ok (.aload_n 0, 1) := dk_42 (dk_at dksX9_line_5 13 rfl rfl)
theorem dX9_line_131 : decode cX9_line 131 = .ok (.invokevirtual 297, 3) := dk_182 1 41 (dk_at dksX9_line_5 14 rfl rfl)
theorem dX9_line_134 : decode cX9_line 134 = .ok (.goto 89, 3) := dk_167 0 89 (dk_at dksX9_line_5 17 rfl rfl)
theorem dX9_line_137 : decode cX9_line 137 = .ok (.aload_n 0, 1) := dk_42 (dk_at dksX9_line_5 20 rfl rfl)
theorem dX9_line_138 : decode cX9_line 138 = .ok (.ldc_w 271, 3) := dk_19 1 15 (dk_at dksX9_line_5 21 rfl rfl)
theorem dX9_line_141 : decode cX9_line 141 = .ok (.invokevirtual 180, 3) := dk_182 0 180 (dk_at dksX9_line_6 0 rfl rfl)
theorem dX9_line_144 : decode cX9_line 144 = .ok (.ifCond .eq 17, 3) := dk_153 0 17 (dk_at dksX9_line_6 3 rfl rfl)
theorem dX9_line_147 : decode cX9_line 147 = .ok (.aload_n 0, 1) := dk_42 (dk_at dksX9_line_6 6 rfl rfl)
theorem dX9_line_148 : decode cX9_line 148 = .ok (.getfield 12, 3) := dk_180 0 12 (dk_at dksX9_line_6 7 rfl rfl)
theorem dX9_line_151 : decode cX9_line 151 = .ok (.aload_n 0, 1) := dk_42 (dk_at dksX9_line_6 10 rfl rfl)
theorem dX9_line_152 : decode cX9_line 152 = .ok (.invokevirtual 299, 3) := dk_182 1 43 (dk_at dksX9_line_6 11 rfl rfl)
theorem dX9_line_155 : decode cX9_line 155 = .ok (.putfield 273, 3) := dk_181 1 17 (dk_at dksX9_line_6 14 rfl rfl)
theorem dX9_line_158 : decode cX9_line 158 = .ok (.goto 65, 3) := dk_167 0 65 (dk_at dksX9_line_6 17 rfl rfl)
theorem dX9_line_161 : decode cX9_line 161 = .ok (.aload_n 0, 1) := dk_42 (dk_at dksX9_line_6 20 rfl rfl)
theorem dX9_line_162 : decode cX9_line 162 = .ok (.ldc_w 276, 3) := dk_19 1 20 (dk_at dksX9_line_6 21 rfl rfl)
theorem dX9_line_165 : decode cX9_line 165 = .ok (.invokevirtual 180, 3) := dk_182 0 180 (dk_at dksX9_line_7 0 rfl rfl)
theorem dX9_line_168 : decode cX9_line 168 = .ok (.ifCond .eq 28, 3) := dk_153 0 28 (dk_at dksX9_line_7 3 rfl rfl)
theorem dX9_line_171 : decode cX9_line 171 = .ok (.aload_n 0, 1) := dk_42 (dk_at dksX9_line_7 6 rfl rfl)
theorem dX9_line_172 : decode cX9_line 172 = .ok (.getfield 12, 3) := dk_180 0 12 (dk_at dksX9_line_7 7 rfl rfl)
theorem dX9_line_175 : decode cX9_line 175 = .ok (.iconst 1, 1) := dk_4 (dk_at dksX9_line_7 10 rfl rfl)
theorem dX9_line_176 : decode cX9_line 176 = .ok (.putfield 278, 3) := dk_181 1 22 (dk_at dksX9_line_7 11 rfl rfl)
theorem dX9_line_179 : decode cX9_line 179 = .ok (.aload_n 0, 1) := dk_42 (dk_at dksX9_line_7 14 rfl rfl)
theorem dX9_line_180 : decode cX9_line 180 = .ok (.getfield 12, 3) := dk_180 0 12 (dk_at dksX9_line_7 15 rfl rfl)
theorem dX9_line_183 : decode cX9_line 183 = .ok (.aload_n 0, 1) := dk_42 (dk_at dksX9_line_7 18 rfl rfl)
theorem dX9_line_184 : decode cX9_line 184 = .ok (.iconst 0, 1) := dk_3 (dk_at dksX9_line_7 19 rfl rfl)
theorem dX9_line_185 : decode cX9_line 185 = .ok (.bipush 100, 2) := dk_16 100 (dk_at dksX9_line_7 20 rfl rfl)
theorem dX9_line_187 : decode cX9_line 187 = .ok (.invokevirtual 97, 3) := dk_182 0 97 (dk_at dksX9_line_8 0 rfl rfl)
theorem dX9_line_190 : decode cX9_line 190 = .ok (.putfield 302, 3) := dk_181 1 46 (dk_at dksX9_line_8 3 rfl rfl)
theorem dX9_line_193 : decode cX9_line 193 = .ok (.goto 30, 3) := dk_167 0 30 (dk_at dksX9_line_8 6 rfl rfl)
theorem dX9_line_196 : decode cX9_line 196 = .ok (.aload_n 0, 1) := dk_42 (dk_at dksX9_line_8 9 rfl rfl)
theorem dX9_line_197 : decode cX9_line 197 = .ok (.invokevirtual 90, 3) := dk_182 0 90 (dk_at dksX9_line_8 10 rfl rfl)
theorem dX9_line_200 : decode cX9_line 200 = .ok (.aload_n 0, 1) := dk_42 (dk_at dksX9_line_8 13 rfl rfl)
theorem dX9_line_201 : decode cX9_line 201 = .ok (.getfield 12, 3) := dk_180 0 12 (dk_at dksX9_line_8 14 rfl rfl)
theorem dX9_line_204 : decode cX9_line 204 = .ok (.iconst 1, 1) := dk_4 (dk_at dksX9_line_8 17 rfl rfl)
theorem dX9_line_205 : decode cX9_line 205 = .ok (.putfield 284, 3) := dk_181 1 28 (dk_at dksX9_line_8 18 rfl rfl)
theorem dX9_line_208 : decode cX9_line 208 = .ok (.aload_n 0, 1) := dk_42 (dk_at dksX9_line_8 21 rfl rfl)
theorem dX9_line_209 : decode cX9_line 209 = .ok (.getfield 12, 3) := dk_180 0 12 (dk_at dksX9_line_9 0 rfl rfl)
theorem dX9_line_212 : decode cX9_line 212 = .ok (.aload_n 0, 1) := dk_42 (dk_at dksX9_line_9 3 rfl rfl)
theorem dX9_line_213 : decode cX9_line 213 = .ok (.iconst 0, 1) := dk_3 (dk_at dksX9_line_9 4 rfl rfl)
theorem dX9_line_214 : decode cX9_line 214 = .ok (.sipush 999, 3) := dk_17 3 231 (dk_at dksX9_line_9 5 rfl rfl)
theorem dX9_line_217 : decode cX9_line 217 = .ok (.invokevirtual 97, 3) := dk_182 0 97 (dk_at dksX9_line_9 8 rfl rfl)
theorem dX9_line_220 : decode cX9_line 220 = .ok (.putfield 304, 3) := dk_181 1 48 (dk_at dksX9_line_9 11 rfl rfl)
theorem dX9_line_223 : decode cX9_line 223 = .ok (.return_, 1) := dk_177 (dk_at dksX9_line_9 14 rfl rfl)
abbrev cX9_canLine : ByteArray := prog_11_method_31_code
def yX9_canLine : MethodName := ⟨RX9, "canLine", "()Z"⟩
def dkwX9_canLine_9 : List UInt8 := [42, 180, 0, 12, 180, 1, 28, 154, 0, 7, 4, 167, 0, 4, 3, 172]
abbrev dktX9_canLine_9 : List UInt8 := dkwX9_canLine_9 ++ []
def dkwX9_canLine_8 : List UInt8 := [180, 1, 22, 154, 0, 7, 4, 167, 0, 32, 3, 167, 0, 28, 42, 19, 1, 26, 182, 0, 76, 153, 0, 17]
abbrev dktX9_canLine_8 : List UInt8 := dkwX9_canLine_8 ++ dktX9_canLine_9
def dkwX9_canLine_7 : List UInt8 := [199, 0, 7, 4, 167, 0, 4, 3, 172, 42, 19, 1, 20, 182, 0, 76, 153, 0, 21, 42, 180, 0, 12]
abbrev dktX9_canLine_7 : List UInt8 := dkwX9_canLine_7 ++ dktX9_canLine_8
def dkwX9_canLine_6 : List UInt8 := [167, 0, 4, 3, 172, 42, 19, 1, 15, 182, 0, 76, 153, 0, 19, 42, 180, 0, 12, 180, 1, 17]
abbrev dktX9_canLine_6 : List UInt8 := dkwX9_canLine_6 ++ dktX9_canLine_7
def dkwX9_canLine_5 : List UInt8 := [182, 0, 76, 153, 0, 24, 42, 180, 0, 12, 180, 0, 191, 182, 1, 11, 16, 7, 162, 0, 7, 4]
abbrev dktX9_canLine_5 : List UInt8 := dkwX9_canLine_5 ++ dktX9_canLine_6
def dkwX9_canLine_4 : List UInt8 := [180, 0, 12, 180, 0, 158, 182, 1, 11, 7, 162, 0, 7, 4, 167, 0, 4, 3, 172, 42, 19, 1, 13]
abbrev dktX9_canLine_4 : List UInt8 := dkwX9_canLine_4 ++ dktX9_canLine_5
def dkwX9_canLine_3 : List UInt8 := [16, 6, 162, 0, 7, 4, 167, 0, 4, 3, 172, 42, 19, 1, 9, 182, 0, 76, 153, 0, 23, 42]
abbrev dktX9_canLine_3 : List UInt8 := dkwX9_canLine_3 ++ dktX9_canLine_4
def dkwX9_canLine_2 : List UInt8 := [4, 167, 0, 4, 3, 172, 42, 19, 1, 7, 182, 0, 76, 153, 0, 21, 42, 180, 0, 12, 180, 0, 153]
abbrev dktX9_canLine_2 : List UInt8 := dkwX9_canLine_2 ++ dktX9_canLine_3
def dkwX9_canLine_1 : List UInt8 := [3, 172, 42, 19, 1, 6, 182, 0, 76, 153, 0, 21, 42, 180, 0, 12, 180, 0, 147, 16, 16, 162, 0, 7]
abbrev dktX9_canLine_1 : List UInt8 := dkwX9_canLine_1 ++ dktX9_canLine_2
def dkwX9_canLine_0 : List UInt8 := [42, 19, 1, 1, 182, 0, 76, 153, 0, 19, 42, 180, 0, 12, 180, 1, 3, 154, 0, 7, 4, 167, 0, 4]
abbrev dktX9_canLine_0 : List UInt8 := dkwX9_canLine_0 ++ dktX9_canLine_1
theorem dksX9_canLine_0 : cX9_canLine.data.toList.drop 0 = dktX9_canLine_0 := by decide +kernel
theorem dksX9_canLine_1 : cX9_canLine.data.toList.drop 24 = dktX9_canLine_1 := dk_seg dksX9_canLine_0 24 rfl rfl
theorem dksX9_canLine_2 : cX9_canLine.data.toList.drop 48 = dktX9_canLine_2 := dk_seg dksX9_canLine_1 24 rfl rfl
theorem dksX9_canLine_3 : cX9_canLine.data.toList.drop 71 = dktX9_canLine_3 := dk_seg dksX9_canLine_2 23 rfl rfl
theorem dksX9_canLine_4 : cX9_canLine.data.toList.drop 93 = dktX9_canLine_4 := dk_seg dksX9_canLine_3 22 rfl rfl
theorem dksX9_canLine_5 : cX9_canLine.data.toList.drop 116 = dktX9_canLine_5 := dk_seg dksX9_canLine_4 23 rfl rfl
theorem dksX9_canLine_6 : cX9_canLine.data.toList.drop 138 = dktX9_canLine_6 := dk_seg dksX9_canLine_5 22 rfl rfl
theorem dksX9_canLine_7 : cX9_canLine.data.toList.drop 160 = dktX9_canLine_7 := dk_seg dksX9_canLine_6 22 rfl rfl
theorem dksX9_canLine_8 : cX9_canLine.data.toList.drop 183 = dktX9_canLine_8 := dk_seg dksX9_canLine_7 23 rfl rfl
theorem dksX9_canLine_9 : cX9_canLine.data.toList.drop 207 = dktX9_canLine_9 := dk_seg dksX9_canLine_8 24 rfl rfl
theorem dX9_canLine_0 : decode cX9_canLine 0 = .ok (.aload_n 0, 1) := dk_42 (dk_at dksX9_canLine_0 0 rfl rfl)
theorem dX9_canLine_1 : decode cX9_canLine 1 = .ok (.ldc_w 257, 3) := dk_19 1 1 (dk_at dksX9_canLine_0 1 rfl rfl)
theorem dX9_canLine_4 : decode cX9_canLine 4 = .ok (.invokevirtual 76, 3) := dk_182 0 76 (dk_at dksX9_canLine_0 4 rfl rfl)
theorem dX9_canLine_7 : decode cX9_canLine 7 = .ok (.ifCond .eq 19, 3) := dk_153 0 19 (dk_at dksX9_canLine_0 7 rfl rfl)
theorem dX9_canLine_10 : decode cX9_canLine 10 = .ok (.aload_n 0, 1) := dk_42 (dk_at dksX9_canLine_0 10 rfl rfl)
theorem dX9_canLine_11 : decode cX9_canLine 11 = .ok (.getfield 12, 3) := dk_180 0 12 (dk_at dksX9_canLine_0 11 rfl rfl)
theorem dX9_canLine_14 : decode cX9_canLine 14 = .ok (.getfield 259, 3) := dk_180 1 3 (dk_at dksX9_canLine_0 14 rfl rfl)
theorem dX9_canLine_17 : decode cX9_canLine 17 = .ok (.ifCond .ne 7, 3) := dk_154 0 7 (dk_at dksX9_canLine_0 17 rfl rfl)
theorem dX9_canLine_20 : decode cX9_canLine 20 = .ok (.iconst 1, 1) := dk_4 (dk_at dksX9_canLine_0 20 rfl rfl)
theorem dX9_canLine_21 : decode cX9_canLine 21 = .ok (.goto 4, 3) := dk_167 0 4 (dk_at dksX9_canLine_0 21 rfl rfl)
theorem dX9_canLine_24 : decode cX9_canLine 24 = .ok (.iconst 0, 1) := dk_3 (dk_at dksX9_canLine_1 0 rfl rfl)
theorem dX9_canLine_25 : decode cX9_canLine 25 = .ok (.ireturn, 1) := dk_172 (dk_at dksX9_canLine_1 1 rfl rfl)
theorem dX9_canLine_26 : decode cX9_canLine 26 = .ok (.aload_n 0, 1) := dk_42 (dk_at dksX9_canLine_1 2 rfl rfl)
theorem dX9_canLine_27 : decode cX9_canLine 27 = .ok (.ldc_w 262, 3) := dk_19 1 6 (dk_at dksX9_canLine_1 3 rfl rfl)
theorem dX9_canLine_30 : decode cX9_canLine 30 = .ok (.invokevirtual 76, 3) := dk_182 0 76 (dk_at dksX9_canLine_1 6 rfl rfl)
theorem dX9_canLine_33 : decode cX9_canLine 33 = .ok (.ifCond .eq 21, 3) := dk_153 0 21 (dk_at dksX9_canLine_1 9 rfl rfl)
theorem dX9_canLine_36 : decode cX9_canLine 36 = .ok (.aload_n 0, 1) := dk_42 (dk_at dksX9_canLine_1 12 rfl rfl)
theorem dX9_canLine_37 : decode cX9_canLine 37 = .ok (.getfield 12, 3) := dk_180 0 12 (dk_at dksX9_canLine_1 13 rfl rfl)
theorem dX9_canLine_40 : decode cX9_canLine 40 = .ok (.getfield 147, 3) := dk_180 0 147 (dk_at dksX9_canLine_1 16 rfl rfl)
theorem dX9_canLine_43 : decode cX9_canLine 43 = .ok (.bipush 16, 2) := dk_16 16 (dk_at dksX9_canLine_1 19 rfl rfl)
theorem dX9_canLine_45 : decode cX9_canLine 45 = .ok (.if_icmp .ge 7, 3) := dk_162 0 7 (dk_at dksX9_canLine_1 21 rfl rfl)
theorem dX9_canLine_48 : decode cX9_canLine 48 = .ok (.iconst 1, 1) := dk_4 (dk_at dksX9_canLine_2 0 rfl rfl)
theorem dX9_canLine_49 : decode cX9_canLine 49 = .ok (.goto 4, 3) := dk_167 0 4 (dk_at dksX9_canLine_2 1 rfl rfl)
theorem dX9_canLine_52 : decode cX9_canLine 52 = .ok (.iconst 0, 1) := dk_3 (dk_at dksX9_canLine_2 4 rfl rfl)
theorem dX9_canLine_53 : decode cX9_canLine 53 = .ok (.ireturn, 1) := dk_172 (dk_at dksX9_canLine_2 5 rfl rfl)
theorem dX9_canLine_54 : decode cX9_canLine 54 = .ok (.aload_n 0, 1) := dk_42 (dk_at dksX9_canLine_2 6 rfl rfl)
theorem dX9_canLine_55 : decode cX9_canLine 55 = .ok (.ldc_w 263, 3) := dk_19 1 7 (dk_at dksX9_canLine_2 7 rfl rfl)
theorem dX9_canLine_58 : decode cX9_canLine 58 = .ok (.invokevirtual 76, 3) := dk_182 0 76 (dk_at dksX9_canLine_2 10 rfl rfl)
theorem dX9_canLine_61 : decode cX9_canLine 61 = .ok (.ifCond .eq 21, 3) := dk_153 0 21 (dk_at dksX9_canLine_2 13 rfl rfl)
theorem dX9_canLine_64 : decode cX9_canLine 64 = .ok (.aload_n 0, 1) := dk_42 (dk_at dksX9_canLine_2 16 rfl rfl)
theorem dX9_canLine_65 : decode cX9_canLine 65 = .ok (.getfield 12, 3) := dk_180 0 12 (dk_at dksX9_canLine_2 17 rfl rfl)
theorem dX9_canLine_68 : decode cX9_canLine 68 = .ok (.getfield 153, 3) := dk_180 0 153 (dk_at dksX9_canLine_2 20 rfl rfl)
theorem dX9_canLine_71 : decode cX9_canLine 71 = .ok (.bipush 6, 2) := dk_16 6 (dk_at dksX9_canLine_3 0 rfl rfl)
theorem dX9_canLine_73 : decode cX9_canLine 73 = .ok (.if_icmp .ge 7, 3) := dk_162 0 7 (dk_at dksX9_canLine_3 2 rfl rfl)
theorem dX9_canLine_76 : decode cX9_canLine 76 = .ok (.iconst 1, 1) := dk_4 (dk_at dksX9_canLine_3 5 rfl rfl)
theorem dX9_canLine_77 : decode cX9_canLine 77 = .ok (.goto 4, 3) := dk_167 0 4 (dk_at dksX9_canLine_3 6 rfl rfl)
theorem dX9_canLine_80 : decode cX9_canLine 80 = .ok (.iconst 0, 1) := dk_3 (dk_at dksX9_canLine_3 9 rfl rfl)
theorem dX9_canLine_81 : decode cX9_canLine 81 = .ok (.ireturn, 1) := dk_172 (dk_at dksX9_canLine_3 10 rfl rfl)
theorem dX9_canLine_82 : decode cX9_canLine 82 = .ok (.aload_n 0, 1) := dk_42 (dk_at dksX9_canLine_3 11 rfl rfl)
theorem dX9_canLine_83 : decode cX9_canLine 83 = .ok (.ldc_w 265, 3) := dk_19 1 9 (dk_at dksX9_canLine_3 12 rfl rfl)
theorem dX9_canLine_86 : decode cX9_canLine 86 = .ok (.invokevirtual 76, 3) := dk_182 0 76 (dk_at dksX9_canLine_3 15 rfl rfl)
theorem dX9_canLine_89 : decode cX9_canLine 89 = .ok (.ifCond .eq 23, 3) := dk_153 0 23 (dk_at dksX9_canLine_3 18 rfl rfl)
theorem dX9_canLine_92 : decode cX9_canLine 92 = .ok (.aload_n 0, 1) := dk_42 (dk_at dksX9_canLine_3 21 rfl rfl)
theorem dX9_canLine_93 : decode cX9_canLine 93 = .ok (.getfield 12, 3) := dk_180 0 12 (dk_at dksX9_canLine_4 0 rfl rfl)
theorem dX9_canLine_96 : decode cX9_canLine 96 = .ok (.getfield 158, 3) := dk_180 0 158 (dk_at dksX9_canLine_4 3 rfl rfl)
theorem dX9_canLine_99 : decode cX9_canLine 99 = .ok (.invokevirtual 267, 3) := dk_182 1 11 (dk_at dksX9_canLine_4 6 rfl rfl)
theorem dX9_canLine_102 : decode cX9_canLine 102 = .ok (.iconst 4, 1) := dk_7 (dk_at dksX9_canLine_4 9 rfl rfl)
theorem dX9_canLine_103 : decode cX9_canLine 103 = .ok (.if_icmp .ge 7, 3) := dk_162 0 7 (dk_at dksX9_canLine_4 10 rfl rfl)
theorem dX9_canLine_106 : decode cX9_canLine 106 = .ok (.iconst 1, 1) := dk_4 (dk_at dksX9_canLine_4 13 rfl rfl)
theorem dX9_canLine_107 : decode cX9_canLine 107 = .ok (.goto 4, 3) := dk_167 0 4 (dk_at dksX9_canLine_4 14 rfl rfl)
theorem dX9_canLine_110 : decode cX9_canLine 110 = .ok (.iconst 0, 1) := dk_3 (dk_at dksX9_canLine_4 17 rfl rfl)
theorem dX9_canLine_111 : decode cX9_canLine 111 = .ok (.ireturn, 1) := dk_172 (dk_at dksX9_canLine_4 18 rfl rfl)
theorem dX9_canLine_112 : decode cX9_canLine 112 = .ok (.aload_n 0, 1) := dk_42 (dk_at dksX9_canLine_4 19 rfl rfl)
theorem dX9_canLine_113 : decode cX9_canLine 113 = .ok (.ldc_w 269, 3) := dk_19 1 13 (dk_at dksX9_canLine_4 20 rfl rfl)
theorem dX9_canLine_116 : decode cX9_canLine 116 = .ok (.invokevirtual 76, 3) := dk_182 0 76 (dk_at dksX9_canLine_5 0 rfl rfl)
theorem dX9_canLine_119 : decode cX9_canLine 119 = .ok (.ifCond .eq 24, 3) := dk_153 0 24 (dk_at dksX9_canLine_5 3 rfl rfl)
theorem dX9_canLine_122 : decode cX9_canLine 122 = .ok (.aload_n 0, 1) := dk_42 (dk_at dksX9_canLine_5 6 rfl rfl)
theorem dX9_canLine_123 : decode cX9_canLine 123 = .ok (.getfield 12, 3) := dk_180 0 12 (dk_at dksX9_canLine_5 7 rfl rfl)
theorem dX9_canLine_126 : decode cX9_canLine 126 = .ok (.getfield 191, 3) := dk_180 0 191 (dk_at dksX9_canLine_5 10 rfl rfl)
theorem dX9_canLine_129 : decode cX9_canLine 129 = .ok (.invokevirtual 267, 3) := dk_182 1 11 (dk_at dksX9_canLine_5 13 rfl rfl)
theorem dX9_canLine_132 : decode cX9_canLine 132 = .ok (.bipush 7, 2) := dk_16 7 (dk_at dksX9_canLine_5 16 rfl rfl)
theorem dX9_canLine_134 : decode cX9_canLine 134 = .ok (.if_icmp .ge 7, 3) := dk_162 0 7 (dk_at dksX9_canLine_5 18 rfl rfl)
theorem dX9_canLine_137 : decode cX9_canLine 137 = .ok (.iconst 1, 1) := dk_4 (dk_at dksX9_canLine_5 21 rfl rfl)
theorem dX9_canLine_138 : decode cX9_canLine 138 = .ok (.goto 4, 3) := dk_167 0 4 (dk_at dksX9_canLine_6 0 rfl rfl)
theorem dX9_canLine_141 : decode cX9_canLine 141 = .ok (.iconst 0, 1) := dk_3 (dk_at dksX9_canLine_6 3 rfl rfl)
theorem dX9_canLine_142 : decode cX9_canLine 142 = .ok (.ireturn, 1) := dk_172 (dk_at dksX9_canLine_6 4 rfl rfl)
theorem dX9_canLine_143 : decode cX9_canLine 143 = .ok (.aload_n 0, 1) := dk_42 (dk_at dksX9_canLine_6 5 rfl rfl)
theorem dX9_canLine_144 : decode cX9_canLine 144 = .ok (.ldc_w 271, 3) := dk_19 1 15 (dk_at dksX9_canLine_6 6 rfl rfl)
theorem dX9_canLine_147 : decode cX9_canLine 147 = .ok (.invokevirtual 76, 3) := dk_182 0 76 (dk_at dksX9_canLine_6 9 rfl rfl)
theorem dX9_canLine_150 : decode cX9_canLine 150 = .ok (.ifCond .eq 19, 3) := dk_153 0 19 (dk_at dksX9_canLine_6 12 rfl rfl)
theorem dX9_canLine_153 : decode cX9_canLine 153 = .ok (.aload_n 0, 1) := dk_42 (dk_at dksX9_canLine_6 15 rfl rfl)
theorem dX9_canLine_154 : decode cX9_canLine 154 = .ok (.getfield 12, 3) := dk_180 0 12 (dk_at dksX9_canLine_6 16 rfl rfl)
theorem dX9_canLine_157 : decode cX9_canLine 157 = .ok (.getfield 273, 3) := dk_180 1 17 (dk_at dksX9_canLine_6 19 rfl rfl)
theorem dX9_canLine_160 : decode cX9_canLine 160 = .ok (.ifnonnull 7, 3) := dk_199 0 7 (dk_at dksX9_canLine_7 0 rfl rfl)
theorem dX9_canLine_163 : decode cX9_canLine 163 = .ok (.iconst 1, 1) := dk_4 (dk_at dksX9_canLine_7 3 rfl rfl)
theorem dX9_canLine_164 : decode cX9_canLine 164 = .ok (.goto 4, 3) := dk_167 0 4 (dk_at dksX9_canLine_7 4 rfl rfl)
theorem dX9_canLine_167 : decode cX9_canLine 167 = .ok (.iconst 0, 1) := dk_3 (dk_at dksX9_canLine_7 7 rfl rfl)
theorem dX9_canLine_168 : decode cX9_canLine 168 = .ok (.ireturn, 1) := dk_172 (dk_at dksX9_canLine_7 8 rfl rfl)
theorem dX9_canLine_169 : decode cX9_canLine 169 = .ok (.aload_n 0, 1) := dk_42 (dk_at dksX9_canLine_7 9 rfl rfl)
theorem dX9_canLine_170 : decode cX9_canLine 170 = .ok (.ldc_w 276, 3) := dk_19 1 20 (dk_at dksX9_canLine_7 10 rfl rfl)
theorem dX9_canLine_173 : decode cX9_canLine 173 = .ok (.invokevirtual 76, 3) := dk_182 0 76 (dk_at dksX9_canLine_7 13 rfl rfl)
theorem dX9_canLine_176 : decode cX9_canLine 176 = .ok (.ifCond .eq 21, 3) := dk_153 0 21 (dk_at dksX9_canLine_7 16 rfl rfl)
theorem dX9_canLine_179 : decode cX9_canLine 179 = .ok (.aload_n 0, 1) := dk_42 (dk_at dksX9_canLine_7 19 rfl rfl)
theorem dX9_canLine_180 : decode cX9_canLine 180 = .ok (.getfield 12, 3) := dk_180 0 12 (dk_at dksX9_canLine_7 20 rfl rfl)
theorem dX9_canLine_183 : decode cX9_canLine 183 = .ok (.getfield 278, 3) := dk_180 1 22 (dk_at dksX9_canLine_8 0 rfl rfl)
theorem dX9_canLine_186 : decode cX9_canLine 186 = .ok (.ifCond .ne 7, 3) := dk_154 0 7 (dk_at dksX9_canLine_8 3 rfl rfl)
theorem dX9_canLine_189 : decode cX9_canLine 189 = .ok (.iconst 1, 1) := dk_4 (dk_at dksX9_canLine_8 6 rfl rfl)
theorem dX9_canLine_190 : decode cX9_canLine 190 = .ok (.goto 32, 3) := dk_167 0 32 (dk_at dksX9_canLine_8 7 rfl rfl)
theorem dX9_canLine_193 : decode cX9_canLine 193 = .ok (.iconst 0, 1) := dk_3 (dk_at dksX9_canLine_8 10 rfl rfl)
theorem dX9_canLine_194 : decode cX9_canLine 194 = .ok (.goto 28, 3) := dk_167 0 28 (dk_at dksX9_canLine_8 11 rfl rfl)
theorem dX9_canLine_197 : decode cX9_canLine 197 = .ok (.aload_n 0, 1) := dk_42 (dk_at dksX9_canLine_8 14 rfl rfl)
theorem dX9_canLine_198 : decode cX9_canLine 198 = .ok (.ldc_w 282, 3) := dk_19 1 26 (dk_at dksX9_canLine_8 15 rfl rfl)
theorem dX9_canLine_201 : decode cX9_canLine 201 = .ok (.invokevirtual 76, 3) := dk_182 0 76 (dk_at dksX9_canLine_8 18 rfl rfl)
theorem dX9_canLine_204 : decode cX9_canLine 204 = .ok (.ifCond .eq 17, 3) := dk_153 0 17 (dk_at dksX9_canLine_8 21 rfl rfl)
theorem dX9_canLine_207 : decode cX9_canLine 207 = .ok (.aload_n 0, 1) := dk_42 (dk_at dksX9_canLine_9 0 rfl rfl)
theorem dX9_canLine_208 : decode cX9_canLine 208 = .ok (.getfield 12, 3) := dk_180 0 12 (dk_at dksX9_canLine_9 1 rfl rfl)
theorem dX9_canLine_211 : decode cX9_canLine 211 = .ok (.getfield 284, 3) := dk_180 1 28 (dk_at dksX9_canLine_9 4 rfl rfl)
theorem dX9_canLine_214 : decode cX9_canLine 214 = .ok (.ifCond .ne 7, 3) := dk_154 0 7 (dk_at dksX9_canLine_9 7 rfl rfl)
theorem dX9_canLine_217 : decode cX9_canLine 217 = .ok (.iconst 1, 1) := dk_4 (dk_at dksX9_canLine_9 10 rfl rfl)
theorem dX9_canLine_218 : decode cX9_canLine 218 = .ok (.goto 4, 3) := dk_167 0 4 (dk_at dksX9_canLine_9 11 rfl rfl)
theorem dX9_canLine_221 : decode cX9_canLine 221 = .ok (.iconst 0, 1) := dk_3 (dk_at dksX9_canLine_9 14 rfl rfl)
theorem dX9_canLine_222 : decode cX9_canLine 222 = .ok (.ireturn, 1) := dk_172 (dk_at dksX9_canLine_9 15 rfl rfl)
abbrev cX9_isWord : ByteArray := prog_11_method_9_code
def yX9_isWord : MethodName := ⟨RX9, "isWord", "(Ljava/lang/String;)Z"⟩
def dkwX9_isWord_3 : List UInt8 := [3, 172]
abbrev dktX9_isWord_3 : List UInt8 := dkwX9_isWord_3 ++ []
def dkwX9_isWord_2 : List UInt8 := [182, 0, 72, 160, 0, 9, 132, 2, 1, 167, 255, 227, 28, 43, 182, 0, 66, 160, 0, 7, 4, 167, 0, 4]
abbrev dktX9_isWord_2 : List UInt8 := dkwX9_isWord_2 ++ dktX9_isWord_3
def dkwX9_isWord_1 : List UInt8 := [3, 172, 3, 61, 28, 43, 182, 0, 66, 162, 0, 27, 42, 42, 180, 0, 33, 28, 96, 182, 0, 36, 43, 28]
abbrev dktX9_isWord_1 : List UInt8 := dkwX9_isWord_1 ++ dktX9_isWord_2
def dkwX9_isWord_0 : List UInt8 := [42, 180, 0, 40, 4, 160, 0, 19, 42, 180, 0, 30, 42, 180, 0, 33, 100, 43, 182, 0, 66, 159, 0, 5]
abbrev dktX9_isWord_0 : List UInt8 := dkwX9_isWord_0 ++ dktX9_isWord_1
theorem dksX9_isWord_0 : cX9_isWord.data.toList.drop 0 = dktX9_isWord_0 := by decide +kernel
theorem dksX9_isWord_1 : cX9_isWord.data.toList.drop 24 = dktX9_isWord_1 := dk_seg dksX9_isWord_0 24 rfl rfl
theorem dksX9_isWord_2 : cX9_isWord.data.toList.drop 48 = dktX9_isWord_2 := dk_seg dksX9_isWord_1 24 rfl rfl
theorem dksX9_isWord_3 : cX9_isWord.data.toList.drop 72 = dktX9_isWord_3 := dk_seg dksX9_isWord_2 24 rfl rfl
theorem dX9_isWord_0 : decode cX9_isWord 0 = .ok (.aload_n 0, 1) := dk_42 (dk_at dksX9_isWord_0 0 rfl rfl)
theorem dX9_isWord_1 : decode cX9_isWord 1 = .ok (.getfield 40, 3) := dk_180 0 40 (dk_at dksX9_isWord_0 1 rfl rfl)
theorem dX9_isWord_4 : decode cX9_isWord 4 = .ok (.iconst 1, 1) := dk_4 (dk_at dksX9_isWord_0 4 rfl rfl)
theorem dX9_isWord_5 : decode cX9_isWord 5 = .ok (.if_icmp .ne 19, 3) := dk_160 0 19 (dk_at dksX9_isWord_0 5 rfl rfl)
theorem dX9_isWord_8 : decode cX9_isWord 8 = .ok (.aload_n 0, 1) := dk_42 (dk_at dksX9_isWord_0 8 rfl rfl)
theorem dX9_isWord_9 : decode cX9_isWord 9 = .ok (.getfield 30, 3) := dk_180 0 30 (dk_at dksX9_isWord_0 9 rfl rfl)
theorem dX9_isWord_12 : decode cX9_isWord 12 = .ok (.aload_n 0, 1) := dk_42 (dk_at dksX9_isWord_0 12 rfl rfl)
theorem dX9_isWord_13 : decode cX9_isWord 13 = .ok (.getfield 33, 3) := dk_180 0 33 (dk_at dksX9_isWord_0 13 rfl rfl)
theorem dX9_isWord_16 : decode cX9_isWord 16 = .ok (.isub, 1) := dk_100 (dk_at dksX9_isWord_0 16 rfl rfl)
theorem dX9_isWord_17 : decode cX9_isWord 17 = .ok (.aload_n 1, 1) := dk_43 (dk_at dksX9_isWord_0 17 rfl rfl)
theorem dX9_isWord_18 : decode cX9_isWord 18 = .ok (.invokevirtual 66, 3) := dk_182 0 66 (dk_at dksX9_isWord_0 18 rfl rfl)
theorem dX9_isWord_21 : decode cX9_isWord 21 = .ok (.if_icmp .eq 5, 3) := dk_159 0 5 (dk_at dksX9_isWord_0 21 rfl rfl)
theorem dX9_isWord_24 : decode cX9_isWord 24 = .ok (.iconst 0, 1) := dk_3 (dk_at dksX9_isWord_1 0 rfl rfl)
theorem dX9_isWord_25 : decode cX9_isWord 25 = .ok (.ireturn, 1) := dk_172 (dk_at dksX9_isWord_1 1 rfl rfl)
theorem dX9_isWord_26 : decode cX9_isWord 26 = .ok (.iconst 0, 1) := dk_3 (dk_at dksX9_isWord_1 2 rfl rfl)
theorem dX9_isWord_27 : decode cX9_isWord 27 = .ok (.istore_n 2, 1) := dk_61 (dk_at dksX9_isWord_1 3 rfl rfl)
theorem dX9_isWord_28 : decode cX9_isWord 28 = .ok (.iload_n 2, 1) := dk_28 (dk_at dksX9_isWord_1 4 rfl rfl)
theorem dX9_isWord_29 : decode cX9_isWord 29 = .ok (.aload_n 1, 1) := dk_43 (dk_at dksX9_isWord_1 5 rfl rfl)
theorem dX9_isWord_30 : decode cX9_isWord 30 = .ok (.invokevirtual 66, 3) := dk_182 0 66 (dk_at dksX9_isWord_1 6 rfl rfl)
theorem dX9_isWord_33 : decode cX9_isWord 33 = .ok (.if_icmp .ge 27, 3) := dk_162 0 27 (dk_at dksX9_isWord_1 9 rfl rfl)
theorem dX9_isWord_36 : decode cX9_isWord 36 = .ok (.aload_n 0, 1) := dk_42 (dk_at dksX9_isWord_1 12 rfl rfl)
theorem dX9_isWord_37 : decode cX9_isWord 37 = .ok (.aload_n 0, 1) := dk_42 (dk_at dksX9_isWord_1 13 rfl rfl)
theorem dX9_isWord_38 : decode cX9_isWord 38 = .ok (.getfield 33, 3) := dk_180 0 33 (dk_at dksX9_isWord_1 14 rfl rfl)
theorem dX9_isWord_41 : decode cX9_isWord 41 = .ok (.iload_n 2, 1) := dk_28 (dk_at dksX9_isWord_1 17 rfl rfl)
theorem dX9_isWord_42 : decode cX9_isWord 42 = .ok (.iadd, 1) := dk_96 (dk_at dksX9_isWord_1 18 rfl rfl)
theorem dX9_isWord_43 : decode cX9_isWord 43 = .ok (.invokevirtual 36, 3) := dk_182 0 36 (dk_at dksX9_isWord_1 19 rfl rfl)
theorem dX9_isWord_46 : decode cX9_isWord 46 = .ok (.aload_n 1, 1) := dk_43 (dk_at dksX9_isWord_1 22 rfl rfl)
theorem dX9_isWord_47 : decode cX9_isWord 47 = .ok (.iload_n 2, 1) := dk_28 (dk_at dksX9_isWord_1 23 rfl rfl)
theorem dX9_isWord_48 : decode cX9_isWord 48 = .ok (.invokevirtual 72, 3) := dk_182 0 72 (dk_at dksX9_isWord_2 0 rfl rfl)
theorem dX9_isWord_51 : decode cX9_isWord 51 = .ok (.if_icmp .ne 9, 3) := dk_160 0 9 (dk_at dksX9_isWord_2 3 rfl rfl)
theorem dX9_isWord_54 : decode cX9_isWord 54 = .ok (.iinc 2 1, 3) := dk_132 2 1 (dk_at dksX9_isWord_2 6 rfl rfl)
theorem dX9_isWord_57 : decode cX9_isWord 57 = .ok (.goto (-29), 3) := dk_167 255 227 (dk_at dksX9_isWord_2 9 rfl rfl)
theorem dX9_isWord_60 : decode cX9_isWord 60 = .ok (.iload_n 2, 1) := dk_28 (dk_at dksX9_isWord_2 12 rfl rfl)
theorem dX9_isWord_61 : decode cX9_isWord 61 = .ok (.aload_n 1, 1) := dk_43 (dk_at dksX9_isWord_2 13 rfl rfl)
theorem dX9_isWord_62 : decode cX9_isWord 62 = .ok (.invokevirtual 66, 3) := dk_182 0 66 (dk_at dksX9_isWord_2 14 rfl rfl)
theorem dX9_isWord_65 : decode cX9_isWord 65 = .ok (.if_icmp .ne 7, 3) := dk_160 0 7 (dk_at dksX9_isWord_2 17 rfl rfl)
theorem dX9_isWord_68 : decode cX9_isWord 68 = .ok (.iconst 1, 1) := dk_4 (dk_at dksX9_isWord_2 20 rfl rfl)
theorem dX9_isWord_69 : decode cX9_isWord 69 = .ok (.goto 4, 3) := dk_167 0 4 (dk_at dksX9_isWord_2 21 rfl rfl)
theorem dX9_isWord_72 : decode cX9_isWord 72 = .ok (.iconst 0, 1) := dk_3 (dk_at dksX9_isWord_3 0 rfl rfl)
theorem dX9_isWord_73 : decode cX9_isWord 73 = .ok (.ireturn, 1) := dk_172 (dk_at dksX9_isWord_3 1 rfl rfl)
abbrev cX9_wrong : ByteArray := prog_11_method_12_code
def yX9_wrong : MethodName := ⟨RX9, "wrong", "()LBoardCrossing$Wrong;"⟩
def dkwX9_wrong_1 : List UInt8 := [176]
abbrev dktX9_wrong_1 : List UInt8 := dkwX9_wrong_1 ++ []
def dkwX9_wrong_0 : List UInt8 := [42, 180, 0, 26, 42, 180, 0, 40, 7, 160, 0, 7, 4, 167, 0, 4, 5, 42, 180, 0, 33, 182, 0, 80]
abbrev dktX9_wrong_0 : List UInt8 := dkwX9_wrong_0 ++ dktX9_wrong_1
theorem dksX9_wrong_0 : cX9_wrong.data.toList.drop 0 = dktX9_wrong_0 := by decide +kernel
theorem dksX9_wrong_1 : cX9_wrong.data.toList.drop 24 = dktX9_wrong_1 := dk_seg dksX9_wrong_0 24 rfl rfl
theorem dX9_wrong_0 : decode cX9_wrong 0 = .ok (.aload_n 0, 1) := dk_42 (dk_at dksX9_wrong_0 0 rfl rfl)
theorem dX9_wrong_1 : decode cX9_wrong 1 = .ok (.getfield 26, 3) := dk_180 0 26 (dk_at dksX9_wrong_0 1 rfl rfl)
theorem dX9_wrong_4 : decode cX9_wrong 4 = .ok (.aload_n 0, 1) := dk_42 (dk_at dksX9_wrong_0 4 rfl rfl)
theorem dX9_wrong_5 : decode cX9_wrong 5 = .ok (.getfield 40, 3) := dk_180 0 40 (dk_at dksX9_wrong_0 5 rfl rfl)
theorem dX9_wrong_8 : decode cX9_wrong 8 = .ok (.iconst 4, 1) := dk_7 (dk_at dksX9_wrong_0 8 rfl rfl)
theorem dX9_wrong_9 : decode cX9_wrong 9 = .ok (.if_icmp .ne 7, 3) := dk_160 0 7 (dk_at dksX9_wrong_0 9 rfl rfl)
theorem dX9_wrong_12 : decode cX9_wrong 12 = .ok (.iconst 1, 1) := dk_4 (dk_at dksX9_wrong_0 12 rfl rfl)
theorem dX9_wrong_13 : decode cX9_wrong 13 = .ok (.goto 4, 3) := dk_167 0 4 (dk_at dksX9_wrong_0 13 rfl rfl)
theorem dX9_wrong_16 : decode cX9_wrong 16 = .ok (.iconst 2, 1) := dk_5 (dk_at dksX9_wrong_0 16 rfl rfl)
theorem dX9_wrong_17 : decode cX9_wrong 17 = .ok (.aload_n 0, 1) := dk_42 (dk_at dksX9_wrong_0 17 rfl rfl)
theorem dX9_wrong_18 : decode cX9_wrong 18 = .ok (.getfield 33, 3) := dk_180 0 33 (dk_at dksX9_wrong_0 18 rfl rfl)
theorem dX9_wrong_21 : decode cX9_wrong 21 = .ok (.invokevirtual 80, 3) := dk_182 0 80 (dk_at dksX9_wrong_0 21 rfl rfl)
theorem dX9_wrong_24 : decode cX9_wrong 24 = .ok (.areturn, 1) := dk_176 (dk_at dksX9_wrong_1 0 rfl rfl)
abbrev cX9_comes : ByteArray := prog_11_method_16_code
def yX9_comes : MethodName := ⟨RX9, "comes", "(Ljava/lang/String;)Z"⟩
def dkwX9_comes_0 : List UInt8 := [42, 43, 182, 0, 76, 61, 28, 153, 0, 7, 42, 182, 0, 90, 28, 172]
abbrev dktX9_comes_0 : List UInt8 := dkwX9_comes_0 ++ []
theorem dksX9_comes_0 : cX9_comes.data.toList.drop 0 = dktX9_comes_0 := by decide +kernel
theorem dX9_comes_0 : decode cX9_comes 0 = .ok (.aload_n 0, 1) := dk_42 (dk_at dksX9_comes_0 0 rfl rfl)
theorem dX9_comes_1 : decode cX9_comes 1 = .ok (.aload_n 1, 1) := dk_43 (dk_at dksX9_comes_0 1 rfl rfl)
theorem dX9_comes_2 : decode cX9_comes 2 = .ok (.invokevirtual 76, 3) := dk_182 0 76 (dk_at dksX9_comes_0 2 rfl rfl)
theorem dX9_comes_5 : decode cX9_comes 5 = .ok (.istore_n 2, 1) := dk_61 (dk_at dksX9_comes_0 5 rfl rfl)
theorem dX9_comes_6 : decode cX9_comes 6 = .ok (.iload_n 2, 1) := dk_28 (dk_at dksX9_comes_0 6 rfl rfl)
theorem dX9_comes_7 : decode cX9_comes 7 = .ok (.ifCond .eq 7, 3) := dk_153 0 7 (dk_at dksX9_comes_0 7 rfl rfl)
theorem dX9_comes_10 : decode cX9_comes 10 = .ok (.aload_n 0, 1) := dk_42 (dk_at dksX9_comes_0 10 rfl rfl)
theorem dX9_comes_11 : decode cX9_comes 11 = .ok (.invokevirtual 90, 3) := dk_182 0 90 (dk_at dksX9_comes_0 11 rfl rfl)
theorem dX9_comes_14 : decode cX9_comes 14 = .ok (.iload_n 2, 1) := dk_28 (dk_at dksX9_comes_0 14 rfl rfl)
theorem dX9_comes_15 : decode cX9_comes 15 = .ok (.ireturn, 1) := dk_172 (dk_at dksX9_comes_0 15 rfl rfl)
abbrev cX9_number : ByteArray := prog_11_method_14_code
def yX9_number : MethodName := ⟨RX9, "numbe\x72", "(II)I"⟩
def dkwX9_number_2 : List UInt8 := [62, 42, 182, 0, 90, 29, 172]
abbrev dktX9_number_2 : List UInt8 := dkwX9_number_2 ++ []
def dkwX9_number_1 : List UInt8 := [180, 0, 63, 28, 164, 0, 16, 42, 180, 0, 26, 7, 42, 180, 0, 33, 182, 0, 80, 191, 42, 180, 0, 63]
abbrev dktX9_number_1 : List UInt8 := dkwX9_number_1 ++ dktX9_number_2
def dkwX9_number_0 : List UInt8 := [42, 180, 0, 40, 5, 159, 0, 8, 42, 182, 0, 86, 191, 42, 180, 0, 63, 27, 161, 0, 11, 42]
abbrev dktX9_number_0 : List UInt8 := dkwX9_number_0 ++ dktX9_number_1
theorem dksX9_number_0 : cX9_number.data.toList.drop 0 = dktX9_number_0 := by decide +kernel
theorem dksX9_number_1 : cX9_number.data.toList.drop 22 = dktX9_number_1 := dk_seg dksX9_number_0 22 rfl rfl
theorem dksX9_number_2 : cX9_number.data.toList.drop 46 = dktX9_number_2 := dk_seg dksX9_number_1 24 rfl rfl
theorem dX9_number_0 : decode cX9_number 0 = .ok (.aload_n 0, 1) := dk_42 (dk_at dksX9_number_0 0 rfl rfl)
theorem dX9_number_1 : decode cX9_number 1 = .ok (.getfield 40, 3) := dk_180 0 40 (dk_at dksX9_number_0 1 rfl rfl)
theorem dX9_number_4 : decode cX9_number 4 = .ok (.iconst 2, 1) := dk_5 (dk_at dksX9_number_0 4 rfl rfl)
theorem dX9_number_5 : decode cX9_number 5 = .ok (.if_icmp .eq 8, 3) := dk_159 0 8 (dk_at dksX9_number_0 5 rfl rfl)
theorem dX9_number_8 : decode cX9_number 8 = .ok (.aload_n 0, 1) := dk_42 (dk_at dksX9_number_0 8 rfl rfl)
theorem dX9_number_9 : decode cX9_number 9 = .ok (.invokevirtual 86, 3) := dk_182 0 86 (dk_at dksX9_number_0 9 rfl rfl)
theorem dX9_number_12 : decode cX9_number 12 = .ok (.athrow, 1) := dk_191 (dk_at dksX9_number_0 12 rfl rfl)
theorem dX9_number_13 : decode cX9_number 13 = .ok (.aload_n 0, 1) := dk_42 (dk_at dksX9_number_0 13 rfl rfl)
theorem dX9_number_14 : decode cX9_number 14 = .ok (.getfield 63, 3) := dk_180 0 63 (dk_at dksX9_number_0 14 rfl rfl)
theorem dX9_number_17 : decode cX9_number 17 = .ok (.iload_n 1, 1) := dk_27 (dk_at dksX9_number_0 17 rfl rfl)
theorem dX9_number_18 : decode cX9_number 18 = .ok (.if_icmp .lt 11, 3) := dk_161 0 11 (dk_at dksX9_number_0 18 rfl rfl)
theorem dX9_number_21 : decode cX9_number 21 = .ok (.aload_n 0, 1) := dk_42 (dk_at dksX9_number_0 21 rfl rfl)
theorem dX9_number_22 : decode cX9_number 22 = .ok (.getfield 63, 3) := dk_180 0 63 (dk_at dksX9_number_1 0 rfl rfl)
theorem dX9_number_25 : decode cX9_number 25 = .ok (.iload_n 2, 1) := dk_28 (dk_at dksX9_number_1 3 rfl rfl)
theorem dX9_number_26 : decode cX9_number 26 = .ok (.if_icmp .le 16, 3) := dk_164 0 16 (dk_at dksX9_number_1 4 rfl rfl)
theorem dX9_number_29 : decode cX9_number 29 = .ok (.aload_n 0, 1) := dk_42 (dk_at dksX9_number_1 7 rfl rfl)
theorem dX9_number_30 : decode cX9_number 30 = .ok (.getfield 26, 3) := dk_180 0 26 (dk_at dksX9_number_1 8 rfl rfl)
theorem dX9_number_33 : decode cX9_number 33 = .ok (.iconst 4, 1) := dk_7 (dk_at dksX9_number_1 11 rfl rfl)
theorem dX9_number_34 : decode cX9_number 34 = .ok (.aload_n 0, 1) := dk_42 (dk_at dksX9_number_1 12 rfl rfl)
theorem dX9_number_35 : decode cX9_number 35 = .ok (.getfield 33, 3) := dk_180 0 33 (dk_at dksX9_number_1 13 rfl rfl)
theorem dX9_number_38 : decode cX9_number 38 = .ok (.invokevirtual 80, 3) := dk_182 0 80 (dk_at dksX9_number_1 16 rfl rfl)
theorem dX9_number_41 : decode cX9_number 41 = .ok (.athrow, 1) := dk_191 (dk_at dksX9_number_1 19 rfl rfl)
theorem dX9_number_42 : decode cX9_number 42 = .ok (.aload_n 0, 1) := dk_42 (dk_at dksX9_number_1 20 rfl rfl)
theorem dX9_number_43 : decode cX9_number 43 = .ok (.getfield 63, 3) := dk_180 0 63 (dk_at dksX9_number_1 21 rfl rfl)
theorem dX9_number_46 : decode cX9_number 46 = .ok (.istore_n 3, 1) := dk_62 (dk_at dksX9_number_2 0 rfl rfl)
theorem dX9_number_47 : decode cX9_number 47 = .ok (.aload_n 0, 1) := dk_42 (dk_at dksX9_number_2 1 rfl rfl)
theorem dX9_number_48 : decode cX9_number 48 = .ok (.invokevirtual 90, 3) := dk_182 0 90 (dk_at dksX9_number_2 2 rfl rfl)
theorem dX9_number_51 : decode cX9_number 51 = .ok (.iload_n 3, 1) := dk_29 (dk_at dksX9_number_2 5 rfl rfl)
theorem dX9_number_52 : decode cX9_number 52 = .ok (.ireturn, 1) := dk_172 (dk_at dksX9_number_2 6 rfl rfl)
abbrev cX9_after : ByteArray := prog_11_method_15_code
def yX9_after : MethodName := ⟨RX9, "afte\x72", "(Ljava/lang/String;II)I"⟩
def dkwX9_after_0 : List UInt8 := [42, 42, 43, 182, 0, 76, 182, 0, 93, 42, 28, 29, 182, 0, 97, 172]
abbrev dktX9_after_0 : List UInt8 := dkwX9_after_0 ++ []
theorem dksX9_after_0 : cX9_after.data.toList.drop 0 = dktX9_after_0 := by decide +kernel
theorem dX9_after_0 : decode cX9_after 0 = .ok (.aload_n 0, 1) := dk_42 (dk_at dksX9_after_0 0 rfl rfl)
theorem dX9_after_1 : decode cX9_after 1 = .ok (.aload_n 0, 1) := dk_42 (dk_at dksX9_after_0 1 rfl rfl)
theorem dX9_after_2 : decode cX9_after 2 = .ok (.aload_n 1, 1) := dk_43 (dk_at dksX9_after_0 2 rfl rfl)
theorem dX9_after_3 : decode cX9_after 3 = .ok (.invokevirtual 76, 3) := dk_182 0 76 (dk_at dksX9_after_0 3 rfl rfl)
theorem dX9_after_6 : decode cX9_after 6 = .ok (.invokevirtual 93, 3) := dk_182 0 93 (dk_at dksX9_after_0 6 rfl rfl)
theorem dX9_after_9 : decode cX9_after 9 = .ok (.aload_n 0, 1) := dk_42 (dk_at dksX9_after_0 9 rfl rfl)
theorem dX9_after_10 : decode cX9_after 10 = .ok (.iload_n 2, 1) := dk_28 (dk_at dksX9_after_0 10 rfl rfl)
theorem dX9_after_11 : decode cX9_after 11 = .ok (.iload_n 3, 1) := dk_29 (dk_at dksX9_after_0 11 rfl rfl)
theorem dX9_after_12 : decode cX9_after 12 = .ok (.invokevirtual 97, 3) := dk_182 0 97 (dk_at dksX9_after_0 12 rfl rfl)
theorem dX9_after_15 : decode cX9_after 15 = .ok (.ireturn, 1) := dk_172 (dk_at dksX9_after_0 15 rfl rfl)
abbrev cX9_must : ByteArray := prog_11_method_13_code
def yX9_must : MethodName := ⟨RX9, "must", "(Z)V"⟩
def dkwX9_must_0 : List UInt8 := [27, 154, 0, 8, 42, 182, 0, 86, 191, 42, 182, 0, 90, 177]
abbrev dktX9_must_0 : List UInt8 := dkwX9_must_0 ++ []
theorem dksX9_must_0 : cX9_must.data.toList.drop 0 = dktX9_must_0 := by decide +kernel
theorem dX9_must_0 : decode cX9_must 0 = .ok (.iload_n 1, 1) := dk_27 (dk_at dksX9_must_0 0 rfl rfl)
theorem dX9_must_1 : decode cX9_must 1 = .ok (.ifCond .ne 8, 3) := dk_154 0 8 (dk_at dksX9_must_0 1 rfl rfl)
theorem dX9_must_4 : decode cX9_must 4 = .ok (.aload_n 0, 1) := dk_42 (dk_at dksX9_must_0 4 rfl rfl)
theorem dX9_must_5 : decode cX9_must 5 = .ok (.invokevirtual 86, 3) := dk_182 0 86 (dk_at dksX9_must_0 5 rfl rfl)
theorem dX9_must_8 : decode cX9_must 8 = .ok (.athrow, 1) := dk_191 (dk_at dksX9_must_0 8 rfl rfl)
theorem dX9_must_9 : decode cX9_must 9 = .ok (.aload_n 0, 1) := dk_42 (dk_at dksX9_must_0 9 rfl rfl)
theorem dX9_must_10 : decode cX9_must 10 = .ok (.invokevirtual 90, 3) := dk_182 0 90 (dk_at dksX9_must_0 10 rfl rfl)
theorem dX9_must_13 : decode cX9_must 13 = .ok (.return_, 1) := dk_177 (dk_at dksX9_must_0 13 rfl rfl)
abbrev cX9_current : ByteArray := prog_11_method_19_code
def yX9_current : MethodName := ⟨RX9, "current", "()V"⟩
def dkwX9_current_2 : List UInt8 := [27, 79, 42, 180, 0, 12, 89, 180, 0, 147, 4, 96, 181, 0, 147, 177]
abbrev dktX9_current_2 : List UInt8 := dkwX9_current_2 ++ []
def dkwX9_current_1 : List UInt8 := [180, 0, 133, 42, 3, 42, 180, 0, 12, 180, 0, 137, 4, 100, 42, 180, 0, 12, 180, 0, 140, 182, 0, 144]
abbrev dktX9_current_1 : List UInt8 := dkwX9_current_1 ++ dktX9_current_2
def dkwX9_current_0 : List UInt8 := [42, 3, 16, 7, 182, 0, 97, 60, 42, 42, 18, 132, 182, 0, 76, 182, 0, 93, 42, 180, 0, 12]
abbrev dktX9_current_0 : List UInt8 := dkwX9_current_0 ++ dktX9_current_1
theorem dksX9_current_0 : cX9_current.data.toList.drop 0 = dktX9_current_0 := by decide +kernel
theorem dksX9_current_1 : cX9_current.data.toList.drop 22 = dktX9_current_1 := dk_seg dksX9_current_0 22 rfl rfl
theorem dksX9_current_2 : cX9_current.data.toList.drop 46 = dktX9_current_2 := dk_seg dksX9_current_1 24 rfl rfl
theorem dX9_current_0 : decode cX9_current 0 = .ok (.aload_n 0, 1) := dk_42 (dk_at dksX9_current_0 0 rfl rfl)
theorem dX9_current_1 : decode cX9_current 1 = .ok (.iconst 0, 1) := dk_3 (dk_at dksX9_current_0 1 rfl rfl)
theorem dX9_current_2 : decode cX9_current 2 = .ok (.bipush 7, 2) := dk_16 7 (dk_at dksX9_current_0 2 rfl rfl)
theorem dX9_current_4 : decode cX9_current 4 = .ok (.invokevirtual 97, 3) := dk_182 0 97 (dk_at dksX9_current_0 4 rfl rfl)
theorem dX9_current_7 : decode cX9_current 7 = .ok (.istore_n 1, 1) := dk_60 (dk_at dksX9_current_0 7 rfl rfl)
theorem dX9_current_8 : decode cX9_current 8 = .ok (.aload_n 0, 1) := dk_42 (dk_at dksX9_current_0 8 rfl rfl)
theorem dX9_current_9 : decode cX9_current 9 = .ok (.aload_n 0, 1) := dk_42 (dk_at dksX9_current_0 9 rfl rfl)
theorem dX9_current_10 : decode cX9_current 10 = .ok (.ldc 132, 2) := dk_18 132 (dk_at dksX9_current_0 10 rfl rfl)
theorem dX9_current_12 : decode cX9_current 12 = .ok (.invokevirtual 76, 3) := dk_182 0 76 (dk_at dksX9_current_0 12 rfl rfl)
theorem dX9_current_15 : decode cX9_current 15 = .ok (.invokevirtual 93, 3) := dk_182 0 93 (dk_at dksX9_current_0 15 rfl rfl)
theorem dX9_current_18 : decode cX9_current 18 = .ok (.aload_n 0, 1) := dk_42 (dk_at dksX9_current_0 18 rfl rfl)
theorem dX9_current_19 : decode cX9_current 19 = .ok (.getfield 12, 3) := dk_180 0 12 (dk_at dksX9_current_0 19 rfl rfl)
theorem dX9_current_22 : decode cX9_current 22 = .ok (.getfield 133, 3) := dk_180 0 133 (dk_at dksX9_current_1 0 rfl rfl)
theorem dX9_current_25 : decode cX9_current 25 = .ok (.aload_n 0, 1) := dk_42 (dk_at dksX9_current_1 3 rfl rfl)
theorem dX9_current_26 : decode cX9_current 26 = .ok (.iconst 0, 1) := dk_3 (dk_at dksX9_current_1 4 rfl rfl)
theorem dX9_current_27 : decode cX9_current 27 = .ok (.aload_n 0, 1) := dk_42 (dk_at dksX9_current_1 5 rfl rfl)
theorem dX9_current_28 : decode cX9_current 28 = .ok (.getfield 12, 3) := dk_180 0 12 (dk_at dksX9_current_1 6 rfl rfl)
theorem dX9_current_31 : decode cX9_current 31 = .ok (.getfield 137, 3) := dk_180 0 137 (dk_at dksX9_current_1 9 rfl rfl)
theorem dX9_current_34 : decode cX9_current 34 = .ok (.iconst 1, 1) := dk_4 (dk_at dksX9_current_1 12 rfl rfl)
theorem dX9_current_35 : decode cX9_current 35 = .ok (.isub, 1) := dk_100 (dk_at dksX9_current_1 13 rfl rfl)
theorem dX9_current_36 : decode cX9_current 36 = .ok (.aload_n 0, 1) := dk_42 (dk_at dksX9_current_1 14 rfl rfl)
theorem dX9_current_37 : decode cX9_current 37 = .ok (.getfield 12, 3) := dk_180 0 12 (dk_at dksX9_current_1 15 rfl rfl)
theorem dX9_current_40 : decode cX9_current 40 = .ok (.getfield 140, 3) := dk_180 0 140 (dk_at dksX9_current_1 18 rfl rfl)
theorem dX9_current_43 : decode cX9_current 43 = .ok (.invokevirtual 144, 3) := dk_182 0 144 (dk_at dksX9_current_1 21 rfl rfl)
theorem dX9_current_46 : decode cX9_current 46 = .ok (.iload_n 1, 1) := dk_27 (dk_at dksX9_current_2 0 rfl rfl)
theorem dX9_current_47 : decode cX9_current 47 = .ok (.iastore, 1) := dk_79 (dk_at dksX9_current_2 1 rfl rfl)
theorem dX9_current_48 : decode cX9_current 48 = .ok (.aload_n 0, 1) := dk_42 (dk_at dksX9_current_2 2 rfl rfl)
theorem dX9_current_49 : decode cX9_current 49 = .ok (.getfield 12, 3) := dk_180 0 12 (dk_at dksX9_current_2 3 rfl rfl)
theorem dX9_current_52 : decode cX9_current 52 = .ok (.dup, 1) := dk_89 (dk_at dksX9_current_2 6 rfl rfl)
theorem dX9_current_53 : decode cX9_current 53 = .ok (.getfield 147, 3) := dk_180 0 147 (dk_at dksX9_current_2 7 rfl rfl)
theorem dX9_current_56 : decode cX9_current 56 = .ok (.iconst 1, 1) := dk_4 (dk_at dksX9_current_2 10 rfl rfl)
theorem dX9_current_57 : decode cX9_current 57 = .ok (.iadd, 1) := dk_96 (dk_at dksX9_current_2 11 rfl rfl)
theorem dX9_current_58 : decode cX9_current 58 = .ok (.putfield 147, 3) := dk_181 0 147 (dk_at dksX9_current_2 12 rfl rfl)
theorem dX9_current_61 : decode cX9_current 61 = .ok (.return_, 1) := dk_177 (dk_at dksX9_current_2 15 rfl rfl)
abbrev cX9_cell : ByteArray := prog_11_method_18_code
def yX9_cell : MethodName := ⟨RX9, "cell", "(II[Z)I"⟩
def dkwX9_cell_2 : List UInt8 := [180, 0, 26, 6, 21, 5, 182, 0, 80, 191, 45, 21, 6, 4, 84, 21, 6, 172]
abbrev dktX9_cell_2 : List UInt8 := dkwX9_cell_2 ++ []
def dkwX9_cell_1 : List UInt8 := [180, 0, 12, 21, 4, 42, 27, 28, 182, 0, 97, 182, 0, 129, 54, 6, 45, 21, 6, 51, 153, 0, 14, 42]
abbrev dktX9_cell_1 : List UInt8 := dkwX9_cell_1 ++ dktX9_cell_2
def dkwX9_cell_0 : List UInt8 := [42, 3, 42, 180, 0, 12, 180, 0, 126, 4, 100, 182, 0, 97, 54, 4, 42, 180, 0, 33, 54, 5, 42]
abbrev dktX9_cell_0 : List UInt8 := dkwX9_cell_0 ++ dktX9_cell_1
theorem dksX9_cell_0 : cX9_cell.data.toList.drop 0 = dktX9_cell_0 := by decide +kernel
theorem dksX9_cell_1 : cX9_cell.data.toList.drop 23 = dktX9_cell_1 := dk_seg dksX9_cell_0 23 rfl rfl
theorem dksX9_cell_2 : cX9_cell.data.toList.drop 47 = dktX9_cell_2 := dk_seg dksX9_cell_1 24 rfl rfl
theorem dX9_cell_0 : decode cX9_cell 0 = .ok (.aload_n 0, 1) := dk_42 (dk_at dksX9_cell_0 0 rfl rfl)
theorem dX9_cell_1 : decode cX9_cell 1 = .ok (.iconst 0, 1) := dk_3 (dk_at dksX9_cell_0 1 rfl rfl)
theorem dX9_cell_2 : decode cX9_cell 2 = .ok (.aload_n 0, 1) := dk_42 (dk_at dksX9_cell_0 2 rfl rfl)
theorem dX9_cell_3 : decode cX9_cell 3 = .ok (.getfield 12, 3) := dk_180 0 12 (dk_at dksX9_cell_0 3 rfl rfl)
theorem dX9_cell_6 : decode cX9_cell 6 = .ok (.getfield 126, 3) := dk_180 0 126 (dk_at dksX9_cell_0 6 rfl rfl)
theorem dX9_cell_9 : decode cX9_cell 9 = .ok (.iconst 1, 1) := dk_4 (dk_at dksX9_cell_0 9 rfl rfl)
theorem dX9_cell_10 : decode cX9_cell 10 = .ok (.isub, 1) := dk_100 (dk_at dksX9_cell_0 10 rfl rfl)
theorem dX9_cell_11 : decode cX9_cell 11 = .ok (.invokevirtual 97, 3) := dk_182 0 97 (dk_at dksX9_cell_0 11 rfl rfl)
theorem dX9_cell_14 : decode cX9_cell 14 = .ok (.istore 4, 2) := dk_54 4 (dk_at dksX9_cell_0 14 rfl rfl)
theorem dX9_cell_16 : decode cX9_cell 16 = .ok (.aload_n 0, 1) := dk_42 (dk_at dksX9_cell_0 16 rfl rfl)
theorem dX9_cell_17 : decode cX9_cell 17 = .ok (.getfield 33, 3) := dk_180 0 33 (dk_at dksX9_cell_0 17 rfl rfl)
theorem dX9_cell_20 : decode cX9_cell 20 = .ok (.istore 5, 2) := dk_54 5 (dk_at dksX9_cell_0 20 rfl rfl)
theorem dX9_cell_22 : decode cX9_cell 22 = .ok (.aload_n 0, 1) := dk_42 (dk_at dksX9_cell_0 22 rfl rfl)
theorem dX9_cell_23 : decode cX9_cell 23 = .ok (.getfield 12, 3) := dk_180 0 12 (dk_at dksX9_cell_1 0 rfl rfl)
theorem dX9_cell_26 : decode cX9_cell 26 = .ok (.iload 4, 2) := dk_21 4 (dk_at dksX9_cell_1 3 rfl rfl)
theorem dX9_cell_28 : decode cX9_cell 28 = .ok (.aload_n 0, 1) := dk_42 (dk_at dksX9_cell_1 5 rfl rfl)
theorem dX9_cell_29 : decode cX9_cell 29 = .ok (.iload_n 1, 1) := dk_27 (dk_at dksX9_cell_1 6 rfl rfl)
theorem dX9_cell_30 : decode cX9_cell 30 = .ok (.iload_n 2, 1) := dk_28 (dk_at dksX9_cell_1 7 rfl rfl)
theorem dX9_cell_31 : decode cX9_cell 31 = .ok (.invokevirtual 97, 3) := dk_182 0 97 (dk_at dksX9_cell_1 8 rfl rfl)
theorem dX9_cell_34 : decode cX9_cell 34 = .ok (.invokevirtual 129, 3) := dk_182 0 129 (dk_at dksX9_cell_1 11 rfl rfl)
theorem dX9_cell_37 : decode cX9_cell 37 = .ok (.istore 6, 2) := dk_54 6 (dk_at dksX9_cell_1 14 rfl rfl)
theorem dX9_cell_39 : decode cX9_cell 39 = .ok (.aload_n 3, 1) := dk_45 (dk_at dksX9_cell_1 16 rfl rfl)
theorem dX9_cell_40 : decode cX9_cell 40 = .ok (.iload 6, 2) := dk_21 6 (dk_at dksX9_cell_1 17 rfl rfl)
theorem dX9_cell_42 : decode cX9_cell 42 = .ok (.baload, 1) := dk_51 (dk_at dksX9_cell_1 19 rfl rfl)
theorem dX9_cell_43 : decode cX9_cell 43 = .ok (.ifCond .eq 14, 3) := dk_153 0 14 (dk_at dksX9_cell_1 20 rfl rfl)
theorem dX9_cell_46 : decode cX9_cell 46 = .ok (.aload_n 0, 1) := dk_42 (dk_at dksX9_cell_1 23 rfl rfl)
theorem dX9_cell_47 : decode cX9_cell 47 = .ok (.getfield 26, 3) := dk_180 0 26 (dk_at dksX9_cell_2 0 rfl rfl)
theorem dX9_cell_50 : decode cX9_cell 50 = .ok (.iconst 3, 1) := dk_6 (dk_at dksX9_cell_2 3 rfl rfl)
theorem dX9_cell_51 : decode cX9_cell 51 = .ok (.iload 5, 2) := dk_21 5 (dk_at dksX9_cell_2 4 rfl rfl)
theorem dX9_cell_53 : decode cX9_cell 53 = .ok (.invokevirtual 80, 3) := dk_182 0 80 (dk_at dksX9_cell_2 6 rfl rfl)
theorem dX9_cell_56 : decode cX9_cell 56 = .ok (.athrow, 1) := dk_191 (dk_at dksX9_cell_2 9 rfl rfl)
theorem dX9_cell_57 : decode cX9_cell 57 = .ok (.aload_n 3, 1) := dk_45 (dk_at dksX9_cell_2 10 rfl rfl)
theorem dX9_cell_58 : decode cX9_cell 58 = .ok (.iload 6, 2) := dk_21 6 (dk_at dksX9_cell_2 11 rfl rfl)
theorem dX9_cell_60 : decode cX9_cell 60 = .ok (.iconst 1, 1) := dk_4 (dk_at dksX9_cell_2 13 rfl rfl)
theorem dX9_cell_61 : decode cX9_cell 61 = .ok (.bastore, 1) := dk_84 (dk_at dksX9_cell_2 14 rfl rfl)
theorem dX9_cell_62 : decode cX9_cell 62 = .ok (.iload 6, 2) := dk_21 6 (dk_at dksX9_cell_2 15 rfl rfl)
theorem dX9_cell_64 : decode cX9_cell 64 = .ok (.ireturn, 1) := dk_172 (dk_at dksX9_cell_2 17 rfl rfl)
abbrev cX9_iron : ByteArray := prog_11_method_20_code
def yX9_iron : MethodName := ⟨RX9, "iron", "()V"⟩
def dkwX9_iron_1 : List UInt8 := [180, 0, 12, 89, 180, 0, 153, 4, 96, 181, 0, 153, 177]
abbrev dktX9_iron_1 : List UInt8 := dkwX9_iron_1 ++ []
def dkwX9_iron_0 : List UInt8 := [42, 4, 42, 180, 0, 12, 180, 0, 137, 4, 100, 42, 180, 0, 12, 180, 0, 150, 182, 0, 144, 60, 42]
abbrev dktX9_iron_0 : List UInt8 := dkwX9_iron_0 ++ dktX9_iron_1
theorem dksX9_iron_0 : cX9_iron.data.toList.drop 0 = dktX9_iron_0 := by decide +kernel
theorem dksX9_iron_1 : cX9_iron.data.toList.drop 23 = dktX9_iron_1 := dk_seg dksX9_iron_0 23 rfl rfl
theorem dX9_iron_0 : decode cX9_iron 0 = .ok (.aload_n 0, 1) := dk_42 (dk_at dksX9_iron_0 0 rfl rfl)
theorem dX9_iron_1 : decode cX9_iron 1 = .ok (.iconst 1, 1) := dk_4 (dk_at dksX9_iron_0 1 rfl rfl)
theorem dX9_iron_2 : decode cX9_iron 2 = .ok (.aload_n 0, 1) := dk_42 (dk_at dksX9_iron_0 2 rfl rfl)
theorem dX9_iron_3 : decode cX9_iron 3 = .ok (.getfield 12, 3) := dk_180 0 12 (dk_at dksX9_iron_0 3 rfl rfl)
theorem dX9_iron_6 : decode cX9_iron 6 = .ok (.getfield 137, 3) := dk_180 0 137 (dk_at dksX9_iron_0 6 rfl rfl)
theorem dX9_iron_9 : decode cX9_iron 9 = .ok (.iconst 1, 1) := dk_4 (dk_at dksX9_iron_0 9 rfl rfl)
theorem dX9_iron_10 : decode cX9_iron 10 = .ok (.isub, 1) := dk_100 (dk_at dksX9_iron_0 10 rfl rfl)
theorem dX9_iron_11 : decode cX9_iron 11 = .ok (.aload_n 0, 1) := dk_42 (dk_at dksX9_iron_0 11 rfl rfl)
theorem dX9_iron_12 : decode cX9_iron 12 = .ok (.getfield 12, 3) := dk_180 0 12 (dk_at dksX9_iron_0 12 rfl rfl)
theorem dX9_iron_15 : decode cX9_iron 15 = .ok (.getfield 150, 3) := dk_180 0 150 (dk_at dksX9_iron_0 15 rfl rfl)
theorem dX9_iron_18 : decode cX9_iron 18 = .ok (.invokevirtual 144, 3) := dk_182 0 144 (dk_at dksX9_iron_0 18 rfl rfl)
theorem dX9_iron_21 : decode cX9_iron 21 = .ok (.istore_n 1, 1) := dk_60 (dk_at dksX9_iron_0 21 rfl rfl)
theorem dX9_iron_22 : decode cX9_iron 22 = .ok (.aload_n 0, 1) := dk_42 (dk_at dksX9_iron_0 22 rfl rfl)
theorem dX9_iron_23 : decode cX9_iron 23 = .ok (.getfield 12, 3) := dk_180 0 12 (dk_at dksX9_iron_1 0 rfl rfl)
theorem dX9_iron_26 : decode cX9_iron 26 = .ok (.dup, 1) := dk_89 (dk_at dksX9_iron_1 3 rfl rfl)
theorem dX9_iron_27 : decode cX9_iron 27 = .ok (.getfield 153, 3) := dk_180 0 153 (dk_at dksX9_iron_1 4 rfl rfl)
theorem dX9_iron_30 : decode cX9_iron 30 = .ok (.iconst 1, 1) := dk_4 (dk_at dksX9_iron_1 7 rfl rfl)
theorem dX9_iron_31 : decode cX9_iron 31 = .ok (.iadd, 1) := dk_96 (dk_at dksX9_iron_1 8 rfl rfl)
theorem dX9_iron_32 : decode cX9_iron 32 = .ok (.putfield 153, 3) := dk_181 0 153 (dk_at dksX9_iron_1 9 rfl rfl)
theorem dX9_iron_35 : decode cX9_iron 35 = .ok (.return_, 1) := dk_177 (dk_at dksX9_iron_1 12 rfl rfl)
abbrev cX9_board : ByteArray := prog_11_method_21_code
def yX9_board : MethodName := ⟨RX9, "board", "()V"⟩
def dkwX9_board_3 : List UInt8 := [181, 0, 183, 42, 180, 0, 12, 180, 0, 158, 43, 182, 0, 185, 87, 177]
abbrev dktX9_board_3 : List UInt8 := dkwX9_board_3 ++ []
def dkwX9_board_2 : List UInt8 := [182, 0, 171, 181, 0, 177, 42, 18, 178, 182, 0, 180, 153, 0, 14, 43, 42, 3, 16, 99, 182, 0, 97]
abbrev dktX9_board_2 : List UInt8 := dkwX9_board_2 ++ dktX9_board_3
def dkwX9_board_1 : List UInt8 := [16, 99, 182, 0, 171, 181, 0, 175, 43, 42, 18, 132, 3, 42, 180, 0, 12, 180, 0, 126, 4, 100]
abbrev dktX9_board_1 : List UInt8 := dkwX9_board_1 ++ dktX9_board_2
def dkwX9_board_0 : List UInt8 := [187, 0, 156, 89, 42, 42, 180, 0, 12, 180, 0, 158, 182, 0, 162, 183, 0, 166, 76, 43, 42, 18, 169, 3]
abbrev dktX9_board_0 : List UInt8 := dkwX9_board_0 ++ dktX9_board_1
theorem dksX9_board_0 : cX9_board.data.toList.drop 0 = dktX9_board_0 := by decide +kernel
theorem dksX9_board_1 : cX9_board.data.toList.drop 24 = dktX9_board_1 := dk_seg dksX9_board_0 24 rfl rfl
theorem dksX9_board_2 : cX9_board.data.toList.drop 46 = dktX9_board_2 := dk_seg dksX9_board_1 22 rfl rfl
theorem dksX9_board_3 : cX9_board.data.toList.drop 69 = dktX9_board_3 := dk_seg dksX9_board_2 23 rfl rfl
theorem dX9_board_0 : decode cX9_board 0 = .ok (.new 156, 3) := dk_187 0 156 (dk_at dksX9_board_0 0 rfl rfl)
theorem dX9_board_3 : decode cX9_board 3 = .ok (.dup, 1) := dk_89 (dk_at dksX9_board_0 3 rfl rfl)
theorem dX9_board_4 : decode cX9_board 4 = .ok (.aload_n 0, 1) := dk_42 (dk_at dksX9_board_0 4 rfl rfl)
theorem dX9_board_5 : decode cX9_board 5 = .ok (.aload_n 0, 1) := dk_42 (dk_at dksX9_board_0 5 rfl rfl)
theorem dX9_board_6 : decode cX9_board 6 = .ok (.getfield 12, 3) := dk_180 0 12 (dk_at dksX9_board_0 6 rfl rfl)
theorem dX9_board_9 : decode cX9_board 9 = .ok (.getfield 158, 3) := dk_180 0 158 (dk_at dksX9_board_0 9 rfl rfl)
theorem dX9_board_12 : decode cX9_board 12 = .ok (.invokevirtual 162, 3) := dk_182 0 162 (dk_at dksX9_board_0 12 rfl rfl)
theorem dX9_board_15 : decode cX9_board 15 = .ok (.invokespecial 166, 3) := dk_183 0 166 (dk_at dksX9_board_0 15 rfl rfl)
theorem dX9_board_18 : decode cX9_board 18 = .ok (.astore_n 1, 1) := dk_76 (dk_at dksX9_board_0 18 rfl rfl)
theorem dX9_board_19 : decode cX9_board 19 = .ok (.aload_n 1, 1) := dk_43 (dk_at dksX9_board_0 19 rfl rfl)
theorem dX9_board_20 : decode cX9_board 20 = .ok (.aload_n 0, 1) := dk_42 (dk_at dksX9_board_0 20 rfl rfl)
theorem dX9_board_21 : decode cX9_board 21 = .ok (.ldc 169, 2) := dk_18 169 (dk_at dksX9_board_0 21 rfl rfl)
theorem dX9_board_23 : decode cX9_board 23 = .ok (.iconst 0, 1) := dk_3 (dk_at dksX9_board_0 23 rfl rfl)
theorem dX9_board_24 : decode cX9_board 24 = .ok (.bipush 99, 2) := dk_16 99 (dk_at dksX9_board_1 0 rfl rfl)
theorem dX9_board_26 : decode cX9_board 26 = .ok (.invokevirtual 171, 3) := dk_182 0 171 (dk_at dksX9_board_1 2 rfl rfl)
theorem dX9_board_29 : decode cX9_board 29 = .ok (.putfield 175, 3) := dk_181 0 175 (dk_at dksX9_board_1 5 rfl rfl)
theorem dX9_board_32 : decode cX9_board 32 = .ok (.aload_n 1, 1) := dk_43 (dk_at dksX9_board_1 8 rfl rfl)
theorem dX9_board_33 : decode cX9_board 33 = .ok (.aload_n 0, 1) := dk_42 (dk_at dksX9_board_1 9 rfl rfl)
theorem dX9_board_34 : decode cX9_board 34 = .ok (.ldc 132, 2) := dk_18 132 (dk_at dksX9_board_1 10 rfl rfl)
theorem dX9_board_36 : decode cX9_board 36 = .ok (.iconst 0, 1) := dk_3 (dk_at dksX9_board_1 12 rfl rfl)
theorem dX9_board_37 : decode cX9_board 37 = .ok (.aload_n 0, 1) := dk_42 (dk_at dksX9_board_1 13 rfl rfl)
theorem dX9_board_38 : decode cX9_board 38 = .ok (.getfield 12, 3) := dk_180 0 12 (dk_at dksX9_board_1 14 rfl rfl)
theorem dX9_board_41 : decode cX9_board 41 = .ok (.getfield 126, 3) := dk_180 0 126 (dk_at dksX9_board_1 17 rfl rfl)
theorem dX9_board_44 : decode cX9_board 44 = .ok (.iconst 1, 1) := dk_4 (dk_at dksX9_board_1 20 rfl rfl)
theorem dX9_board_45 : decode cX9_board 45 = .ok (.isub, 1) := dk_100 (dk_at dksX9_board_1 21 rfl rfl)
theorem dX9_board_46 : decode cX9_board 46 = .ok (.invokevirtual 171, 3) := dk_182 0 171 (dk_at dksX9_board_2 0 rfl rfl)
theorem dX9_board_49 : decode cX9_board 49 = .ok (.putfield 177, 3) := dk_181 0 177 (dk_at dksX9_board_2 3 rfl rfl)
theorem dX9_board_52 : decode cX9_board 52 = .ok (.aload_n 0, 1) := dk_42 (dk_at dksX9_board_2 6 rfl rfl)
theorem dX9_board_53 : decode cX9_board 53 = .ok (.ldc 178, 2) := dk_18 178 (dk_at dksX9_board_2 7 rfl rfl)
theorem dX9_board_55 : decode cX9_board 55 = .ok (.invokevirtual 180, 3) := dk_182 0 180 (dk_at dksX9_board_2 9 rfl rfl)
theorem dX9_board_58 : decode cX9_board 58 = .ok (.ifCond .eq 14, 3) := dk_153 0 14 (dk_at dksX9_board_2 12 rfl rfl)
theorem dX9_board_61 : decode cX9_board 61 = .ok (.aload_n 1, 1) := dk_43 (dk_at dksX9_board_2 15 rfl rfl)
theorem dX9_board_62 : decode cX9_board 62 = .ok (.aload_n 0, 1) := dk_42 (dk_at dksX9_board_2 16 rfl rfl)
theorem dX9_board_63 : decode cX9_board 63 = .ok (.iconst 0, 1) := dk_3 (dk_at dksX9_board_2 17 rfl rfl)
theorem dX9_board_64 : decode cX9_board 64 = .ok (.bipush 99, 2) := dk_16 99 (dk_at dksX9_board_2 18 rfl rfl)
theorem dX9_board_66 : decode cX9_board 66 = .ok (.invokevirtual 97, 3) := dk_182 0 97 (dk_at dksX9_board_2 20 rfl rfl)
theorem dX9_board_69 : decode cX9_board 69 = .ok (.putfield 183, 3) := dk_181 0 183 (dk_at dksX9_board_3 0 rfl rfl)
theorem dX9_board_72 : decode cX9_board 72 = .ok (.aload_n 0, 1) := dk_42 (dk_at dksX9_board_3 3 rfl rfl)
theorem dX9_board_73 : decode cX9_board 73 = .ok (.getfield 12, 3) := dk_180 0 12 (dk_at dksX9_board_3 4 rfl rfl)
theorem dX9_board_76 : decode cX9_board 76 = .ok (.getfield 158, 3) := dk_180 0 158 (dk_at dksX9_board_3 7 rfl rfl)
theorem dX9_board_79 : decode cX9_board 79 = .ok (.aload_n 1, 1) := dk_43 (dk_at dksX9_board_3 10 rfl rfl)
theorem dX9_board_80 : decode cX9_board 80 = .ok (.invokevirtual 185, 3) := dk_182 0 185 (dk_at dksX9_board_3 11 rfl rfl)
theorem dX9_board_83 : decode cX9_board 83 = .ok (.pop, 1) := dk_87 (dk_at dksX9_board_3 14 rfl rfl)
theorem dX9_board_84 : decode cX9_board 84 = .ok (.return_, 1) := dk_177 (dk_at dksX9_board_3 15 rfl rfl)
abbrev cX9_fresh : ByteArray := prog_11_method_17_code
def yX9_fresh : MethodName := ⟨RX9, "fresh", "(Ljava/util/ArrayList;)J"⟩
def dkwX9_fresh_3 : List UInt8 := [167, 255, 212, 42, 180, 0, 59, 65, 42, 182, 0, 90, 32, 173]
abbrev dktX9_fresh_3 : List UInt8 := dkwX9_fresh_3 ++ []
def dkwX9_fresh_2 : List UInt8 := [180, 0, 125, 42, 180, 0, 59, 148, 154, 0, 16, 42, 180, 0, 26, 6, 42, 180, 0, 33, 182, 0, 80, 191]
abbrev dktX9_fresh_2 : List UInt8 := dkwX9_fresh_2 ++ dktX9_fresh_3
def dkwX9_fresh_1 : List UInt8 := [182, 0, 108, 77, 44, 185, 0, 114, 1, 0, 153, 0, 41, 44, 185, 0, 120, 1, 0, 192, 0, 123, 78, 45]
abbrev dktX9_fresh_1 : List UInt8 := dkwX9_fresh_1 ++ dktX9_fresh_2
def dkwX9_fresh_0 : List UInt8 := [42, 180, 0, 40, 4, 160, 0, 13, 42, 178, 0, 100, 182, 0, 104, 155, 0, 8, 42, 182, 0, 86, 191, 43]
abbrev dktX9_fresh_0 : List UInt8 := dkwX9_fresh_0 ++ dktX9_fresh_1
theorem dksX9_fresh_0 : cX9_fresh.data.toList.drop 0 = dktX9_fresh_0 := by decide +kernel
theorem dksX9_fresh_1 : cX9_fresh.data.toList.drop 24 = dktX9_fresh_1 := dk_seg dksX9_fresh_0 24 rfl rfl
theorem dksX9_fresh_2 : cX9_fresh.data.toList.drop 48 = dktX9_fresh_2 := dk_seg dksX9_fresh_1 24 rfl rfl
theorem dksX9_fresh_3 : cX9_fresh.data.toList.drop 72 = dktX9_fresh_3 := dk_seg dksX9_fresh_2 24 rfl rfl
theorem dX9_fresh_0 : decode cX9_fresh 0 = .ok (.aload_n 0, 1) := dk_42 (dk_at dksX9_fresh_0 0 rfl rfl)
theorem dX9_fresh_1 : decode cX9_fresh 1 = .ok (.getfield 40, 3) := dk_180 0 40 (dk_at dksX9_fresh_0 1 rfl rfl)
theorem dX9_fresh_4 : decode cX9_fresh 4 = .ok (.iconst 1, 1) := dk_4 (dk_at dksX9_fresh_0 4 rfl rfl)
theorem dX9_fresh_5 : decode cX9_fresh 5 = .ok (.if_icmp .ne 13, 3) := dk_160 0 13 (dk_at dksX9_fresh_0 5 rfl rfl)
theorem dX9_fresh_8 : decode cX9_fresh 8 = .ok (.aload_n 0, 1) := dk_42 (dk_at dksX9_fresh_0 8 rfl rfl)
theorem dX9_fresh_9 : decode cX9_fresh 9 = .ok (.getstatic 100, 3) := dk_178 0 100 (dk_at dksX9_fresh_0 9 rfl rfl)
theorem dX9_fresh_12 : decode cX9_fresh 12 = .ok (.invokevirtual 104, 3) := dk_182 0 104 (dk_at dksX9_fresh_0 12 rfl rfl)
theorem dX9_fresh_15 : decode cX9_fresh 15 = .ok (.ifCond .lt 8, 3) := dk_155 0 8 (dk_at dksX9_fresh_0 15 rfl rfl)
theorem dX9_fresh_18 : decode cX9_fresh 18 = .ok (.aload_n 0, 1) := dk_42 (dk_at dksX9_fresh_0 18 rfl rfl)
theorem dX9_fresh_19 : decode cX9_fresh 19 = .ok (.invokevirtual 86, 3) := dk_182 0 86 (dk_at dksX9_fresh_0 19 rfl rfl)
theorem dX9_fresh_22 : decode cX9_fresh 22 = .ok (.athrow, 1) := dk_191 (dk_at dksX9_fresh_0 22 rfl rfl)
theorem dX9_fresh_23 : decode cX9_fresh 23 = .ok (.aload_n 1, 1) := dk_43 (dk_at dksX9_fresh_0 23 rfl rfl)
theorem dX9_fresh_24 : decode cX9_fresh 24 = .ok (.invokevirtual 108, 3) := dk_182 0 108 (dk_at dksX9_fresh_1 0 rfl rfl)
theorem dX9_fresh_27 : decode cX9_fresh 27 = .ok (.astore_n 2, 1) := dk_77 (dk_at dksX9_fresh_1 3 rfl rfl)
theorem dX9_fresh_28 : decode cX9_fresh 28 = .ok (.aload_n 2, 1) := dk_44 (dk_at dksX9_fresh_1 4 rfl rfl)
theorem dX9_fresh_29 : decode cX9_fresh 29 = .ok (.invokeinterface 114 1, 5) := by decide +kernel
theorem dX9_fresh_34 : decode cX9_fresh 34 = .ok (.ifCond .eq 41, 3) := dk_153 0 41 (dk_at dksX9_fresh_1 10 rfl rfl)
theorem dX9_fresh_37 : decode cX9_fresh 37 = .ok (.aload_n 2, 1) := dk_44 (dk_at dksX9_fresh_1 13 rfl rfl)
theorem dX9_fresh_38 : decode cX9_fresh 38 = .ok (.invokeinterface 120 1, 5) := by decide +kernel
theorem dX9_fresh_43 : decode cX9_fresh 43 = .ok (.checkcast 123, 3) := dk_192 0 123 (dk_at dksX9_fresh_1 19 rfl rfl)
theorem dX9_fresh_46 : decode cX9_fresh 46 = .ok (.astore_n 3, 1) := dk_78 (dk_at dksX9_fresh_1 22 rfl rfl)
theorem dX9_fresh_47 : decode cX9_fresh 47 = .ok (.aload_n 3, 1) := dk_45 (dk_at dksX9_fresh_1 23 rfl rfl)
theorem dX9_fresh_48 : decode cX9_fresh 48 = .ok (.getfield 125, 3) := dk_180 0 125 (dk_at dksX9_fresh_2 0 rfl rfl)
theorem dX9_fresh_51 : decode cX9_fresh 51 = .ok (.aload_n 0, 1) := dk_42 (dk_at dksX9_fresh_2 3 rfl rfl)
theorem dX9_fresh_52 : decode cX9_fresh 52 = .ok (.getfield 59, 3) := dk_180 0 59 (dk_at dksX9_fresh_2 4 rfl rfl)
theorem dX9_fresh_55 : decode cX9_fresh 55 = .ok (.lcmp, 1) := dk_148 (dk_at dksX9_fresh_2 7 rfl rfl)
theorem dX9_fresh_56 : decode cX9_fresh 56 = .ok (.ifCond .ne 16, 3) := dk_154 0 16 (dk_at dksX9_fresh_2 8 rfl rfl)
theorem dX9_fresh_59 : decode cX9_fresh 59 = .ok (.aload_n 0, 1) := dk_42 (dk_at dksX9_fresh_2 11 rfl rfl)
theorem dX9_fresh_60 : decode cX9_fresh 60 = .ok (.getfield 26, 3) := dk_180 0 26 (dk_at dksX9_fresh_2 12 rfl rfl)
theorem dX9_fresh_63 : decode cX9_fresh 63 = .ok (.iconst 3, 1) := dk_6 (dk_at dksX9_fresh_2 15 rfl rfl)
theorem dX9_fresh_64 : decode cX9_fresh 64 = .ok (.aload_n 0, 1) := dk_42 (dk_at dksX9_fresh_2 16 rfl rfl)
theorem dX9_fresh_65 : decode cX9_fresh 65 = .ok (.getfield 33, 3) := dk_180 0 33 (dk_at dksX9_fresh_2 17 rfl rfl)
theorem dX9_fresh_68 : decode cX9_fresh 68 = .ok (.invokevirtual 80, 3) := dk_182 0 80 (dk_at dksX9_fresh_2 20 rfl rfl)
theorem dX9_fresh_71 : decode cX9_fresh 71 = .ok (.athrow, 1) := dk_191 (dk_at dksX9_fresh_2 23 rfl rfl)
theorem dX9_fresh_72 : decode cX9_fresh 72 = .ok (.goto (-44), 3) := dk_167 255 212 (dk_at dksX9_fresh_3 0 rfl rfl)
theorem dX9_fresh_75 : decode cX9_fresh 75 = .ok (.aload_n 0, 1) := dk_42 (dk_at dksX9_fresh_3 3 rfl rfl)
theorem dX9_fresh_76 : decode cX9_fresh 76 = .ok (.getfield 59, 3) := dk_180 0 59 (dk_at dksX9_fresh_3 4 rfl rfl)
theorem dX9_fresh_79 : decode cX9_fresh 79 = .ok (.lstore_n 2, 1) := dk_65 (dk_at dksX9_fresh_3 7 rfl rfl)
theorem dX9_fresh_80 : decode cX9_fresh 80 = .ok (.aload_n 0, 1) := dk_42 (dk_at dksX9_fresh_3 8 rfl rfl)
theorem dX9_fresh_81 : decode cX9_fresh 81 = .ok (.invokevirtual 90, 3) := dk_182 0 90 (dk_at dksX9_fresh_3 9 rfl rfl)
theorem dX9_fresh_84 : decode cX9_fresh 84 = .ok (.lload_n 2, 1) := dk_32 (dk_at dksX9_fresh_3 12 rfl rfl)
theorem dX9_fresh_85 : decode cX9_fresh 85 = .ok (.lreturn, 1) := dk_173 (dk_at dksX9_fresh_3 13 rfl rfl)
abbrev cX9_which : ByteArray := prog_11_method_10_code
def yX9_which : MethodName := ⟨RX9, "which", "([Ljava/lang/String;)I"⟩
def dkwX9_which_1 : List UInt8 := [167, 255, 235, 2, 172]
abbrev dktX9_which_1 : List UInt8 := dkwX9_which_1 ++ []
def dkwX9_which_0 : List UInt8 := [3, 61, 28, 43, 190, 162, 0, 21, 42, 43, 28, 50, 182, 0, 76, 153, 0, 5, 28, 172, 132, 2, 1]
abbrev dktX9_which_0 : List UInt8 := dkwX9_which_0 ++ dktX9_which_1
theorem dksX9_which_0 : cX9_which.data.toList.drop 0 = dktX9_which_0 := by decide +kernel
theorem dksX9_which_1 : cX9_which.data.toList.drop 23 = dktX9_which_1 := dk_seg dksX9_which_0 23 rfl rfl
theorem dX9_which_0 : decode cX9_which 0 = .ok (.iconst 0, 1) := dk_3 (dk_at dksX9_which_0 0 rfl rfl)
theorem dX9_which_1 : decode cX9_which 1 = .ok (.istore_n 2, 1) := dk_61 (dk_at dksX9_which_0 1 rfl rfl)
theorem dX9_which_2 : decode cX9_which 2 = .ok (.iload_n 2, 1) := dk_28 (dk_at dksX9_which_0 2 rfl rfl)
theorem dX9_which_3 : decode cX9_which 3 = .ok (.aload_n 1, 1) := dk_43 (dk_at dksX9_which_0 3 rfl rfl)
theorem dX9_which_4 : decode cX9_which 4 = .ok (.arraylength, 1) := dk_190 (dk_at dksX9_which_0 4 rfl rfl)
theorem dX9_which_5 : decode cX9_which 5 = .ok (.if_icmp .ge 21, 3) := dk_162 0 21 (dk_at dksX9_which_0 5 rfl rfl)
theorem dX9_which_8 : decode cX9_which 8 = .ok (.aload_n 0, 1) := dk_42 (dk_at dksX9_which_0 8 rfl rfl)
theorem dX9_which_9 : decode cX9_which 9 = .ok (.aload_n 1, 1) := dk_43 (dk_at dksX9_which_0 9 rfl rfl)
theorem dX9_which_10 : decode cX9_which 10 = .ok (.iload_n 2, 1) := dk_28 (dk_at dksX9_which_0 10 rfl rfl)
theorem dX9_which_11 : decode cX9_which 11 = .ok (.aaload, 1) := dk_50 (dk_at dksX9_which_0 11 rfl rfl)
theorem dX9_which_12 : decode cX9_which 12 = .ok (.invokevirtual 76, 3) := dk_182 0 76 (dk_at dksX9_which_0 12 rfl rfl)
theorem dX9_which_15 : decode cX9_which 15 = .ok (.ifCond .eq 5, 3) := dk_153 0 5 (dk_at dksX9_which_0 15 rfl rfl)
theorem dX9_which_18 : decode cX9_which 18 = .ok (.iload_n 2, 1) := dk_28 (dk_at dksX9_which_0 18 rfl rfl)
theorem dX9_which_19 : decode cX9_which 19 = .ok (.ireturn, 1) := dk_172 (dk_at dksX9_which_0 19 rfl rfl)
theorem dX9_which_20 : decode cX9_which 20 = .ok (.iinc 2 1, 3) := dk_132 2 1 (dk_at dksX9_which_0 20 rfl rfl)
theorem dX9_which_23 : decode cX9_which 23 = .ok (.goto (-21), 3) := dk_167 255 235 (dk_at dksX9_which_1 0 rfl rfl)
theorem dX9_which_26 : decode cX9_which 26 = .ok (.iconst (-1), 1) := dk_2 (dk_at dksX9_which_1 3 rfl rfl)
theorem dX9_which_27 : decode cX9_which 27 = .ok (.ireturn, 1) := dk_172 (dk_at dksX9_which_1 4 rfl rfl)
abbrev cX9_load : ByteArray := prog_11_method_22_code
def yX9_load : MethodName := ⟨RX9, "load", "()V"⟩
def dkwX9_load_1 : List UInt8 := [16, 99, 182, 0, 171, 181, 0, 195, 42, 180, 0, 12, 180, 0, 191, 43, 182, 0, 185, 87, 177]
abbrev dktX9_load_1 : List UInt8 := dkwX9_load_1 ++ []
def dkwX9_load_0 : List UInt8 := [187, 0, 189, 89, 42, 42, 180, 0, 12, 180, 0, 191, 182, 0, 162, 183, 0, 194, 76, 43, 42, 18, 169, 3]
abbrev dktX9_load_0 : List UInt8 := dkwX9_load_0 ++ dktX9_load_1
theorem dksX9_load_0 : cX9_load.data.toList.drop 0 = dktX9_load_0 := by decide +kernel
theorem dksX9_load_1 : cX9_load.data.toList.drop 24 = dktX9_load_1 := dk_seg dksX9_load_0 24 rfl rfl
theorem dX9_load_0 : decode cX9_load 0 = .ok (.new 189, 3) := dk_187 0 189 (dk_at dksX9_load_0 0 rfl rfl)
theorem dX9_load_3 : decode cX9_load 3 = .ok (.dup, 1) := dk_89 (dk_at dksX9_load_0 3 rfl rfl)
theorem dX9_load_4 : decode cX9_load 4 = .ok (.aload_n 0, 1) := dk_42 (dk_at dksX9_load_0 4 rfl rfl)
theorem dX9_load_5 : decode cX9_load 5 = .ok (.aload_n 0, 1) := dk_42 (dk_at dksX9_load_0 5 rfl rfl)
theorem dX9_load_6 : decode cX9_load 6 = .ok (.getfield 12, 3) := dk_180 0 12 (dk_at dksX9_load_0 6 rfl rfl)
theorem dX9_load_9 : decode cX9_load 9 = .ok (.getfield 191, 3) := dk_180 0 191 (dk_at dksX9_load_0 9 rfl rfl)
theorem dX9_load_12 : decode cX9_load 12 = .ok (.invokevirtual 162, 3) := dk_182 0 162 (dk_at dksX9_load_0 12 rfl rfl)
theorem dX9_load_15 : decode cX9_load 15 = .ok (.invokespecial 194, 3) := dk_183 0 194 (dk_at dksX9_load_0 15 rfl rfl)
theorem dX9_load_18 : decode cX9_load 18 = .ok (.astore_n 1, 1) := dk_76 (dk_at dksX9_load_0 18 rfl rfl)
theorem dX9_load_19 : decode cX9_load 19 = .ok (.aload_n 1, 1) := dk_43 (dk_at dksX9_load_0 19 rfl rfl)
theorem dX9_load_20 : decode cX9_load 20 = .ok (.aload_n 0, 1) := dk_42 (dk_at dksX9_load_0 20 rfl rfl)
theorem dX9_load_21 : decode cX9_load 21 = .ok (.ldc 169, 2) := dk_18 169 (dk_at dksX9_load_0 21 rfl rfl)
theorem dX9_load_23 : decode cX9_load 23 = .ok (.iconst 0, 1) := dk_3 (dk_at dksX9_load_0 23 rfl rfl)
theorem dX9_load_24 : decode cX9_load 24 = .ok (.bipush 99, 2) := dk_16 99 (dk_at dksX9_load_1 0 rfl rfl)
theorem dX9_load_26 : decode cX9_load 26 = .ok (.invokevirtual 171, 3) := dk_182 0 171 (dk_at dksX9_load_1 2 rfl rfl)
theorem dX9_load_29 : decode cX9_load 29 = .ok (.putfield 195, 3) := dk_181 0 195 (dk_at dksX9_load_1 5 rfl rfl)
theorem dX9_load_32 : decode cX9_load 32 = .ok (.aload_n 0, 1) := dk_42 (dk_at dksX9_load_1 8 rfl rfl)
theorem dX9_load_33 : decode cX9_load 33 = .ok (.getfield 12, 3) := dk_180 0 12 (dk_at dksX9_load_1 9 rfl rfl)
theorem dX9_load_36 : decode cX9_load 36 = .ok (.getfield 191, 3) := dk_180 0 191 (dk_at dksX9_load_1 12 rfl rfl)
theorem dX9_load_39 : decode cX9_load 39 = .ok (.aload_n 1, 1) := dk_43 (dk_at dksX9_load_1 15 rfl rfl)
theorem dX9_load_40 : decode cX9_load 40 = .ok (.invokevirtual 185, 3) := dk_182 0 185 (dk_at dksX9_load_1 16 rfl rfl)
theorem dX9_load_43 : decode cX9_load 43 = .ok (.pop, 1) := dk_87 (dk_at dksX9_load_1 19 rfl rfl)
theorem dX9_load_44 : decode cX9_load 44 = .ok (.return_, 1) := dk_177 (dk_at dksX9_load_1 20 rfl rfl)
abbrev cX9_formula : ByteArray := prog_11_method_23_code
def yX9_formula : MethodName := ⟨RX9, "formula", "()LBoardCrossing$Part;"⟩
def dkwX9_formula_0 : List UInt8 := [42, 3, 181, 0, 196, 42, 3, 181, 0, 199, 42, 182, 0, 202, 176]
abbrev dktX9_formula_0 : List UInt8 := dkwX9_formula_0 ++ []
theorem dksX9_formula_0 : cX9_formula.data.toList.drop 0 = dktX9_formula_0 := by decide +kernel
theorem dX9_formula_0 : decode cX9_formula 0 = .ok (.aload_n 0, 1) := dk_42 (dk_at dksX9_formula_0 0 rfl rfl)
theorem dX9_formula_1 : decode cX9_formula 1 = .ok (.iconst 0, 1) := dk_3 (dk_at dksX9_formula_0 1 rfl rfl)
theorem dX9_formula_2 : decode cX9_formula 2 = .ok (.putfield 196, 3) := dk_181 0 196 (dk_at dksX9_formula_0 2 rfl rfl)
theorem dX9_formula_5 : decode cX9_formula 5 = .ok (.aload_n 0, 1) := dk_42 (dk_at dksX9_formula_0 5 rfl rfl)
theorem dX9_formula_6 : decode cX9_formula 6 = .ok (.iconst 0, 1) := dk_3 (dk_at dksX9_formula_0 6 rfl rfl)
theorem dX9_formula_7 : decode cX9_formula 7 = .ok (.putfield 199, 3) := dk_181 0 199 (dk_at dksX9_formula_0 7 rfl rfl)
theorem dX9_formula_10 : decode cX9_formula 10 = .ok (.aload_n 0, 1) := dk_42 (dk_at dksX9_formula_0 10 rfl rfl)
theorem dX9_formula_11 : decode cX9_formula 11 = .ok (.invokevirtual 202, 3) := dk_182 0 202 (dk_at dksX9_formula_0 11 rfl rfl)
theorem dX9_formula_14 : decode cX9_formula 14 = .ok (.areturn, 1) := dk_176 (dk_at dksX9_formula_0 14 rfl rfl)
abbrev cX9_either : ByteArray := prog_11_method_24_code
def yX9_either : MethodName := ⟨RX9, "eithe\x72", "()LBoardCrossing$Part;"⟩
def dkwX9_either_1 : List UInt8 := [182, 0, 206, 183, 0, 213, 76, 167, 255, 232, 43, 176]
abbrev dktX9_either_1 : List UInt8 := dkwX9_either_1 ++ []
def dkwX9_either_0 : List UInt8 := [42, 182, 0, 206, 76, 42, 18, 209, 182, 0, 180, 153, 0, 21, 187, 0, 211, 89, 16, 124, 43, 42]
abbrev dktX9_either_0 : List UInt8 := dkwX9_either_0 ++ dktX9_either_1
theorem dksX9_either_0 : cX9_either.data.toList.drop 0 = dktX9_either_0 := by decide +kernel
theorem dksX9_either_1 : cX9_either.data.toList.drop 22 = dktX9_either_1 := dk_seg dksX9_either_0 22 rfl rfl
theorem dX9_either_0 : decode cX9_either 0 = .ok (.aload_n 0, 1) := dk_42 (dk_at dksX9_either_0 0 rfl rfl)
theorem dX9_either_1 : decode cX9_either 1 = .ok (.invokevirtual 206, 3) := dk_182 0 206 (dk_at dksX9_either_0 1 rfl rfl)
theorem dX9_either_4 : decode cX9_either 4 = .ok (.astore_n 1, 1) := dk_76 (dk_at dksX9_either_0 4 rfl rfl)
theorem dX9_either_5 : decode cX9_either 5 = .ok (.aload_n 0, 1) := dk_42 (dk_at dksX9_either_0 5 rfl rfl)
theorem dX9_either_6 : decode cX9_either 6 = .ok (.ldc 209, 2) := dk_18 209 (dk_at dksX9_either_0 6 rfl rfl)
theorem dX9_either_8 : decode cX9_either 8 = .ok (.invokevirtual 180, 3) := dk_182 0 180 (dk_at dksX9_either_0 8 rfl rfl)
theorem dX9_either_11 : decode cX9_either 11 = .ok (.ifCond .eq 21, 3) := dk_153 0 21 (dk_at dksX9_either_0 11 rfl rfl)
theorem dX9_either_14 : decode cX9_either 14 = .ok (.new 211, 3) := dk_187 0 211 (dk_at dksX9_either_0 14 rfl rfl)
theorem dX9_either_17 : decode cX9_either 17 = .ok (.dup, 1) := dk_89 (dk_at dksX9_either_0 17 rfl rfl)
theorem dX9_either_18 : decode cX9_either 18 = .ok (.bipush 124, 2) := dk_16 124 (dk_at dksX9_either_0 18 rfl rfl)
theorem dX9_either_20 : decode cX9_either 20 = .ok (.aload_n 1, 1) := dk_43 (dk_at dksX9_either_0 20 rfl rfl)
theorem dX9_either_21 : decode cX9_either 21 = .ok (.aload_n 0, 1) := dk_42 (dk_at dksX9_either_0 21 rfl rfl)
theorem dX9_either_22 : decode cX9_either 22 = .ok (.invokevirtual 206, 3) := dk_182 0 206 (dk_at dksX9_either_1 0 rfl rfl)
theorem dX9_either_25 : decode cX9_either 25 = .ok (.invokespecial 213, 3) := dk_183 0 213 (dk_at dksX9_either_1 3 rfl rfl)
theorem dX9_either_28 : decode cX9_either 28 = .ok (.astore_n 1, 1) := dk_76 (dk_at dksX9_either_1 6 rfl rfl)
theorem dX9_either_29 : decode cX9_either 29 = .ok (.goto (-24), 3) := dk_167 255 232 (dk_at dksX9_either_1 7 rfl rfl)
theorem dX9_either_32 : decode cX9_either 32 = .ok (.aload_n 1, 1) := dk_43 (dk_at dksX9_either_1 10 rfl rfl)
theorem dX9_either_33 : decode cX9_either 33 = .ok (.areturn, 1) := dk_176 (dk_at dksX9_either_1 11 rfl rfl)
abbrev cX9_both : ByteArray := prog_11_method_25_code
def yX9_both : MethodName := ⟨RX9, "both", "()LBoardCrossing$Part;"⟩
def dkwX9_both_1 : List UInt8 := [182, 0, 216, 183, 0, 213, 76, 167, 255, 232, 43, 176]
abbrev dktX9_both_1 : List UInt8 := dkwX9_both_1 ++ []
def dkwX9_both_0 : List UInt8 := [42, 182, 0, 216, 76, 42, 18, 219, 182, 0, 180, 153, 0, 21, 187, 0, 211, 89, 16, 38, 43, 42]
abbrev dktX9_both_0 : List UInt8 := dkwX9_both_0 ++ dktX9_both_1
theorem dksX9_both_0 : cX9_both.data.toList.drop 0 = dktX9_both_0 := by decide +kernel
theorem dksX9_both_1 : cX9_both.data.toList.drop 22 = dktX9_both_1 := dk_seg dksX9_both_0 22 rfl rfl
theorem dX9_both_0 : decode cX9_both 0 = .ok (.aload_n 0, 1) := dk_42 (dk_at dksX9_both_0 0 rfl rfl)
theorem dX9_both_1 : decode cX9_both 1 = .ok (.invokevirtual 216, 3) := dk_182 0 216 (dk_at dksX9_both_0 1 rfl rfl)
theorem dX9_both_4 : decode cX9_both 4 = .ok (.astore_n 1, 1) := dk_76 (dk_at dksX9_both_0 4 rfl rfl)
theorem dX9_both_5 : decode cX9_both 5 = .ok (.aload_n 0, 1) := dk_42 (dk_at dksX9_both_0 5 rfl rfl)
theorem dX9_both_6 : decode cX9_both 6 = .ok (.ldc 219, 2) := dk_18 219 (dk_at dksX9_both_0 6 rfl rfl)
theorem dX9_both_8 : decode cX9_both 8 = .ok (.invokevirtual 180, 3) := dk_182 0 180 (dk_at dksX9_both_0 8 rfl rfl)
theorem dX9_both_11 : decode cX9_both 11 = .ok (.ifCond .eq 21, 3) := dk_153 0 21 (dk_at dksX9_both_0 11 rfl rfl)
theorem dX9_both_14 : decode cX9_both 14 = .ok (.new 211, 3) := dk_187 0 211 (dk_at dksX9_both_0 14 rfl rfl)
theorem dX9_both_17 : decode cX9_both 17 = .ok (.dup, 1) := dk_89 (dk_at dksX9_both_0 17 rfl rfl)
theorem dX9_both_18 : decode cX9_both 18 = .ok (.bipush 38, 2) := dk_16 38 (dk_at dksX9_both_0 18 rfl rfl)
theorem dX9_both_20 : decode cX9_both 20 = .ok (.aload_n 1, 1) := dk_43 (dk_at dksX9_both_0 20 rfl rfl)
theorem dX9_both_21 : decode cX9_both 21 = .ok (.aload_n 0, 1) := dk_42 (dk_at dksX9_both_0 21 rfl rfl)
theorem dX9_both_22 : decode cX9_both 22 = .ok (.invokevirtual 216, 3) := dk_182 0 216 (dk_at dksX9_both_1 0 rfl rfl)
theorem dX9_both_25 : decode cX9_both 25 = .ok (.invokespecial 213, 3) := dk_183 0 213 (dk_at dksX9_both_1 3 rfl rfl)
theorem dX9_both_28 : decode cX9_both 28 = .ok (.astore_n 1, 1) := dk_76 (dk_at dksX9_both_1 6 rfl rfl)
theorem dX9_both_29 : decode cX9_both 29 = .ok (.goto (-24), 3) := dk_167 255 232 (dk_at dksX9_both_1 7 rfl rfl)
theorem dX9_both_32 : decode cX9_both 32 = .ok (.aload_n 1, 1) := dk_43 (dk_at dksX9_both_1 10 rfl rfl)
theorem dX9_both_33 : decode cX9_both 33 = .ok (.areturn, 1) := dk_176 (dk_at dksX9_both_1 11 rfl rfl)
abbrev cX9_one : ByteArray := prog_11_method_27_code
def yX9_one : MethodName := ⟨RX9, "one", "()LBoardCrossing$Part;"⟩
def dkwX9_one_4 : List UInt8 := [183, 0, 213, 176]
abbrev dktX9_one_4 : List UInt8 := dkwX9_one_4 ++ []
def dkwX9_one_3 : List UInt8 := [42, 180, 0, 33, 182, 0, 36, 61, 42, 182, 0, 90, 187, 0, 211, 89, 28, 43, 42, 182, 0, 231]
abbrev dktX9_one_3 : List UInt8 := dkwX9_one_3 ++ dktX9_one_4
def dkwX9_one_2 : List UInt8 := [154, 0, 23, 42, 16, 62, 182, 0, 234, 154, 0, 14, 42, 16, 61, 182, 0, 234, 154, 0, 5, 43, 176, 42]
abbrev dktX9_one_2 : List UInt8 := dkwX9_one_2 ++ dktX9_one_3
def dkwX9_one_1 : List UInt8 := [76, 42, 89, 180, 0, 199, 4, 100, 181, 0, 199, 43, 176, 42, 182, 0, 231, 76, 42, 16, 60, 182, 0, 234]
abbrev dktX9_one_1 : List UInt8 := dkwX9_one_1 ++ dktX9_one_2
def dkwX9_one_0 : List UInt8 := [42, 18, 221, 182, 0, 76, 153, 0, 31, 42, 182, 0, 223, 187, 0, 226, 89, 42, 182, 0, 216, 183, 0, 228]
abbrev dktX9_one_0 : List UInt8 := dkwX9_one_0 ++ dktX9_one_1
theorem dksX9_one_0 : cX9_one.data.toList.drop 0 = dktX9_one_0 := by decide +kernel
theorem dksX9_one_1 : cX9_one.data.toList.drop 24 = dktX9_one_1 := dk_seg dksX9_one_0 24 rfl rfl
theorem dksX9_one_2 : cX9_one.data.toList.drop 48 = dktX9_one_2 := dk_seg dksX9_one_1 24 rfl rfl
theorem dksX9_one_3 : cX9_one.data.toList.drop 72 = dktX9_one_3 := dk_seg dksX9_one_2 24 rfl rfl
theorem dksX9_one_4 : cX9_one.data.toList.drop 94 = dktX9_one_4 := dk_seg dksX9_one_3 22 rfl rfl
theorem dX9_one_0 : decode cX9_one 0 = .ok (.aload_n 0, 1) := dk_42 (dk_at dksX9_one_0 0 rfl rfl)
theorem dX9_one_1 : decode cX9_one 1 = .ok (.ldc 221, 2) := dk_18 221 (dk_at dksX9_one_0 1 rfl rfl)
theorem dX9_one_3 : decode cX9_one 3 = .ok (.invokevirtual 76, 3) := dk_182 0 76 (dk_at dksX9_one_0 3 rfl rfl)
theorem dX9_one_6 : decode cX9_one 6 = .ok (.ifCond .eq 31, 3) := dk_153 0 31 (dk_at dksX9_one_0 6 rfl rfl)
theorem dX9_one_9 : decode cX9_one 9 = .ok (.aload_n 0, 1) := dk_42 (dk_at dksX9_one_0 9 rfl rfl)
theorem dX9_one_10 : decode cX9_one 10 = .ok (.invokevirtual 223, 3) := dk_182 0 223 (dk_at dksX9_one_0 10 rfl rfl)
theorem dX9_one_13 : decode cX9_one 13 = .ok (.new 226, 3) := dk_187 0 226 (dk_at dksX9_one_0 13 rfl rfl)
theorem dX9_one_16 : decode cX9_one 16 = .ok (.dup, 1) := dk_89 (dk_at dksX9_one_0 16 rfl rfl)
theorem dX9_one_17 : decode cX9_one 17 = .ok (.aload_n 0, 1) := dk_42 (dk_at dksX9_one_0 17 rfl rfl)
theorem dX9_one_18 : decode cX9_one 18 = .ok (.invokevirtual 216, 3) := dk_182 0 216 (dk_at dksX9_one_0 18 rfl rfl)
theorem dX9_one_21 : decode cX9_one 21 = .ok (.invokespecial 228, 3) := dk_183 0 228 (dk_at dksX9_one_0 21 rfl rfl)
theorem dX9_one_24 : decode cX9_one 24 = .ok (.astore_n 1, 1) := dk_76 (dk_at dksX9_one_1 0 rfl rfl)
theorem dX9_one_25 : decode cX9_one 25 = .ok (.aload_n 0, 1) := dk_42 (dk_at dksX9_one_1 1 rfl rfl)
theorem dX9_one_26 : decode cX9_one 26 = .ok (.dup, 1) := dk_89 (dk_at dksX9_one_1 2 rfl rfl)
theorem dX9_one_27 : decode cX9_one 27 = .ok (.getfield 199, 3) := dk_180 0 199 (dk_at dksX9_one_1 3 rfl rfl)
theorem dX9_one_30 : decode cX9_one 30 = .ok (.iconst 1, 1) := dk_4 (dk_at dksX9_one_1 6 rfl rfl)
theorem dX9_one_31 : decode cX9_one 31 = .ok (.isub, 1) := dk_100 (dk_at dksX9_one_1 7 rfl rfl)
theorem dX9_one_32 : decode cX9_one 32 = .ok (.putfield 199, 3) := dk_181 0 199 (dk_at dksX9_one_1 8 rfl rfl)
theorem dX9_one_35 : decode cX9_one 35 = .ok (.aload_n 1, 1) := dk_43 (dk_at dksX9_one_1 11 rfl rfl)
theorem dX9_one_36 : decode cX9_one 36 = .ok (.areturn, 1) := dk_176 (dk_at dksX9_one_1 12 rfl rfl)
theorem dX9_one_37 : decode cX9_one 37 = .ok (.aload_n 0, 1) := dk_42 (dk_at dksX9_one_1 13 rfl rfl)
theorem dX9_one_38 : decode cX9_one 38 = .ok (.invokevirtual 231, 3) := dk_182 0 231 (dk_at dksX9_one_1 14 rfl rfl)
theorem dX9_one_41 : decode cX9_one 41 = .ok (.astore_n 1, 1) := dk_76 (dk_at dksX9_one_1 17 rfl rfl)
theorem dX9_one_42 : decode cX9_one 42 = .ok (.aload_n 0, 1) := dk_42 (dk_at dksX9_one_1 18 rfl rfl)
theorem dX9_one_43 : decode cX9_one 43 = .ok (.bipush 60, 2) := dk_16 60 (dk_at dksX9_one_1 19 rfl rfl)
theorem dX9_one_45 : decode cX9_one 45 = .ok (.invokevirtual 234, 3) := dk_182 0 234 (dk_at dksX9_one_1 21 rfl rfl)
theorem dX9_one_48 : decode cX9_one 48 = .ok (.ifCond .ne 23, 3) := dk_154 0 23 (dk_at dksX9_one_2 0 rfl rfl)
theorem dX9_one_51 : decode cX9_one 51 = .ok (.aload_n 0, 1) := dk_42 (dk_at dksX9_one_2 3 rfl rfl)
theorem dX9_one_52 : decode cX9_one 52 = .ok (.bipush 62, 2) := dk_16 62 (dk_at dksX9_one_2 4 rfl rfl)
theorem dX9_one_54 : decode cX9_one 54 = .ok (.invokevirtual 234, 3) := dk_182 0 234 (dk_at dksX9_one_2 6 rfl rfl)
theorem dX9_one_57 : decode cX9_one 57 = .ok (.ifCond .ne 14, 3) := dk_154 0 14 (dk_at dksX9_one_2 9 rfl rfl)
theorem dX9_one_60 : decode cX9_one 60 = .ok (.aload_n 0, 1) := dk_42 (dk_at dksX9_one_2 12 rfl rfl)
theorem dX9_one_61 : decode cX9_one 61 = .ok (.bipush 61, 2) := dk_16 61 (dk_at dksX9_one_2 13 rfl rfl)
theorem dX9_one_63 : decode cX9_one 63 = .ok (.invokevirtual 234, 3) := dk_182 0 234 (dk_at dksX9_one_2 15 rfl rfl)
theorem dX9_one_66 : decode cX9_one 66 = .ok (.ifCond .ne 5, 3) := dk_154 0 5 (dk_at dksX9_one_2 18 rfl rfl)
theorem dX9_one_69 : decode cX9_one 69 = .ok (.aload_n 1, 1) := dk_43 (dk_at dksX9_one_2 21 rfl rfl)
theorem dX9_one_70 : decode cX9_one 70 = .ok (.areturn, 1) := dk_176 (dk_at dksX9_one_2 22 rfl rfl)
theorem dX9_one_71 : decode cX9_one 71 = .ok (.aload_n 0, 1) := dk_42 (dk_at dksX9_one_2 23 rfl rfl)
theorem dX9_one_72 : decode cX9_one 72 = .ok (.aload_n 0, 1) := dk_42 (dk_at dksX9_one_3 0 rfl rfl)
theorem dX9_one_73 : decode cX9_one 73 = .ok (.getfield 33, 3) := dk_180 0 33 (dk_at dksX9_one_3 1 rfl rfl)
theorem dX9_one_76 : decode cX9_one 76 = .ok (.invokevirtual 36, 3) := dk_182 0 36 (dk_at dksX9_one_3 4 rfl rfl)
theorem dX9_one_79 : decode cX9_one 79 = .ok (.istore_n 2, 1) := dk_61 (dk_at dksX9_one_3 7 rfl rfl)
theorem dX9_one_80 : decode cX9_one 80 = .ok (.aload_n 0, 1) := dk_42 (dk_at dksX9_one_3 8 rfl rfl)
theorem dX9_one_81 : decode cX9_one 81 = .ok (.invokevirtual 90, 3) := dk_182 0 90 (dk_at dksX9_one_3 9 rfl rfl)
theorem dX9_one_84 : decode cX9_one 84 = .ok (.new 211, 3) := dk_187 0 211 (dk_at dksX9_one_3 12 rfl rfl)
theorem dX9_one_87 : decode cX9_one 87 = .ok (.dup, 1) := dk_89 (dk_at dksX9_one_3 15 rfl rfl)
theorem dX9_one_88 : decode cX9_one 88 = .ok (.iload_n 2, 1) := dk_28 (dk_at dksX9_one_3 16 rfl rfl)
theorem dX9_one_89 : decode cX9_one 89 = .ok (.aload_n 1, 1) := dk_43 (dk_at dksX9_one_3 17 rfl rfl)
theorem dX9_one_90 : decode cX9_one 90 = .ok (.aload_n 0, 1) := dk_42 (dk_at dksX9_one_3 18 rfl rfl)
theorem dX9_one_91 : decode cX9_one 91 = .ok (.invokevirtual 231, 3) := dk_182 0 231 (dk_at dksX9_one_3 19 rfl rfl)
theorem dX9_one_94 : decode cX9_one 94 = .ok (.invokespecial 213, 3) := dk_183 0 213 (dk_at dksX9_one_4 0 rfl rfl)
theorem dX9_one_97 : decode cX9_one 97 = .ok (.areturn, 1) := dk_176 (dk_at dksX9_one_4 3 rfl rfl)
abbrev cX9_open : ByteArray := prog_11_method_26_code
def yX9_open : MethodName := ⟨RX9, "open", "()V"⟩
def dkwX9_open_1 : List UInt8 := [42, 182, 0, 90, 177]
abbrev dktX9_open_1 : List UInt8 := dkwX9_open_1 ++ []
def dkwX9_open_0 : List UInt8 := [42, 180, 0, 199, 16, 7, 160, 0, 8, 42, 182, 0, 86, 191, 42, 89, 180, 0, 199, 4, 96, 181, 0, 199]
abbrev dktX9_open_0 : List UInt8 := dkwX9_open_0 ++ dktX9_open_1
theorem dksX9_open_0 : cX9_open.data.toList.drop 0 = dktX9_open_0 := by decide +kernel
theorem dksX9_open_1 : cX9_open.data.toList.drop 24 = dktX9_open_1 := dk_seg dksX9_open_0 24 rfl rfl
theorem dX9_open_0 : decode cX9_open 0 = .ok (.aload_n 0, 1) := dk_42 (dk_at dksX9_open_0 0 rfl rfl)
theorem dX9_open_1 : decode cX9_open 1 = .ok (.getfield 199, 3) := dk_180 0 199 (dk_at dksX9_open_0 1 rfl rfl)
theorem dX9_open_4 : decode cX9_open 4 = .ok (.bipush 7, 2) := dk_16 7 (dk_at dksX9_open_0 4 rfl rfl)
theorem dX9_open_6 : decode cX9_open 6 = .ok (.if_icmp .ne 8, 3) := dk_160 0 8 (dk_at dksX9_open_0 6 rfl rfl)
theorem dX9_open_9 : decode cX9_open 9 = .ok (.aload_n 0, 1) := dk_42 (dk_at dksX9_open_0 9 rfl rfl)
theorem dX9_open_10 : decode cX9_open 10 = .ok (.invokevirtual 86, 3) := dk_182 0 86 (dk_at dksX9_open_0 10 rfl rfl)
theorem dX9_open_13 : decode cX9_open 13 = .ok (.athrow, 1) := dk_191 (dk_at dksX9_open_0 13 rfl rfl)
theorem dX9_open_14 : decode cX9_open 14 = .ok (.aload_n 0, 1) := dk_42 (dk_at dksX9_open_0 14 rfl rfl)
theorem dX9_open_15 : decode cX9_open 15 = .ok (.dup, 1) := dk_89 (dk_at dksX9_open_0 15 rfl rfl)
theorem dX9_open_16 : decode cX9_open 16 = .ok (.getfield 199, 3) := dk_180 0 199 (dk_at dksX9_open_0 16 rfl rfl)
theorem dX9_open_19 : decode cX9_open 19 = .ok (.iconst 1, 1) := dk_4 (dk_at dksX9_open_0 19 rfl rfl)
theorem dX9_open_20 : decode cX9_open 20 = .ok (.iadd, 1) := dk_96 (dk_at dksX9_open_0 20 rfl rfl)
theorem dX9_open_21 : decode cX9_open 21 = .ok (.putfield 199, 3) := dk_181 0 199 (dk_at dksX9_open_0 21 rfl rfl)
theorem dX9_open_24 : decode cX9_open 24 = .ok (.aload_n 0, 1) := dk_42 (dk_at dksX9_open_1 0 rfl rfl)
theorem dX9_open_25 : decode cX9_open 25 = .ok (.invokevirtual 90, 3) := dk_182 0 90 (dk_at dksX9_open_1 1 rfl rfl)
theorem dX9_open_28 : decode cX9_open 28 = .ok (.return_, 1) := dk_177 (dk_at dksX9_open_1 4 rfl rfl)
abbrev cX9_sum : ByteArray := prog_11_method_28_code
def yX9_sum : MethodName := ⟨RX9, "sum", "()LBoardCrossing$Part;"⟩
def dkwX9_sum_2 : List UInt8 := [183, 0, 213, 76, 167, 255, 211, 43, 176]
abbrev dktX9_sum_2 : List UInt8 := dkwX9_sum_2 ++ []
def dkwX9_sum_1 : List UInt8 := [42, 180, 0, 33, 182, 0, 36, 61, 42, 182, 0, 90, 187, 0, 211, 89, 28, 43, 42, 182, 0, 237]
abbrev dktX9_sum_1 : List UInt8 := dkwX9_sum_1 ++ dktX9_sum_2
def dkwX9_sum_0 : List UInt8 := [42, 182, 0, 237, 76, 42, 16, 43, 182, 0, 234, 154, 0, 12, 42, 16, 45, 182, 0, 234, 153, 0, 33, 42]
abbrev dktX9_sum_0 : List UInt8 := dkwX9_sum_0 ++ dktX9_sum_1
theorem dksX9_sum_0 : cX9_sum.data.toList.drop 0 = dktX9_sum_0 := by decide +kernel
theorem dksX9_sum_1 : cX9_sum.data.toList.drop 24 = dktX9_sum_1 := dk_seg dksX9_sum_0 24 rfl rfl
theorem dksX9_sum_2 : cX9_sum.data.toList.drop 46 = dktX9_sum_2 := dk_seg dksX9_sum_1 22 rfl rfl
theorem dX9_sum_0 : decode cX9_sum 0 = .ok (.aload_n 0, 1) := dk_42 (dk_at dksX9_sum_0 0 rfl rfl)
theorem dX9_sum_1 : decode cX9_sum 1 = .ok (.invokevirtual 237, 3) := dk_182 0 237 (dk_at dksX9_sum_0 1 rfl rfl)
theorem dX9_sum_4 : decode cX9_sum 4 = .ok (.astore_n 1, 1) := dk_76 (dk_at dksX9_sum_0 4 rfl rfl)
theorem dX9_sum_5 : decode cX9_sum 5 = .ok (.aload_n 0, 1) := dk_42 (dk_at dksX9_sum_0 5 rfl rfl)
theorem dX9_sum_6 : decode cX9_sum 6 = .ok (.bipush 43, 2) := dk_16 43 (dk_at dksX9_sum_0 6 rfl rfl)
theorem dX9_sum_8 : decode cX9_sum 8 = .ok (.invokevirtual 234, 3) := dk_182 0 234 (dk_at dksX9_sum_0 8 rfl rfl)
theorem dX9_sum_11 : decode cX9_sum 11 = .ok (.ifCond .ne 12, 3) := dk_154 0 12 (dk_at dksX9_sum_0 11 rfl rfl)
theorem dX9_sum_14 : decode cX9_sum 14 = .ok (.aload_n 0, 1) := dk_42 (dk_at dksX9_sum_0 14 rfl rfl)
theorem dX9_sum_15 : decode cX9_sum 15 = .ok (.bipush 45, 2) := dk_16 45 (dk_at dksX9_sum_0 15 rfl rfl)
theorem dX9_sum_17 : decode cX9_sum 17 = .ok (.invokevirtual 234, 3) := dk_182 0 234 (dk_at dksX9_sum_0 17 rfl rfl)
theorem dX9_sum_20 : decode cX9_sum 20 = .ok (.ifCond .eq 33, 3) := dk_153 0 33 (dk_at dksX9_sum_0 20 rfl rfl)
theorem dX9_sum_23 : decode cX9_sum 23 = .ok (.aload_n 0, 1) := dk_42 (dk_at dksX9_sum_0 23 rfl rfl)
theorem dX9_sum_24 : decode cX9_sum 24 = .ok (.aload_n 0, 1) := dk_42 (dk_at dksX9_sum_1 0 rfl rfl)
theorem dX9_sum_25 : decode cX9_sum 25 = .ok (.getfield 33, 3) := dk_180 0 33 (dk_at dksX9_sum_1 1 rfl rfl)
theorem dX9_sum_28 : decode cX9_sum 28 = .ok (.invokevirtual 36, 3) := dk_182 0 36 (dk_at dksX9_sum_1 4 rfl rfl)
theorem dX9_sum_31 : decode cX9_sum 31 = .ok (.istore_n 2, 1) := dk_61 (dk_at dksX9_sum_1 7 rfl rfl)
theorem dX9_sum_32 : decode cX9_sum 32 = .ok (.aload_n 0, 1) := dk_42 (dk_at dksX9_sum_1 8 rfl rfl)
theorem dX9_sum_33 : decode cX9_sum 33 = .ok (.invokevirtual 90, 3) := dk_182 0 90 (dk_at dksX9_sum_1 9 rfl rfl)
theorem dX9_sum_36 : decode cX9_sum 36 = .ok (.new 211, 3) := dk_187 0 211 (dk_at dksX9_sum_1 12 rfl rfl)
theorem dX9_sum_39 : decode cX9_sum 39 = .ok (.dup, 1) := dk_89 (dk_at dksX9_sum_1 15 rfl rfl)
theorem dX9_sum_40 : decode cX9_sum 40 = .ok (.iload_n 2, 1) := dk_28 (dk_at dksX9_sum_1 16 rfl rfl)
theorem dX9_sum_41 : decode cX9_sum 41 = .ok (.aload_n 1, 1) := dk_43 (dk_at dksX9_sum_1 17 rfl rfl)
theorem dX9_sum_42 : decode cX9_sum 42 = .ok (.aload_n 0, 1) := dk_42 (dk_at dksX9_sum_1 18 rfl rfl)
theorem dX9_sum_43 : decode cX9_sum 43 = .ok (.invokevirtual 237, 3) := dk_182 0 237 (dk_at dksX9_sum_1 19 rfl rfl)
theorem dX9_sum_46 : decode cX9_sum 46 = .ok (.invokespecial 213, 3) := dk_183 0 213 (dk_at dksX9_sum_2 0 rfl rfl)
theorem dX9_sum_49 : decode cX9_sum 49 = .ok (.astore_n 1, 1) := dk_76 (dk_at dksX9_sum_2 3 rfl rfl)
theorem dX9_sum_50 : decode cX9_sum 50 = .ok (.goto (-45), 3) := dk_167 255 211 (dk_at dksX9_sum_2 4 rfl rfl)
theorem dX9_sum_53 : decode cX9_sum 53 = .ok (.aload_n 1, 1) := dk_43 (dk_at dksX9_sum_2 7 rfl rfl)
theorem dX9_sum_54 : decode cX9_sum 54 = .ok (.areturn, 1) := dk_176 (dk_at dksX9_sum_2 8 rfl rfl)
abbrev cX9_term : ByteArray := prog_11_method_29_code
def yX9_term : MethodName := ⟨RX9, "term", "()LBoardCrossing$Part;"⟩
def dkwX9_term_2 : List UInt8 := [89, 28, 43, 42, 182, 0, 240, 183, 0, 213, 76, 167, 255, 202, 43, 176]
abbrev dktX9_term_2 : List UInt8 := dkwX9_term_2 ++ []
def dkwX9_term_1 : List UInt8 := [16, 37, 182, 0, 234, 153, 0, 33, 42, 42, 180, 0, 33, 182, 0, 36, 61, 42, 182, 0, 90, 187, 0, 211]
abbrev dktX9_term_1 : List UInt8 := dkwX9_term_1 ++ dktX9_term_2
def dkwX9_term_0 : List UInt8 := [42, 182, 0, 240, 76, 42, 16, 42, 182, 0, 234, 154, 0, 21, 42, 16, 47, 182, 0, 234, 154, 0, 12, 42]
abbrev dktX9_term_0 : List UInt8 := dkwX9_term_0 ++ dktX9_term_1
theorem dksX9_term_0 : cX9_term.data.toList.drop 0 = dktX9_term_0 := by decide +kernel
theorem dksX9_term_1 : cX9_term.data.toList.drop 24 = dktX9_term_1 := dk_seg dksX9_term_0 24 rfl rfl
theorem dksX9_term_2 : cX9_term.data.toList.drop 48 = dktX9_term_2 := dk_seg dksX9_term_1 24 rfl rfl
theorem dX9_term_0 : decode cX9_term 0 = .ok (.aload_n 0, 1) := dk_42 (dk_at dksX9_term_0 0 rfl rfl)
theorem dX9_term_1 : decode cX9_term 1 = .ok (.invokevirtual 240, 3) := dk_182 0 240 (dk_at dksX9_term_0 1 rfl rfl)
theorem dX9_term_4 : decode cX9_term 4 = .ok (.astore_n 1, 1) := dk_76 (dk_at dksX9_term_0 4 rfl rfl)
theorem dX9_term_5 : decode cX9_term 5 = .ok (.aload_n 0, 1) := dk_42 (dk_at dksX9_term_0 5 rfl rfl)
theorem dX9_term_6 : decode cX9_term 6 = .ok (.bipush 42, 2) := dk_16 42 (dk_at dksX9_term_0 6 rfl rfl)
theorem dX9_term_8 : decode cX9_term 8 = .ok (.invokevirtual 234, 3) := dk_182 0 234 (dk_at dksX9_term_0 8 rfl rfl)
theorem dX9_term_11 : decode cX9_term 11 = .ok (.ifCond .ne 21, 3) := dk_154 0 21 (dk_at dksX9_term_0 11 rfl rfl)
theorem dX9_term_14 : decode cX9_term 14 = .ok (.aload_n 0, 1) := dk_42 (dk_at dksX9_term_0 14 rfl rfl)
theorem dX9_term_15 : decode cX9_term 15 = .ok (.bipush 47, 2) := dk_16 47 (dk_at dksX9_term_0 15 rfl rfl)
theorem dX9_term_17 : decode cX9_term 17 = .ok (.invokevirtual 234, 3) := dk_182 0 234 (dk_at dksX9_term_0 17 rfl rfl)
theorem dX9_term_20 : decode cX9_term 20 = .ok (.ifCond .ne 12, 3) := dk_154 0 12 (dk_at dksX9_term_0 20 rfl rfl)
theorem dX9_term_23 : decode cX9_term 23 = .ok (.aload_n 0, 1) := dk_42 (dk_at dksX9_term_0 23 rfl rfl)
theorem dX9_term_24 : decode cX9_term 24 = .ok (.bipush 37, 2) := dk_16 37 (dk_at dksX9_term_1 0 rfl rfl)
theorem dX9_term_26 : decode cX9_term 26 = .ok (.invokevirtual 234, 3) := dk_182 0 234 (dk_at dksX9_term_1 2 rfl rfl)
theorem dX9_term_29 : decode cX9_term 29 = .ok (.ifCond .eq 33, 3) := dk_153 0 33 (dk_at dksX9_term_1 5 rfl rfl)
theorem dX9_term_32 : decode cX9_term 32 = .ok (.aload_n 0, 1) := dk_42 (dk_at dksX9_term_1 8 rfl rfl)
theorem dX9_term_33 : decode cX9_term 33 = .ok (.aload_n 0, 1) := dk_42 (dk_at dksX9_term_1 9 rfl rfl)
theorem dX9_term_34 : decode cX9_term 34 = .ok (.getfield 33, 3) := dk_180 0 33 (dk_at dksX9_term_1 10 rfl rfl)
theorem dX9_term_37 : decode cX9_term 37 = .ok (.invokevirtual 36, 3) := dk_182 0 36 (dk_at dksX9_term_1 13 rfl rfl)
theorem dX9_term_40 : decode cX9_term 40 = .ok (.istore_n 2, 1) := dk_61 (dk_at dksX9_term_1 16 rfl rfl)
theorem dX9_term_41 : decode cX9_term 41 = .ok (.aload_n 0, 1) := dk_42 (dk_at dksX9_term_1 17 rfl rfl)
theorem dX9_term_42 : decode cX9_term 42 = .ok (.invokevirtual 90, 3) := dk_182 0 90 (dk_at dksX9_term_1 18 rfl rfl)
theorem dX9_term_45 : decode cX9_term 45 = .ok (.new 211, 3) := dk_187 0 211 (dk_at dksX9_term_1 21 rfl rfl)
theorem dX9_term_48 : decode cX9_term 48 = .ok (.dup, 1) := dk_89 (dk_at dksX9_term_2 0 rfl rfl)
theorem dX9_term_49 : decode cX9_term 49 = .ok (.iload_n 2, 1) := dk_28 (dk_at dksX9_term_2 1 rfl rfl)
theorem dX9_term_50 : decode cX9_term 50 = .ok (.aload_n 1, 1) := dk_43 (dk_at dksX9_term_2 2 rfl rfl)
theorem dX9_term_51 : decode cX9_term 51 = .ok (.aload_n 0, 1) := dk_42 (dk_at dksX9_term_2 3 rfl rfl)
theorem dX9_term_52 : decode cX9_term 52 = .ok (.invokevirtual 240, 3) := dk_182 0 240 (dk_at dksX9_term_2 4 rfl rfl)
theorem dX9_term_55 : decode cX9_term 55 = .ok (.invokespecial 213, 3) := dk_183 0 213 (dk_at dksX9_term_2 7 rfl rfl)
theorem dX9_term_58 : decode cX9_term 58 = .ok (.astore_n 1, 1) := dk_76 (dk_at dksX9_term_2 10 rfl rfl)
theorem dX9_term_59 : decode cX9_term 59 = .ok (.goto (-54), 3) := dk_167 255 202 (dk_at dksX9_term_2 11 rfl rfl)
theorem dX9_term_62 : decode cX9_term 62 = .ok (.aload_n 1, 1) := dk_43 (dk_at dksX9_term_2 14 rfl rfl)
theorem dX9_term_63 : decode cX9_term 63 = .ok (.areturn, 1) := dk_176 (dk_at dksX9_term_2 15 rfl rfl)
abbrev cX9_unit : ByteArray := prog_11_method_30_code
def yX9_unit : MethodName := ⟨RX9, "unit", "()LBoardCrossing$Part;"⟩
def dkwX9_unit_6 : List UInt8 := [182, 0, 90, 45, 176]
abbrev dktX9_unit_6 : List UInt8 := dkwX9_unit_6 ++ []
def dkwX9_unit_5 : List UInt8 := [187, 0, 249, 89, 42, 180, 0, 63, 183, 0, 251, 167, 0, 11, 187, 0, 254, 89, 28, 183, 1, 0, 78, 42]
abbrev dktX9_unit_5 : List UInt8 := dkwX9_unit_5 ++ dktX9_unit_6
def dkwX9_unit_4 : List UInt8 := [180, 0, 199, 4, 100, 181, 0, 199, 42, 42, 16, 41, 182, 0, 234, 182, 0, 93, 45, 176, 28, 156, 0, 17]
abbrev dktX9_unit_4 : List UInt8 := dkwX9_unit_4 ++ dktX9_unit_5
def dkwX9_unit_3 : List UInt8 := [89, 180, 0, 196, 4, 96, 181, 0, 196, 27, 153, 0, 34, 42, 182, 0, 223, 42, 182, 0, 202, 78, 42, 89]
abbrev dktX9_unit_3 : List UInt8 := dkwX9_unit_3 ++ dktX9_unit_4
def dkwX9_unit_2 : List UInt8 := [16, 30, 160, 0, 8, 42, 182, 0, 86, 191, 42, 180, 0, 12, 89, 180, 0, 246, 4, 96, 181, 0, 246, 42]
abbrev dktX9_unit_2 : List UInt8 := dkwX9_unit_2 ++ dktX9_unit_3
def dkwX9_unit_1 : List UInt8 := [180, 0, 40, 5, 160, 0, 24, 42, 180, 0, 12, 180, 0, 246, 16, 60, 159, 0, 12, 42, 180, 0, 196]
abbrev dktX9_unit_1 : List UInt8 := dkwX9_unit_1 ++ dktX9_unit_2
def dkwX9_unit_0 : List UInt8 := [42, 16, 40, 182, 0, 234, 60, 42, 178, 0, 243, 182, 0, 104, 61, 27, 154, 0, 15, 28, 156, 0, 11, 42]
abbrev dktX9_unit_0 : List UInt8 := dkwX9_unit_0 ++ dktX9_unit_1
theorem dksX9_unit_0 : cX9_unit.data.toList.drop 0 = dktX9_unit_0 := by decide +kernel
theorem dksX9_unit_1 : cX9_unit.data.toList.drop 24 = dktX9_unit_1 := dk_seg dksX9_unit_0 24 rfl rfl
theorem dksX9_unit_2 : cX9_unit.data.toList.drop 47 = dktX9_unit_2 := dk_seg dksX9_unit_1 23 rfl rfl
theorem dksX9_unit_3 : cX9_unit.data.toList.drop 71 = dktX9_unit_3 := dk_seg dksX9_unit_2 24 rfl rfl
theorem dksX9_unit_4 : cX9_unit.data.toList.drop 95 = dktX9_unit_4 := dk_seg dksX9_unit_3 24 rfl rfl
theorem dksX9_unit_5 : cX9_unit.data.toList.drop 119 = dktX9_unit_5 := dk_seg dksX9_unit_4 24 rfl rfl
theorem dksX9_unit_6 : cX9_unit.data.toList.drop 143 = dktX9_unit_6 := dk_seg dksX9_unit_5 24 rfl rfl
theorem dX9_unit_0 : decode cX9_unit 0 = .ok (.aload_n 0, 1) := dk_42 (dk_at dksX9_unit_0 0 rfl rfl)
theorem dX9_unit_1 : decode cX9_unit 1 = .ok (.bipush 40, 2) := dk_16 40 (dk_at dksX9_unit_0 1 rfl rfl)
theorem dX9_unit_3 : decode cX9_unit 3 = .ok (.invokevirtual 234, 3) := dk_182 0 234 (dk_at dksX9_unit_0 3 rfl rfl)
theorem dX9_unit_6 : decode cX9_unit 6 = .ok (.istore_n 1, 1) := dk_60 (dk_at dksX9_unit_0 6 rfl rfl)
theorem dX9_unit_7 : decode cX9_unit 7 = .ok (.aload_n 0, 1) := dk_42 (dk_at dksX9_unit_0 7 rfl rfl)
theorem dX9_unit_8 : decode cX9_unit 8 = .ok (.getstatic 243, 3) := dk_178 0 243 (dk_at dksX9_unit_0 8 rfl rfl)
theorem dX9_unit_11 : decode cX9_unit 11 = .ok (.invokevirtual 104, 3) := dk_182 0 104 (dk_at dksX9_unit_0 11 rfl rfl)
theorem dX9_unit_14 : decode cX9_unit 14 = .ok (.istore_n 2, 1) := dk_61 (dk_at dksX9_unit_0 14 rfl rfl)
theorem dX9_unit_15 : decode cX9_unit 15 = .ok (.iload_n 1, 1) := dk_27 (dk_at dksX9_unit_0 15 rfl rfl)
theorem dX9_unit_16 : decode cX9_unit 16 = .ok (.ifCond .ne 15, 3) := dk_154 0 15 (dk_at dksX9_unit_0 16 rfl rfl)
theorem dX9_unit_19 : decode cX9_unit 19 = .ok (.iload_n 2, 1) := dk_28 (dk_at dksX9_unit_0 19 rfl rfl)
theorem dX9_unit_20 : decode cX9_unit 20 = .ok (.ifCond .ge 11, 3) := dk_156 0 11 (dk_at dksX9_unit_0 20 rfl rfl)
theorem dX9_unit_23 : decode cX9_unit 23 = .ok (.aload_n 0, 1) := dk_42 (dk_at dksX9_unit_0 23 rfl rfl)
theorem dX9_unit_24 : decode cX9_unit 24 = .ok (.getfield 40, 3) := dk_180 0 40 (dk_at dksX9_unit_1 0 rfl rfl)
theorem dX9_unit_27 : decode cX9_unit 27 = .ok (.iconst 2, 1) := dk_5 (dk_at dksX9_unit_1 3 rfl rfl)
theorem dX9_unit_28 : decode cX9_unit 28 = .ok (.if_icmp .ne 24, 3) := dk_160 0 24 (dk_at dksX9_unit_1 4 rfl rfl)
theorem dX9_unit_31 : decode cX9_unit 31 = .ok (.aload_n 0, 1) := dk_42 (dk_at dksX9_unit_1 7 rfl rfl)
theorem dX9_unit_32 : decode cX9_unit 32 = .ok (.getfield 12, 3) := dk_180 0 12 (dk_at dksX9_unit_1 8 rfl rfl)
theorem dX9_unit_35 : decode cX9_unit 35 = .ok (.getfield 246, 3) := dk_180 0 246 (dk_at dksX9_unit_1 11 rfl rfl)
theorem dX9_unit_38 : decode cX9_unit 38 = .ok (.bipush 60, 2) := dk_16 60 (dk_at dksX9_unit_1 14 rfl rfl)
theorem dX9_unit_40 : decode cX9_unit 40 = .ok (.if_icmp .eq 12, 3) := dk_159 0 12 (dk_at dksX9_unit_1 16 rfl rfl)
theorem dX9_unit_43 : decode cX9_unit 43 = .ok (.aload_n 0, 1) := dk_42 (dk_at dksX9_unit_1 19 rfl rfl)
theorem dX9_unit_44 : decode cX9_unit 44 = .ok (.getfield 196, 3) := dk_180 0 196 (dk_at dksX9_unit_1 20 rfl rfl)
theorem dX9_unit_47 : decode cX9_unit 47 = .ok (.bipush 30, 2) := dk_16 30 (dk_at dksX9_unit_2 0 rfl rfl)
theorem dX9_unit_49 : decode cX9_unit 49 = .ok (.if_icmp .ne 8, 3) := dk_160 0 8 (dk_at dksX9_unit_2 2 rfl rfl)
theorem dX9_unit_52 : decode cX9_unit 52 = .ok (.aload_n 0, 1) := dk_42 (dk_at dksX9_unit_2 5 rfl rfl)
theorem dX9_unit_53 : decode cX9_unit 53 = .ok (.invokevirtual 86, 3) := dk_182 0 86 (dk_at dksX9_unit_2 6 rfl rfl)
theorem dX9_unit_56 : decode cX9_unit 56 = .ok (.athrow, 1) := dk_191 (dk_at dksX9_unit_2 9 rfl rfl)
theorem dX9_unit_57 : decode cX9_unit 57 = .ok (.aload_n 0, 1) := dk_42 (dk_at dksX9_unit_2 10 rfl rfl)
theorem dX9_unit_58 : decode cX9_unit 58 = .ok (.getfield 12, 3) := dk_180 0 12 (dk_at dksX9_unit_2 11 rfl rfl)
theorem dX9_unit_61 : decode cX9_unit 61 = .ok (.dup, 1) := dk_89 (dk_at dksX9_unit_2 14 rfl rfl)
theorem dX9_unit_62 : decode cX9_unit 62 = .ok (.getfield 246, 3) := dk_180 0 246 (dk_at dksX9_unit_2 15 rfl rfl)
theorem dX9_unit_65 : decode cX9_unit 65 = .ok (.iconst 1, 1) := dk_4 (dk_at dksX9_unit_2 18 rfl rfl)
theorem dX9_unit_66 : decode cX9_unit 66 = .ok (.iadd, 1) := dk_96 (dk_at dksX9_unit_2 19 rfl rfl)
theorem dX9_unit_67 : decode cX9_unit 67 = .ok (.putfield 246, 3) := dk_181 0 246 (dk_at dksX9_unit_2 20 rfl rfl)
theorem dX9_unit_70 : decode cX9_unit 70 = .ok (.aload_n 0, 1) := dk_42 (dk_at dksX9_unit_2 23 rfl rfl)
theorem dX9_unit_71 : decode cX9_unit 71 = .ok (.dup, 1) := dk_89 (dk_at dksX9_unit_3 0 rfl rfl)
theorem dX9_unit_72 : decode cX9_unit 72 = .ok (.getfield 196, 3) := dk_180 0 196 (dk_at dksX9_unit_3 1 rfl rfl)
theorem dX9_unit_75 : decode cX9_unit 75 = .ok (.iconst 1, 1) := dk_4 (dk_at dksX9_unit_3 4 rfl rfl)
theorem dX9_unit_76 : decode cX9_unit 76 = .ok (.iadd, 1) := dk_96 (dk_at dksX9_unit_3 5 rfl rfl)
theorem dX9_unit_77 : decode cX9_unit 77 = .ok (.putfield 196, 3) := dk_181 0 196 (dk_at dksX9_unit_3 6 rfl rfl)
theorem dX9_unit_80 : decode cX9_unit 80 = .ok (.iload_n 1, 1) := dk_27 (dk_at dksX9_unit_3 9 rfl rfl)
theorem dX9_unit_81 : decode cX9_unit 81 = .ok (.ifCond .eq 34, 3) := dk_153 0 34 (dk_at dksX9_unit_3 10 rfl rfl)
theorem dX9_unit_84 : decode cX9_unit 84 = .ok (.aload_n 0, 1) := dk_42 (dk_at dksX9_unit_3 13 rfl rfl)
theorem dX9_unit_85 : decode cX9_unit 85 = .ok (.invokevirtual 223, 3) := dk_182 0 223 (dk_at dksX9_unit_3 14 rfl rfl)
theorem dX9_unit_88 : decode cX9_unit 88 = .ok (.aload_n 0, 1) := dk_42 (dk_at dksX9_unit_3 17 rfl rfl)
theorem dX9_unit_89 : decode cX9_unit 89 = .ok (.invokevirtual 202, 3) := dk_182 0 202 (dk_at dksX9_unit_3 18 rfl rfl)
theorem dX9_unit_92 : decode cX9_unit 92 = .ok (.astore_n 3, 1) := dk_78 (dk_at dksX9_unit_3 21 rfl rfl)
theorem dX9_unit_93 : decode cX9_unit 93 = .ok (.aload_n 0, 1) := dk_42 (dk_at dksX9_unit_3 22 rfl rfl)
theorem dX9_unit_94 : decode cX9_unit 94 = .ok (.dup, 1) := dk_89 (dk_at dksX9_unit_3 23 rfl rfl)
theorem dX9_unit_95 : decode cX9_unit 95 = .ok (.getfield 199, 3) := dk_180 0 199 (dk_at dksX9_unit_4 0 rfl rfl)
theorem dX9_unit_98 : decode cX9_unit 98 = .ok (.iconst 1, 1) := dk_4 (dk_at dksX9_unit_4 3 rfl rfl)
theorem dX9_unit_99 : decode cX9_unit 99 = .ok (.isub, 1) := dk_100 (dk_at dksX9_unit_4 4 rfl rfl)
theorem dX9_unit_100 : decode cX9_unit 100 = .ok (.putfield 199, 3) := dk_181 0 199 (dk_at dksX9_unit_4 5 rfl rfl)
theorem dX9_unit_103 : decode cX9_unit 103 = .ok (.aload_n 0, 1) := dk_42 (dk_at dksX9_unit_4 8 rfl rfl)
theorem dX9_unit_104 : decode cX9_unit 104 = .ok (.aload_n 0, 1) := dk_42 (dk_at dksX9_unit_4 9 rfl rfl)
theorem dX9_unit_105 : decode cX9_unit 105 = .ok (.bipush 41, 2) := dk_16 41 (dk_at dksX9_unit_4 10 rfl rfl)
theorem dX9_unit_107 : decode cX9_unit 107 = .ok (.invokevirtual 234, 3) := dk_182 0 234 (dk_at dksX9_unit_4 12 rfl rfl)
theorem dX9_unit_110 : decode cX9_unit 110 = .ok (.invokevirtual 93, 3) := dk_182 0 93 (dk_at dksX9_unit_4 15 rfl rfl)
theorem dX9_unit_113 : decode cX9_unit 113 = .ok (.aload_n 3, 1) := dk_45 (dk_at dksX9_unit_4 18 rfl rfl)
theorem dX9_unit_114 : decode cX9_unit 114 = .ok (.areturn, 1) := dk_176 (dk_at dksX9_unit_4 19 rfl rfl)
theorem dX9_unit_115 : decode cX9_unit 115 = .ok (.iload_n 2, 1) := dk_28 (dk_at dksX9_unit_4 20 rfl rfl)
theorem dX9_unit_116 : decode cX9_unit 116 = .ok (.ifCond .ge 17, 3) := dk_156 0 17 (dk_at dksX9_unit_4 21 rfl rfl)
theorem dX9_unit_119 : decode cX9_unit 119 = .ok (.new 249, 3) := dk_187 0 249 (dk_at dksX9_unit_5 0 rfl rfl)
theorem dX9_unit_122 : decode cX9_unit 122 = .ok (.dup, 1) := dk_89 (dk_at dksX9_unit_5 3 rfl rfl)
theorem dX9_unit_123 : decode cX9_unit 123 = .ok (.aload_n 0, 1) := dk_42 (dk_at dksX9_unit_5 4 rfl rfl)
theorem dX9_unit_124 : decode cX9_unit 124 = .ok (.getfield 63, 3) := dk_180 0 63 (dk_at dksX9_unit_5 5 rfl rfl)
theorem dX9_unit_127 : decode cX9_unit 127 = .ok (.invokespecial 251, 3) := dk_183 0 251 (dk_at dksX9_unit_5 8 rfl rfl)
theorem dX9_unit_130 : decode cX9_unit 130 = .ok (.goto 11, 3) := dk_167 0 11 (dk_at dksX9_unit_5 11 rfl rfl)
theorem dX9_unit_133 : decode cX9_unit 133 = .ok (.new 254, 3) := dk_187 0 254 (dk_at dksX9_unit_5 14 rfl rfl)
theorem dX9_unit_136 : decode cX9_unit 136 = .ok (.dup, 1) := dk_89 (dk_at dksX9_unit_5 17 rfl rfl)
theorem dX9_unit_137 : decode cX9_unit 137 = .ok (.iload_n 2, 1) := dk_28 (dk_at dksX9_unit_5 18 rfl rfl)
theorem dX9_unit_138 : decode cX9_unit 138 = .ok (.invokespecial 256, 3) := dk_183 1 0 (dk_at dksX9_unit_5 19 rfl rfl)
theorem dX9_unit_141 : decode cX9_unit 141 = .ok (.astore_n 3, 1) := dk_78 (dk_at dksX9_unit_5 22 rfl rfl)
theorem dX9_unit_142 : decode cX9_unit 142 = .ok (.aload_n 0, 1) := dk_42 (dk_at dksX9_unit_5 23 rfl rfl)
theorem dX9_unit_143 : decode cX9_unit 143 = .ok (.invokevirtual 90, 3) := dk_182 0 90 (dk_at dksX9_unit_6 0 rfl rfl)
theorem dX9_unit_146 : decode cX9_unit 146 = .ok (.aload_n 3, 1) := dk_45 (dk_at dksX9_unit_6 3 rfl rfl)
theorem dX9_unit_147 : decode cX9_unit 147 = .ok (.areturn, 1) := dk_176 (dk_at dksX9_unit_6 4 rfl rfl)
abbrev cX9_isSignHere : ByteArray := prog_11_method_11_code
def yX9_isSignHere : MethodName := ⟨RX9, "isSignHere", "(I)Z"⟩
def dkwX9_isSignHere_1 : List UInt8 := [3, 172]
abbrev dktX9_isSignHere_1 : List UInt8 := dkwX9_isSignHere_1 ++ []
def dkwX9_isSignHere_0 : List UInt8 := [42, 180, 0, 40, 6, 160, 0, 19, 42, 42, 180, 0, 33, 182, 0, 36, 27, 160, 0, 7, 4, 167, 0, 4]
abbrev dktX9_isSignHere_0 : List UInt8 := dkwX9_isSignHere_0 ++ dktX9_isSignHere_1
theorem dksX9_isSignHere_0 : cX9_isSignHere.data.toList.drop 0 = dktX9_isSignHere_0 := by decide +kernel
theorem dksX9_isSignHere_1 : cX9_isSignHere.data.toList.drop 24 = dktX9_isSignHere_1 := dk_seg dksX9_isSignHere_0 24 rfl rfl
theorem dX9_isSignHere_0 : decode cX9_isSignHere 0 = .ok (.aload_n 0, 1) := dk_42 (dk_at dksX9_isSignHere_0 0 rfl rfl)
theorem dX9_isSignHere_1 : decode cX9_isSignHere 1 = .ok (.getfield 40, 3) := dk_180 0 40 (dk_at dksX9_isSignHere_0 1 rfl rfl)
theorem dX9_isSignHere_4 : decode cX9_isSignHere 4 = .ok (.iconst 3, 1) := dk_6 (dk_at dksX9_isSignHere_0 4 rfl rfl)
theorem dX9_isSignHere_5 : decode cX9_isSignHere 5 = .ok (.if_icmp .ne 19, 3) := dk_160 0 19 (dk_at dksX9_isSignHere_0 5 rfl rfl)
theorem dX9_isSignHere_8 : decode cX9_isSignHere 8 = .ok (.aload_n 0, 1) := dk_42 (dk_at dksX9_isSignHere_0 8 rfl rfl)
theorem dX9_isSignHere_9 : decode cX9_isSignHere 9 = .ok (.aload_n 0, 1) := dk_42 (dk_at dksX9_isSignHere_0 9 rfl rfl)
theorem dX9_isSignHere_10 : decode cX9_isSignHere 10 = .ok (.getfield 33, 3) := dk_180 0 33 (dk_at dksX9_isSignHere_0 10 rfl rfl)
theorem dX9_isSignHere_13 : decode cX9_isSignHere 13 = .ok (.invokevirtual 36, 3) := dk_182 0 36 (dk_at dksX9_isSignHere_0 13 rfl rfl)
theorem dX9_isSignHere_16 : decode cX9_isSignHere 16 = .ok (.iload_n 1, 1) := dk_27 (dk_at dksX9_isSignHere_0 16 rfl rfl)
theorem dX9_isSignHere_17 : decode cX9_isSignHere 17 = .ok (.if_icmp .ne 7, 3) := dk_160 0 7 (dk_at dksX9_isSignHere_0 17 rfl rfl)
theorem dX9_isSignHere_20 : decode cX9_isSignHere 20 = .ok (.iconst 1, 1) := dk_4 (dk_at dksX9_isSignHere_0 20 rfl rfl)
theorem dX9_isSignHere_21 : decode cX9_isSignHere 21 = .ok (.goto 4, 3) := dk_167 0 4 (dk_at dksX9_isSignHere_0 21 rfl rfl)
theorem dX9_isSignHere_24 : decode cX9_isSignHere 24 = .ok (.iconst 0, 1) := dk_3 (dk_at dksX9_isSignHere_1 0 rfl rfl)
theorem dX9_isSignHere_25 : decode cX9_isSignHere 25 = .ok (.ireturn, 1) := dk_172 (dk_at dksX9_isSignHere_1 1 rfl rfl)
theorem q145 : (Jvm.Cond.initialized "BoardCrossing$Reade\x72") ∈ lw_all := lw_g (lw_at lw_m1 17 rfl) rfl
theorem q210 : (Jvm.Cond.fieldLinkNest "BoardCrossing$Reade\x72" (158 : Nat) "BoardCrossing$Rive\x72" "boards" "Ljava/util/ArrayList;" "BoardCrossing") ∈ lw_tbl := lw_at lw_m1 82 rfl
theorem q214 : (Jvm.Cond.fieldLinkNest "BoardCrossing$Reade\x72" (191 : Nat) "BoardCrossing$Rive\x72" "loads" "Ljava/util/ArrayList;" "BoardCrossing") ∈ lw_tbl := lw_at lw_m1 86 rfl
theorem q217 : (Jvm.Cond.fieldLinkNest "BoardCrossing$Reade\x72" (133 : Nat) "BoardCrossing$Rive\x72" "current" "[I" "BoardCrossing") ∈ lw_tbl := lw_at lw_m1 89 rfl
theorem q220 : (Jvm.Cond.fieldLinkNest "BoardCrossing$Reade\x72" (140 : Nat) "BoardCrossing$Rive\x72" "hasCurrent" "[Z" "BoardCrossing") ∈ lw_tbl := lw_at lw_m1 92 rfl
theorem q223 : (Jvm.Cond.fieldLinkNest "BoardCrossing$Reade\x72" (150 : Nat) "BoardCrossing$Rive\x72" "isIron" "[Z" "BoardCrossing") ∈ lw_tbl := lw_at lw_m1 95 rfl
theorem q226 : (Jvm.Cond.fieldLinkNest "BoardCrossing$Reade\x72" (273 : Nat) "BoardCrossing$Rive\x72" "heat" "LBoardCrossing$Part;" "BoardCrossing") ∈ lw_tbl := lw_at lw_m1 98 rfl
theorem q227 : (Jvm.Cond.fieldLinkNest "BoardCrossing$Reade\x72" (278 : Nat) "BoardCrossing$Rive\x72" "hasFlood" "Z" "BoardCrossing") ∈ lw_tbl := lw_at lw_m1 99 rfl
theorem q228 : (Jvm.Cond.fieldLinkNest "BoardCrossing$Reade\x72" (284 : Nat) "BoardCrossing$Rive\x72" "hasDraw" "Z" "BoardCrossing") ∈ lw_tbl := lw_at lw_m1 100 rfl
theorem q231 : (Jvm.Cond.fieldLinkNest "BoardCrossing$Reade\x72" (126 : Nat) "BoardCrossing$Rive\x72" "columns" "I" "BoardCrossing") ∈ lw_tbl := lw_at lw_m1 103 rfl
theorem q236 : (Jvm.Cond.fieldLinkNest "BoardCrossing$Reade\x72" (137 : Nat) "BoardCrossing$Rive\x72" "strokes" "I" "BoardCrossing") ∈ lw_tbl := lw_at lw_m1 108 rfl
theorem q238 : (Jvm.Cond.fieldLinkNest "BoardCrossing$Reade\x72" (259 : Nat) "BoardCrossing$Rive\x72" "lines" "I" "BoardCrossing") ∈ lw_tbl := lw_at lw_m1 110 rfl
theorem q239 : (Jvm.Cond.fieldLinkNest "BoardCrossing$Reade\x72" (147 : Nat) "BoardCrossing$Rive\x72" "currents" "I" "BoardCrossing") ∈ lw_tbl := lw_at lw_m1 111 rfl
theorem q240 : (Jvm.Cond.fieldLinkNest "BoardCrossing$Reade\x72" (153 : Nat) "BoardCrossing$Rive\x72" "irons" "I" "BoardCrossing") ∈ lw_tbl := lw_at lw_m1 112 rfl
theorem q241 : (Jvm.Cond.fieldLinkNest "BoardCrossing$Reade\x72" (246 : Nat) "BoardCrossing$Rive\x72" "units" "I" "BoardCrossing") ∈ lw_tbl := lw_at lw_m1 113 rfl
theorem q244 : (Jvm.Cond.fieldLinkNest "BoardCrossing$Reade\x72" (302 : Nat) "BoardCrossing$Rive\x72" "flood" "I" "BoardCrossing") ∈ lw_tbl := lw_at lw_m1 116 rfl
theorem q246 : (Jvm.Cond.fieldLinkNest "BoardCrossing$Reade\x72" (304 : Nat) "BoardCrossing$Rive\x72" "draw" "I" "BoardCrossing") ∈ lw_tbl := lw_at lw_m1 118 rfl
theorem q590 : (Jvm.Cond.instantiable "BoardCrossing$Reade\x72" (11 : Nat)) ∈ lw_all := lw_g (lw_at lw_m2 222 rfl) rfl
theorem q592 : (Jvm.Cond.instanceMethod ({ cls := "BoardCrossing$Reade\x72", name := "<init>", desc := "([BILBoardCrossing$Wrong;)V" } : Jvm.MethodName)) ∈ lw_all := lw_g (lw_at lw_m2 224 rfl) rfl
theorem q593 : (Jvm.Cond.code ({ cls := "BoardCrossing$Reade\x72", name := "<init>", desc := "([BILBoardCrossing$Wrong;)V" } : Jvm.MethodName) prog_11_method_1_code (4 : Nat) (Option.none : Option Jvm.ClassFile.FieldType)) ∈ lw_all := lw_g (lw_at lw_m2 225 rfl) rfl
theorem q594 : (Jvm.Cond.methodLink "BoardCrossing$Reade\x72" (3 : Nat) ({ cls := "java/lang/Object", name := "<init>", desc := "()V" } : Jvm.MethodName)) ∈ lw_all := lw_g (lw_at lw_m2 226 rfl) rfl
theorem q595 : (Jvm.Cond.classLink "BoardCrossing$Reade\x72" (9 : Nat) "BoardCrossing$Rive\x72") ∈ lw_all := lw_g (lw_at lw_m2 227 rfl) rfl
theorem q596 : (Jvm.Cond.methodLinkNest "BoardCrossing$Reade\x72" (11 : Nat) ({ cls := "BoardCrossing$Rive\x72", name := "<init>", desc := "()V" } : Jvm.MethodName) "BoardCrossing") ∈ lw_tbl := lw_at lw_m2 228 rfl
theorem q597 : (Jvm.Cond.fieldLink "BoardCrossing$Reade\x72" (18 : Nat) "BoardCrossing$Reade\x72" "text" "[B") ∈ lw_all := lw_g (lw_at lw_m2 229 rfl) rfl
theorem q598 : (Jvm.Cond.fieldLink "BoardCrossing$Reade\x72" (22 : Nat) "BoardCrossing$Reade\x72" "size" "I") ∈ lw_all := lw_g (lw_at lw_m2 230 rfl) rfl
theorem q599 : (Jvm.Cond.fieldLink "BoardCrossing$Reade\x72" (26 : Nat) "BoardCrossing$Reade\x72" "fault" "LBoardCrossing$Wrong;") ∈ lw_all := lw_g (lw_at lw_m2 231 rfl) rfl
theorem q600 : (Jvm.Cond.fieldLink "BoardCrossing$Reade\x72" (12 : Nat) "BoardCrossing$Reade\x72" "\x72" "LBoardCrossing$River;") ∈ lw_all := lw_g (lw_at lw_m2 232 rfl) rfl
theorem q601 : (Jvm.Cond.fieldLink "BoardCrossing$Reade\x72" (33 : Nat) "BoardCrossing$Reade\x72" "at" "I") ∈ lw_all := lw_g (lw_at lw_m2 233 rfl) rfl
theorem q602 : (Jvm.Cond.fieldLink "BoardCrossing$Reade\x72" (30 : Nat) "BoardCrossing$Reade\x72" "end" "I") ∈ lw_all := lw_g (lw_at lw_m2 234 rfl) rfl
theorem q603 : (Jvm.Cond.fieldLink "BoardCrossing$Reade\x72" (40 : Nat) "BoardCrossing$Reade\x72" "token" "I") ∈ lw_all := lw_g (lw_at lw_m2 235 rfl) rfl
theorem q604 : (Jvm.Cond.fieldLink "BoardCrossing$Reade\x72" (63 : Nat) "BoardCrossing$Reade\x72" "numbe\x72" "I") ∈ lw_all := lw_g (lw_at lw_m2 236 rfl) rfl
theorem q605 : (Jvm.Cond.fieldLink "BoardCrossing$Reade\x72" (59 : Nat) "BoardCrossing$Reade\x72" "name" "J") ∈ lw_all := lw_g (lw_at lw_m2 237 rfl) rfl
theorem q606 : (Jvm.Cond.fieldLink "BoardCrossing$Reade\x72" (199 : Nat) "BoardCrossing$Reade\x72" "deep" "I") ∈ lw_all := lw_g (lw_at lw_m2 238 rfl) rfl
theorem q607 : (Jvm.Cond.fieldLink "BoardCrossing$Reade\x72" (196 : Nat) "BoardCrossing$Reade\x72" "mine" "I") ∈ lw_all := lw_g (lw_at lw_m2 239 rfl) rfl
theorem q608 : (Jvm.Cond.laysFinal "BoardCrossing$Reade\x72" "BoardCrossing$Reade\x72" "text" "[B") ∈ lw_all := lw_g (lw_at lw_m3 0 rfl) rfl
theorem q609 : (Jvm.Cond.soleField "BoardCrossing$Reade\x72" "text") ∈ lw_all := lw_g (lw_at lw_m3 1 rfl) rfl
theorem q610 : (Jvm.Cond.laysFinal "BoardCrossing$Reade\x72" "BoardCrossing$Reade\x72" "size" "I") ∈ lw_all := lw_g (lw_at lw_m3 2 rfl) rfl
theorem q611 : (Jvm.Cond.soleField "BoardCrossing$Reade\x72" "size") ∈ lw_all := lw_g (lw_at lw_m3 3 rfl) rfl
theorem q612 : (Jvm.Cond.laysFinal "BoardCrossing$Reade\x72" "BoardCrossing$Reade\x72" "fault" "LBoardCrossing$Wrong;") ∈ lw_all := lw_g (lw_at lw_m3 4 rfl) rfl
theorem q613 : (Jvm.Cond.soleField "BoardCrossing$Reade\x72" "fault") ∈ lw_all := lw_g (lw_at lw_m3 5 rfl) rfl
theorem q614 : (Jvm.Cond.laysFinal "BoardCrossing$Reade\x72" "BoardCrossing$Reade\x72" "\x72" "LBoardCrossing$River;") ∈ lw_all := lw_g (lw_at lw_m3 6 rfl) rfl
theorem q615 : (Jvm.Cond.soleField "BoardCrossing$Reade\x72" "\x72") ∈ lw_all := lw_g (lw_at lw_m3 7 rfl) rfl
theorem q616 : (Jvm.Cond.lays "BoardCrossing$Reade\x72" "BoardCrossing$Reade\x72" "at" "I") ∈ lw_all := lw_g (lw_at lw_m3 8 rfl) rfl
theorem q617 : (Jvm.Cond.soleField "BoardCrossing$Reade\x72" "at") ∈ lw_all := lw_g (lw_at lw_m3 9 rfl) rfl
theorem q618 : (Jvm.Cond.lays "BoardCrossing$Reade\x72" "BoardCrossing$Reade\x72" "end" "I") ∈ lw_all := lw_g (lw_at lw_m3 10 rfl) rfl
theorem q619 : (Jvm.Cond.soleField "BoardCrossing$Reade\x72" "end") ∈ lw_all := lw_g (lw_at lw_m3 11 rfl) rfl
theorem q620 : (Jvm.Cond.lays "BoardCrossing$Reade\x72" "BoardCrossing$Reade\x72" "token" "I") ∈ lw_all := lw_g (lw_at lw_m3 12 rfl) rfl
theorem q621 : (Jvm.Cond.soleField "BoardCrossing$Reade\x72" "token") ∈ lw_all := lw_g (lw_at lw_m3 13 rfl) rfl
theorem q622 : (Jvm.Cond.lays "BoardCrossing$Reade\x72" "BoardCrossing$Reade\x72" "numbe\x72" "I") ∈ lw_all := lw_g (lw_at lw_m3 14 rfl) rfl
theorem q623 : (Jvm.Cond.soleField "BoardCrossing$Reade\x72" "numbe\x72") ∈ lw_all := lw_g (lw_at lw_m3 15 rfl) rfl
theorem q624 : (Jvm.Cond.lays "BoardCrossing$Reade\x72" "BoardCrossing$Reade\x72" "name" "J") ∈ lw_all := lw_g (lw_at lw_m3 16 rfl) rfl
theorem q625 : (Jvm.Cond.soleField "BoardCrossing$Reade\x72" "name") ∈ lw_all := lw_g (lw_at lw_m3 17 rfl) rfl
theorem q626 : (Jvm.Cond.lays "BoardCrossing$Reade\x72" "BoardCrossing$Reade\x72" "deep" "I") ∈ lw_all := lw_g (lw_at lw_m3 18 rfl) rfl
theorem q627 : (Jvm.Cond.soleField "BoardCrossing$Reade\x72" "deep") ∈ lw_all := lw_g (lw_at lw_m3 19 rfl) rfl
theorem q628 : (Jvm.Cond.lays "BoardCrossing$Reade\x72" "BoardCrossing$Reade\x72" "mine" "I") ∈ lw_all := lw_g (lw_at lw_m3 20 rfl) rfl
theorem q629 : (Jvm.Cond.soleField "BoardCrossing$Reade\x72" "mine") ∈ lw_all := lw_g (lw_at lw_m3 21 rfl) rfl
theorem q630 : (Jvm.Cond.superclass "BoardCrossing$Reade\x72" "java/lang/Object") ∈ lw_all := lw_g (lw_at lw_m3 22 rfl) rfl
theorem q632 : (Jvm.Cond.instanceMethod ({ cls := "BoardCrossing$Reade\x72", name := "read", desc := "()LBoardCrossing$River;" } : Jvm.MethodName)) ∈ lw_all := lw_g (lw_at lw_m3 24 rfl) rfl
theorem q633 : (Jvm.Cond.selects "BoardCrossing$Reade\x72" ({ cls := "BoardCrossing$Reade\x72", name := "read", desc := "()LBoardCrossing$River;" } : Jvm.MethodName) ({ cls := "BoardCrossing$Reade\x72", name := "read", desc := "()LBoardCrossing$River;" } : Jvm.MethodName)) ∈ lw_all := lw_g (lw_at lw_m3 25 rfl) rfl
theorem q634 : (Jvm.Cond.code ({ cls := "BoardCrossing$Reade\x72", name := "read", desc := "()LBoardCrossing$River;" } : Jvm.MethodName) prog_11_method_33_code (1 : Nat) (Option.some (Jvm.ClassFile.FieldType.object "BoardCrossing$Rive\x72"))) ∈ lw_all := lw_g (lw_at lw_m3 26 rfl) rfl
theorem q635 : (Jvm.Cond.methodLink "BoardCrossing$Reade\x72" (90 : Nat) ({ cls := "BoardCrossing$Reade\x72", name := "next", desc := "()V" } : Jvm.MethodName)) ∈ lw_all := lw_g (lw_at lw_m3 27 rfl) rfl
theorem q636 : (Jvm.Cond.privateMethod ({ cls := "BoardCrossing$Reade\x72", name := "next", desc := "()V" } : Jvm.MethodName)) ∈ lw_tbl := lw_at lw_m3 28 rfl
theorem q637 : (Jvm.Cond.instanceMethod ({ cls := "BoardCrossing$Reade\x72", name := "next", desc := "()V" } : Jvm.MethodName)) ∈ lw_all := lw_g (lw_at lw_m3 29 rfl) rfl
theorem q638 : (Jvm.Cond.code ({ cls := "BoardCrossing$Reade\x72", name := "next", desc := "()V" } : Jvm.MethodName) prog_11_method_6_code (2 : Nat) (Option.none : Option Jvm.ClassFile.FieldType)) ∈ lw_all := lw_g (lw_at lw_m3 30 rfl) rfl
theorem q639 : (Jvm.Cond.methodLink "BoardCrossing$Reade\x72" (36 : Nat) ({ cls := "BoardCrossing$Reade\x72", name := "sign", desc := "(I)I" } : Jvm.MethodName)) ∈ lw_all := lw_g (lw_at lw_m3 31 rfl) rfl
theorem q640 : (Jvm.Cond.privateMethod ({ cls := "BoardCrossing$Reade\x72", name := "sign", desc := "(I)I" } : Jvm.MethodName)) ∈ lw_tbl := lw_at lw_m3 32 rfl
theorem q641 : (Jvm.Cond.instanceMethod ({ cls := "BoardCrossing$Reade\x72", name := "sign", desc := "(I)I" } : Jvm.MethodName)) ∈ lw_all := lw_g (lw_at lw_m3 33 rfl) rfl
theorem q642 : (Jvm.Cond.code ({ cls := "BoardCrossing$Reade\x72", name := "sign", desc := "(I)I" } : Jvm.MethodName) prog_11_method_2_code (2 : Nat) (Option.some Jvm.ClassFile.FieldType.int)) ∈ lw_all := lw_g (lw_at lw_m3 34 rfl) rfl
theorem q643 : (Jvm.Cond.methodLink "BoardCrossing$Reade\x72" (43 : Nat) ({ cls := "BoardCrossing$Reade\x72", name := "isLette\x72", desc := "(I)Z" } : Jvm.MethodName)) ∈ lw_all := lw_g (lw_at lw_m3 35 rfl) rfl
theorem q644 : (Jvm.Cond.static ({ cls := "BoardCrossing$Reade\x72", name := "isLette\x72", desc := "(I)Z" } : Jvm.MethodName)) ∈ lw_all := lw_g (lw_at lw_m3 36 rfl) rfl
theorem q645 : (Jvm.Cond.code ({ cls := "BoardCrossing$Reade\x72", name := "isLette\x72", desc := "(I)Z" } : Jvm.MethodName) prog_11_method_3_code (1 : Nat) (Option.some Jvm.ClassFile.FieldType.boolean)) ∈ lw_all := lw_g (lw_at lw_m3 37 rfl) rfl
theorem q646 : (Jvm.Cond.methodLink "BoardCrossing$Reade\x72" (47 : Nat) ({ cls := "BoardCrossing$Reade\x72", name := "readWord", desc := "()V" } : Jvm.MethodName)) ∈ lw_all := lw_g (lw_at lw_m3 38 rfl) rfl
theorem q647 : (Jvm.Cond.privateMethod ({ cls := "BoardCrossing$Reade\x72", name := "readWord", desc := "()V" } : Jvm.MethodName)) ∈ lw_tbl := lw_at lw_m3 39 rfl
theorem q648 : (Jvm.Cond.instanceMethod ({ cls := "BoardCrossing$Reade\x72", name := "readWord", desc := "()V" } : Jvm.MethodName)) ∈ lw_all := lw_g (lw_at lw_m3 40 rfl) rfl
theorem q649 : (Jvm.Cond.code ({ cls := "BoardCrossing$Reade\x72", name := "readWord", desc := "()V" } : Jvm.MethodName) prog_11_method_7_code (1 : Nat) (Option.none : Option Jvm.ClassFile.FieldType)) ∈ lw_all := lw_g (lw_at lw_m3 41 rfl) rfl
theorem q650 : (Jvm.Cond.methodLink "BoardCrossing$Reade\x72" (50 : Nat) ({ cls := "BoardCrossing$Reade\x72", name := "isDigit", desc := "(I)Z" } : Jvm.MethodName)) ∈ lw_all := lw_g (lw_at lw_m3 42 rfl) rfl
theorem q651 : (Jvm.Cond.static ({ cls := "BoardCrossing$Reade\x72", name := "isDigit", desc := "(I)Z" } : Jvm.MethodName)) ∈ lw_all := lw_g (lw_at lw_m3 43 rfl) rfl
theorem q652 : (Jvm.Cond.code ({ cls := "BoardCrossing$Reade\x72", name := "isDigit", desc := "(I)Z" } : Jvm.MethodName) prog_11_method_4_code (1 : Nat) (Option.some Jvm.ClassFile.FieldType.boolean)) ∈ lw_all := lw_g (lw_at lw_m3 44 rfl) rfl
theorem q653 : (Jvm.Cond.methodLink "BoardCrossing$Reade\x72" (53 : Nat) ({ cls := "BoardCrossing$Reade\x72", name := "readNumbe\x72", desc := "()V" } : Jvm.MethodName)) ∈ lw_all := lw_g (lw_at lw_m3 45 rfl) rfl
theorem q654 : (Jvm.Cond.privateMethod ({ cls := "BoardCrossing$Reade\x72", name := "readNumbe\x72", desc := "()V" } : Jvm.MethodName)) ∈ lw_tbl := lw_at lw_m3 46 rfl
theorem q655 : (Jvm.Cond.instanceMethod ({ cls := "BoardCrossing$Reade\x72", name := "readNumbe\x72", desc := "()V" } : Jvm.MethodName)) ∈ lw_all := lw_g (lw_at lw_m3 47 rfl) rfl
theorem q656 : (Jvm.Cond.code ({ cls := "BoardCrossing$Reade\x72", name := "readNumbe\x72", desc := "()V" } : Jvm.MethodName) prog_11_method_8_code (1 : Nat) (Option.none : Option Jvm.ClassFile.FieldType)) ∈ lw_all := lw_g (lw_at lw_m3 48 rfl) rfl
theorem q657 : (Jvm.Cond.methodLink "BoardCrossing$Reade\x72" (56 : Nat) ({ cls := "BoardCrossing$Reade\x72", name := "isSign", desc := "(I)Z" } : Jvm.MethodName)) ∈ lw_all := lw_g (lw_at lw_m3 49 rfl) rfl
theorem q658 : (Jvm.Cond.static ({ cls := "BoardCrossing$Reade\x72", name := "isSign", desc := "(I)Z" } : Jvm.MethodName)) ∈ lw_all := lw_g (lw_at lw_m3 50 rfl) rfl
theorem q659 : (Jvm.Cond.code ({ cls := "BoardCrossing$Reade\x72", name := "isSign", desc := "(I)Z" } : Jvm.MethodName) prog_11_method_5_code (1 : Nat) (Option.some Jvm.ClassFile.FieldType.boolean)) ∈ lw_all := lw_g (lw_at lw_m3 51 rfl) rfl
theorem q660 : (Jvm.Cond.methodLink "BoardCrossing$Reade\x72" (306 : Nat) ({ cls := "BoardCrossing$Reade\x72", name := "line", desc := "()V" } : Jvm.MethodName)) ∈ lw_all := lw_g (lw_at lw_m3 52 rfl) rfl
theorem q661 : (Jvm.Cond.privateMethod ({ cls := "BoardCrossing$Reade\x72", name := "line", desc := "()V" } : Jvm.MethodName)) ∈ lw_tbl := lw_at lw_m3 53 rfl
theorem q662 : (Jvm.Cond.instanceMethod ({ cls := "BoardCrossing$Reade\x72", name := "line", desc := "()V" } : Jvm.MethodName)) ∈ lw_all := lw_g (lw_at lw_m3 54 rfl) rfl
theorem q663 : (Jvm.Cond.code ({ cls := "BoardCrossing$Reade\x72", name := "line", desc := "()V" } : Jvm.MethodName) prog_11_method_32_code (1 : Nat) (Option.none : Option Jvm.ClassFile.FieldType)) ∈ lw_all := lw_g (lw_at lw_m3 55 rfl) rfl
theorem q664 : (Jvm.Cond.methodLink "BoardCrossing$Reade\x72" (287 : Nat) ({ cls := "BoardCrossing$Reade\x72", name := "canLine", desc := "()Z" } : Jvm.MethodName)) ∈ lw_all := lw_g (lw_at lw_m3 56 rfl) rfl
theorem q665 : (Jvm.Cond.privateMethod ({ cls := "BoardCrossing$Reade\x72", name := "canLine", desc := "()Z" } : Jvm.MethodName)) ∈ lw_tbl := lw_at lw_m3 57 rfl
theorem q666 : (Jvm.Cond.instanceMethod ({ cls := "BoardCrossing$Reade\x72", name := "canLine", desc := "()Z" } : Jvm.MethodName)) ∈ lw_all := lw_g (lw_at lw_m3 58 rfl) rfl
theorem q667 : (Jvm.Cond.code ({ cls := "BoardCrossing$Reade\x72", name := "canLine", desc := "()Z" } : Jvm.MethodName) prog_11_method_31_code (1 : Nat) (Option.some Jvm.ClassFile.FieldType.boolean)) ∈ lw_all := lw_g (lw_at lw_m3 59 rfl) rfl
theorem q668 : (Jvm.Cond.stringRef "BoardCrossing$Reade\x72" (257 : Nat) "wate\x72") ∈ lw_tbl := lw_at lw_m3 60 rfl
theorem q669 : (Jvm.Cond.methodLink "BoardCrossing$Reade\x72" (76 : Nat) ({ cls := "BoardCrossing$Reade\x72", name := "isWord", desc := "(Ljava/lang/String;)Z" } : Jvm.MethodName)) ∈ lw_all := lw_g (lw_at lw_m3 61 rfl) rfl
theorem q670 : (Jvm.Cond.privateMethod ({ cls := "BoardCrossing$Reade\x72", name := "isWord", desc := "(Ljava/lang/String;)Z" } : Jvm.MethodName)) ∈ lw_tbl := lw_at lw_m3 62 rfl
theorem q671 : (Jvm.Cond.instanceMethod ({ cls := "BoardCrossing$Reade\x72", name := "isWord", desc := "(Ljava/lang/String;)Z" } : Jvm.MethodName)) ∈ lw_all := lw_g (lw_at lw_m3 63 rfl) rfl
theorem q672 : (Jvm.Cond.code ({ cls := "BoardCrossing$Reade\x72", name := "isWord", desc := "(Ljava/lang/String;)Z" } : Jvm.MethodName) prog_11_method_9_code (3 : Nat) (Option.some Jvm.ClassFile.FieldType.boolean)) ∈ lw_all := lw_g (lw_at lw_m3 64 rfl) rfl
theorem q673 : (Jvm.Cond.methodLink "BoardCrossing$Reade\x72" (66 : Nat) ({ cls := "java/lang/String", name := "length", desc := "()I" } : Jvm.MethodName)) ∈ lw_all := lw_g (lw_at lw_m3 65 rfl) rfl
theorem q683 : (Jvm.Cond.methodLink "BoardCrossing$Reade\x72" (72 : Nat) ({ cls := "java/lang/String", name := "charAt", desc := "(I)C" } : Jvm.MethodName)) ∈ lw_all := lw_g (lw_at lw_m3 75 rfl) rfl
theorem q719 : (Jvm.Cond.stringRef "BoardCrossing$Reade\x72" (262 : Nat) "current") ∈ lw_tbl := lw_at lw_m3 111 rfl
theorem q720 : (Jvm.Cond.stringRef "BoardCrossing$Reade\x72" (263 : Nat) "iron") ∈ lw_tbl := lw_at lw_m3 112 rfl
theorem q721 : (Jvm.Cond.stringRef "BoardCrossing$Reade\x72" (265 : Nat) "board") ∈ lw_tbl := lw_at lw_m3 113 rfl
theorem q722 : (Jvm.Cond.methodLink "BoardCrossing$Reade\x72" (267 : Nat) ({ cls := "java/util/ArrayList", name := "size", desc := "()I" } : Jvm.MethodName)) ∈ lw_all := lw_g (lw_at lw_m3 114 rfl) rfl
theorem q723 : (Jvm.Cond.stringRef "BoardCrossing$Reade\x72" (269 : Nat) "load") ∈ lw_tbl := lw_at lw_m3 115 rfl
theorem q724 : (Jvm.Cond.stringRef "BoardCrossing$Reade\x72" (271 : Nat) "heat") ∈ lw_tbl := lw_at lw_m3 116 rfl
theorem q725 : (Jvm.Cond.stringRef "BoardCrossing$Reade\x72" (276 : Nat) "flood") ∈ lw_tbl := lw_at lw_m3 117 rfl
theorem q726 : (Jvm.Cond.stringRef "BoardCrossing$Reade\x72" (282 : Nat) "draw") ∈ lw_tbl := lw_at lw_m3 118 rfl
theorem q727 : (Jvm.Cond.methodLink "BoardCrossing$Reade\x72" (86 : Nat) ({ cls := "BoardCrossing$Reade\x72", name := "wrong", desc := "()LBoardCrossing$Wrong;" } : Jvm.MethodName)) ∈ lw_all := lw_g (lw_at lw_m3 119 rfl) rfl
theorem q728 : (Jvm.Cond.privateMethod ({ cls := "BoardCrossing$Reade\x72", name := "wrong", desc := "()LBoardCrossing$Wrong;" } : Jvm.MethodName)) ∈ lw_tbl := lw_at lw_m3 120 rfl
theorem q729 : (Jvm.Cond.instanceMethod ({ cls := "BoardCrossing$Reade\x72", name := "wrong", desc := "()LBoardCrossing$Wrong;" } : Jvm.MethodName)) ∈ lw_all := lw_g (lw_at lw_m3 121 rfl) rfl
theorem q730 : (Jvm.Cond.code ({ cls := "BoardCrossing$Reade\x72", name := "wrong", desc := "()LBoardCrossing$Wrong;" } : Jvm.MethodName) prog_11_method_12_code (1 : Nat) (Option.some (Jvm.ClassFile.FieldType.object "BoardCrossing$Wrong"))) ∈ lw_all := lw_g (lw_at lw_m3 122 rfl) rfl
theorem q731 : (Jvm.Cond.methodLink "BoardCrossing$Reade\x72" (80 : Nat) ({ cls := "BoardCrossing$Wrong", name := "by", desc := "(II)LBoardCrossing$Wrong;" } : Jvm.MethodName)) ∈ lw_all := lw_g (lw_at lw_m3 123 rfl) rfl
theorem q735 : (Jvm.Cond.methodLink "BoardCrossing$Reade\x72" (180 : Nat) ({ cls := "BoardCrossing$Reade\x72", name := "comes", desc := "(Ljava/lang/String;)Z" } : Jvm.MethodName)) ∈ lw_all := lw_g (lw_at lw_m3 127 rfl) rfl
theorem q736 : (Jvm.Cond.privateMethod ({ cls := "BoardCrossing$Reade\x72", name := "comes", desc := "(Ljava/lang/String;)Z" } : Jvm.MethodName)) ∈ lw_tbl := lw_at lw_m3 128 rfl
theorem q737 : (Jvm.Cond.instanceMethod ({ cls := "BoardCrossing$Reade\x72", name := "comes", desc := "(Ljava/lang/String;)Z" } : Jvm.MethodName)) ∈ lw_all := lw_g (lw_at lw_m3 129 rfl) rfl
theorem q738 : (Jvm.Cond.code ({ cls := "BoardCrossing$Reade\x72", name := "comes", desc := "(Ljava/lang/String;)Z" } : Jvm.MethodName) prog_11_method_16_code (3 : Nat) (Option.some Jvm.ClassFile.FieldType.boolean)) ∈ lw_all := lw_g (lw_at lw_m3 130 rfl) rfl
theorem q739 : (Jvm.Cond.methodLink "BoardCrossing$Reade\x72" (97 : Nat) ({ cls := "BoardCrossing$Reade\x72", name := "numbe\x72", desc := "(II)I" } : Jvm.MethodName)) ∈ lw_all := lw_g (lw_at lw_m3 131 rfl) rfl
theorem q740 : (Jvm.Cond.privateMethod ({ cls := "BoardCrossing$Reade\x72", name := "numbe\x72", desc := "(II)I" } : Jvm.MethodName)) ∈ lw_tbl := lw_at lw_m3 132 rfl
theorem q741 : (Jvm.Cond.instanceMethod ({ cls := "BoardCrossing$Reade\x72", name := "numbe\x72", desc := "(II)I" } : Jvm.MethodName)) ∈ lw_all := lw_g (lw_at lw_m3 133 rfl) rfl
theorem q742 : (Jvm.Cond.code ({ cls := "BoardCrossing$Reade\x72", name := "numbe\x72", desc := "(II)I" } : Jvm.MethodName) prog_11_method_14_code (4 : Nat) (Option.some Jvm.ClassFile.FieldType.int)) ∈ lw_all := lw_g (lw_at lw_m3 134 rfl) rfl
theorem q743 : (Jvm.Cond.stringRef "BoardCrossing$Reade\x72" (290 : Nat) "by") ∈ lw_tbl := lw_at lw_m3 135 rfl
theorem q744 : (Jvm.Cond.methodLink "BoardCrossing$Reade\x72" (171 : Nat) ({ cls := "BoardCrossing$Reade\x72", name := "afte\x72", desc := "(Ljava/lang/String;II)I" } : Jvm.MethodName)) ∈ lw_all := lw_g (lw_at lw_m3 136 rfl) rfl
theorem q745 : (Jvm.Cond.privateMethod ({ cls := "BoardCrossing$Reade\x72", name := "afte\x72", desc := "(Ljava/lang/String;II)I" } : Jvm.MethodName)) ∈ lw_tbl := lw_at lw_m3 137 rfl
theorem q746 : (Jvm.Cond.instanceMethod ({ cls := "BoardCrossing$Reade\x72", name := "afte\x72", desc := "(Ljava/lang/String;II)I" } : Jvm.MethodName)) ∈ lw_all := lw_g (lw_at lw_m3 138 rfl) rfl
theorem q747 : (Jvm.Cond.code ({ cls := "BoardCrossing$Reade\x72", name := "afte\x72", desc := "(Ljava/lang/String;II)I" } : Jvm.MethodName) prog_11_method_15_code (4 : Nat) (Option.some Jvm.ClassFile.FieldType.int)) ∈ lw_all := lw_g (lw_at lw_m3 139 rfl) rfl
theorem q748 : (Jvm.Cond.methodLink "BoardCrossing$Reade\x72" (93 : Nat) ({ cls := "BoardCrossing$Reade\x72", name := "must", desc := "(Z)V" } : Jvm.MethodName)) ∈ lw_all := lw_g (lw_at lw_m3 140 rfl) rfl
theorem q749 : (Jvm.Cond.privateMethod ({ cls := "BoardCrossing$Reade\x72", name := "must", desc := "(Z)V" } : Jvm.MethodName)) ∈ lw_tbl := lw_at lw_m3 141 rfl
theorem q750 : (Jvm.Cond.instanceMethod ({ cls := "BoardCrossing$Reade\x72", name := "must", desc := "(Z)V" } : Jvm.MethodName)) ∈ lw_all := lw_g (lw_at lw_m3 142 rfl) rfl
theorem q751 : (Jvm.Cond.code ({ cls := "BoardCrossing$Reade\x72", name := "must", desc := "(Z)V" } : Jvm.MethodName) prog_11_method_13_code (2 : Nat) (Option.none : Option Jvm.ClassFile.FieldType)) ∈ lw_all := lw_g (lw_at lw_m3 143 rfl) rfl
theorem q752 : (Jvm.Cond.methodLink "BoardCrossing$Reade\x72" (291 : Nat) ({ cls := "BoardCrossing$Reade\x72", name := "current", desc := "()V" } : Jvm.MethodName)) ∈ lw_all := lw_g (lw_at lw_m3 144 rfl) rfl
theorem q753 : (Jvm.Cond.privateMethod ({ cls := "BoardCrossing$Reade\x72", name := "current", desc := "()V" } : Jvm.MethodName)) ∈ lw_tbl := lw_at lw_m3 145 rfl
theorem q754 : (Jvm.Cond.instanceMethod ({ cls := "BoardCrossing$Reade\x72", name := "current", desc := "()V" } : Jvm.MethodName)) ∈ lw_all := lw_g (lw_at lw_m3 146 rfl) rfl
theorem q755 : (Jvm.Cond.code ({ cls := "BoardCrossing$Reade\x72", name := "current", desc := "()V" } : Jvm.MethodName) prog_11_method_19_code (2 : Nat) (Option.none : Option Jvm.ClassFile.FieldType)) ∈ lw_all := lw_g (lw_at lw_m3 147 rfl) rfl
theorem q756 : (Jvm.Cond.stringRef "BoardCrossing$Reade\x72" (132 : Nat) "at") ∈ lw_tbl := lw_at lw_m3 148 rfl
theorem q757 : (Jvm.Cond.methodLink "BoardCrossing$Reade\x72" (144 : Nat) ({ cls := "BoardCrossing$Reade\x72", name := "cell", desc := "(II[Z)I" } : Jvm.MethodName)) ∈ lw_all := lw_g (lw_at lw_m3 149 rfl) rfl
theorem q758 : (Jvm.Cond.privateMethod ({ cls := "BoardCrossing$Reade\x72", name := "cell", desc := "(II[Z)I" } : Jvm.MethodName)) ∈ lw_tbl := lw_at lw_m3 150 rfl
theorem q759 : (Jvm.Cond.instanceMethod ({ cls := "BoardCrossing$Reade\x72", name := "cell", desc := "(II[Z)I" } : Jvm.MethodName)) ∈ lw_all := lw_g (lw_at lw_m3 151 rfl) rfl
theorem q760 : (Jvm.Cond.code ({ cls := "BoardCrossing$Reade\x72", name := "cell", desc := "(II[Z)I" } : Jvm.MethodName) prog_11_method_18_code (7 : Nat) (Option.some Jvm.ClassFile.FieldType.int)) ∈ lw_all := lw_g (lw_at lw_m3 152 rfl) rfl
theorem q761 : (Jvm.Cond.methodLink "BoardCrossing$Reade\x72" (129 : Nat) ({ cls := "BoardCrossing$Rive\x72", name := "cell", desc := "(II)I" } : Jvm.MethodName)) ∈ lw_all := lw_g (lw_at lw_m3 153 rfl) rfl
theorem q765 : (Jvm.Cond.methodLink "BoardCrossing$Reade\x72" (293 : Nat) ({ cls := "BoardCrossing$Reade\x72", name := "iron", desc := "()V" } : Jvm.MethodName)) ∈ lw_all := lw_g (lw_at lw_m3 157 rfl) rfl
theorem q766 : (Jvm.Cond.privateMethod ({ cls := "BoardCrossing$Reade\x72", name := "iron", desc := "()V" } : Jvm.MethodName)) ∈ lw_tbl := lw_at lw_m3 158 rfl
theorem q767 : (Jvm.Cond.instanceMethod ({ cls := "BoardCrossing$Reade\x72", name := "iron", desc := "()V" } : Jvm.MethodName)) ∈ lw_all := lw_g (lw_at lw_m3 159 rfl) rfl
theorem q768 : (Jvm.Cond.code ({ cls := "BoardCrossing$Reade\x72", name := "iron", desc := "()V" } : Jvm.MethodName) prog_11_method_20_code (2 : Nat) (Option.none : Option Jvm.ClassFile.FieldType)) ∈ lw_all := lw_g (lw_at lw_m3 160 rfl) rfl
theorem q769 : (Jvm.Cond.methodLink "BoardCrossing$Reade\x72" (295 : Nat) ({ cls := "BoardCrossing$Reade\x72", name := "board", desc := "()V" } : Jvm.MethodName)) ∈ lw_all := lw_g (lw_at lw_m3 161 rfl) rfl
theorem q770 : (Jvm.Cond.privateMethod ({ cls := "BoardCrossing$Reade\x72", name := "board", desc := "()V" } : Jvm.MethodName)) ∈ lw_tbl := lw_at lw_m3 162 rfl
theorem q771 : (Jvm.Cond.instanceMethod ({ cls := "BoardCrossing$Reade\x72", name := "board", desc := "()V" } : Jvm.MethodName)) ∈ lw_all := lw_g (lw_at lw_m3 163 rfl) rfl
theorem q772 : (Jvm.Cond.code ({ cls := "BoardCrossing$Reade\x72", name := "board", desc := "()V" } : Jvm.MethodName) prog_11_method_21_code (2 : Nat) (Option.none : Option Jvm.ClassFile.FieldType)) ∈ lw_all := lw_g (lw_at lw_m3 164 rfl) rfl
theorem q773 : (Jvm.Cond.classLink "BoardCrossing$Reade\x72" (156 : Nat) "BoardCrossing$Board") ∈ lw_all := lw_g (lw_at lw_m3 165 rfl) rfl
theorem q775 : (Jvm.Cond.methodLink "BoardCrossing$Reade\x72" (162 : Nat) ({ cls := "BoardCrossing$Reade\x72", name := "fresh", desc := "(Ljava/util/ArrayList;)J" } : Jvm.MethodName)) ∈ lw_all := lw_g (lw_at lw_m3 167 rfl) rfl
theorem q776 : (Jvm.Cond.privateMethod ({ cls := "BoardCrossing$Reade\x72", name := "fresh", desc := "(Ljava/util/ArrayList;)J" } : Jvm.MethodName)) ∈ lw_tbl := lw_at lw_m3 168 rfl
theorem q777 : (Jvm.Cond.instanceMethod ({ cls := "BoardCrossing$Reade\x72", name := "fresh", desc := "(Ljava/util/ArrayList;)J" } : Jvm.MethodName)) ∈ lw_all := lw_g (lw_at lw_m3 169 rfl) rfl
theorem q778 : (Jvm.Cond.code ({ cls := "BoardCrossing$Reade\x72", name := "fresh", desc := "(Ljava/util/ArrayList;)J" } : Jvm.MethodName) prog_11_method_17_code (4 : Nat) (Option.some Jvm.ClassFile.FieldType.long)) ∈ lw_all := lw_g (lw_at lw_m3 170 rfl) rfl
theorem q779 : (Jvm.Cond.fieldLink "BoardCrossing$Reade\x72" (100 : Nat) "BoardCrossing$Reade\x72" "KEPT" "[Ljava/lang/String;") ∈ lw_all := lw_g (lw_at lw_m3 171 rfl) rfl
theorem q780 : (Jvm.Cond.laysStatic "BoardCrossing$Reade\x72" "KEPT" "[Ljava/lang/String;") ∈ lw_tbl := lw_at lw_m3 172 rfl
theorem q781 : (Jvm.Cond.methodLink "BoardCrossing$Reade\x72" (104 : Nat) ({ cls := "BoardCrossing$Reade\x72", name := "which", desc := "([Ljava/lang/String;)I" } : Jvm.MethodName)) ∈ lw_all := lw_g (lw_at lw_m3 173 rfl) rfl
theorem q782 : (Jvm.Cond.privateMethod ({ cls := "BoardCrossing$Reade\x72", name := "which", desc := "([Ljava/lang/String;)I" } : Jvm.MethodName)) ∈ lw_tbl := lw_at lw_m3 174 rfl
theorem q783 : (Jvm.Cond.instanceMethod ({ cls := "BoardCrossing$Reade\x72", name := "which", desc := "([Ljava/lang/String;)I" } : Jvm.MethodName)) ∈ lw_all := lw_g (lw_at lw_m3 175 rfl) rfl
theorem q784 : (Jvm.Cond.code ({ cls := "BoardCrossing$Reade\x72", name := "which", desc := "([Ljava/lang/String;)I" } : Jvm.MethodName) prog_11_method_10_code (3 : Nat) (Option.some Jvm.ClassFile.FieldType.int)) ∈ lw_all := lw_g (lw_at lw_m3 176 rfl) rfl
theorem q785 : (Jvm.Cond.methodLink "BoardCrossing$Reade\x72" (108 : Nat) ({ cls := "java/util/ArrayList", name := "iterato\x72", desc := "()Ljava/util/Iterator;" } : Jvm.MethodName)) ∈ lw_all := lw_g (lw_at lw_m3 177 rfl) rfl
theorem q808 : (Jvm.Cond.interfaceEntry "BoardCrossing$Reade\x72" (114 : Nat)) ∈ lw_tbl := lw_at lw_m3 200 rfl
theorem q809 : (Jvm.Cond.methodLink "BoardCrossing$Reade\x72" (114 : Nat) ({ cls := "java/util/Iterato\x72", name := "hasNext", desc := "()Z" } : Jvm.MethodName)) ∈ lw_all := lw_g (lw_at lw_m3 201 rfl) rfl
theorem q818 : (Jvm.Cond.interfaceEntry "BoardCrossing$Reade\x72" (120 : Nat)) ∈ lw_tbl := lw_at lw_m3 210 rfl
theorem q819 : (Jvm.Cond.methodLink "BoardCrossing$Reade\x72" (120 : Nat) ({ cls := "java/util/Iterato\x72", name := "next", desc := "()Ljava/lang/Object;" } : Jvm.MethodName)) ∈ lw_all := lw_g (lw_at lw_m3 211 rfl) rfl
theorem q831 : (Jvm.Cond.classLink "BoardCrossing$Reade\x72" (123 : Nat) "BoardCrossing$Called") ∈ lw_all := lw_g (lw_at lw_m3 223 rfl) rfl
theorem q832 : (Jvm.Cond.methodLink "BoardCrossing$Reade\x72" (166 : Nat) ({ cls := "BoardCrossing$Board", name := "<init>", desc := "(J)V" } : Jvm.MethodName)) ∈ lw_all := lw_g (lw_at lw_m3 224 rfl) rfl
theorem q840 : (Jvm.Cond.fieldLinkNest "BoardCrossing$Reade\x72" (177 : Nat) "BoardCrossing$Board" "at" "I" "BoardCrossing") ∈ lw_tbl := lw_at lw_m3 232 rfl
theorem q844 : (Jvm.Cond.fieldLinkNest "BoardCrossing$Reade\x72" (183 : Nat) "BoardCrossing$Board" "bears" "I" "BoardCrossing") ∈ lw_tbl := lw_at lw_m3 236 rfl
theorem q846 : (Jvm.Cond.fieldLink "BoardCrossing$Reade\x72" (125 : Nat) "BoardCrossing$Called" "name" "J") ∈ lw_all := lw_g (lw_at lw_m3 238 rfl) rfl
theorem q853 : (Jvm.Cond.fieldLink "BoardCrossing$Reade\x72" (175 : Nat) "BoardCrossing$Board" "wide" "I") ∈ lw_all := lw_g (lw_at lw_m4 5 rfl) rfl
theorem q854 : (Jvm.Cond.fieldLink "BoardCrossing$Reade\x72" (195 : Nat) "BoardCrossing$Load" "wide" "I") ∈ lw_all := lw_g (lw_at lw_m4 6 rfl) rfl
theorem q864 : (Jvm.Cond.stringRef "BoardCrossing$Reade\x72" (169 : Nat) "wide") ∈ lw_tbl := lw_at lw_m4 16 rfl
theorem q865 : (Jvm.Cond.stringRef "BoardCrossing$Reade\x72" (178 : Nat) "bears") ∈ lw_tbl := lw_at lw_m4 17 rfl
theorem q866 : (Jvm.Cond.methodLink "BoardCrossing$Reade\x72" (185 : Nat) ({ cls := "java/util/ArrayList", name := "add", desc := "(Ljava/lang/Object;)Z" } : Jvm.MethodName)) ∈ lw_all := lw_g (lw_at lw_m4 18 rfl) rfl
theorem q906 : (Jvm.Cond.selects "BoardCrossing$Reade\x72" ({ cls := "java/lang/Object", name := "getClass", desc := "()Ljava/lang/Class;" } : Jvm.MethodName) ({ cls := "java/lang/Object", name := "getClass", desc := "()Ljava/lang/Class;" } : Jvm.MethodName)) ∈ lw_all := lw_g (lw_at lw_m4 58 rfl) rfl
theorem q931 : (Jvm.Cond.methodLink "BoardCrossing$Reade\x72" (297 : Nat) ({ cls := "BoardCrossing$Reade\x72", name := "load", desc := "()V" } : Jvm.MethodName)) ∈ lw_all := lw_g (lw_at lw_m4 83 rfl) rfl
theorem q932 : (Jvm.Cond.privateMethod ({ cls := "BoardCrossing$Reade\x72", name := "load", desc := "()V" } : Jvm.MethodName)) ∈ lw_tbl := lw_at lw_m4 84 rfl
theorem q933 : (Jvm.Cond.instanceMethod ({ cls := "BoardCrossing$Reade\x72", name := "load", desc := "()V" } : Jvm.MethodName)) ∈ lw_all := lw_g (lw_at lw_m4 85 rfl) rfl
theorem q934 : (Jvm.Cond.code ({ cls := "BoardCrossing$Reade\x72", name := "load", desc := "()V" } : Jvm.MethodName) prog_11_method_22_code (2 : Nat) (Option.none : Option Jvm.ClassFile.FieldType)) ∈ lw_all := lw_g (lw_at lw_m4 86 rfl) rfl
theorem q935 : (Jvm.Cond.classLink "BoardCrossing$Reade\x72" (189 : Nat) "BoardCrossing$Load") ∈ lw_all := lw_g (lw_at lw_m4 87 rfl) rfl
theorem q937 : (Jvm.Cond.methodLink "BoardCrossing$Reade\x72" (194 : Nat) ({ cls := "BoardCrossing$Load", name := "<init>", desc := "(J)V" } : Jvm.MethodName)) ∈ lw_all := lw_g (lw_at lw_m4 89 rfl) rfl
theorem q944 : (Jvm.Cond.methodLink "BoardCrossing$Reade\x72" (299 : Nat) ({ cls := "BoardCrossing$Reade\x72", name := "formula", desc := "()LBoardCrossing$Part;" } : Jvm.MethodName)) ∈ lw_all := lw_g (lw_at lw_m4 96 rfl) rfl
theorem q945 : (Jvm.Cond.privateMethod ({ cls := "BoardCrossing$Reade\x72", name := "formula", desc := "()LBoardCrossing$Part;" } : Jvm.MethodName)) ∈ lw_tbl := lw_at lw_m4 97 rfl
theorem q946 : (Jvm.Cond.instanceMethod ({ cls := "BoardCrossing$Reade\x72", name := "formula", desc := "()LBoardCrossing$Part;" } : Jvm.MethodName)) ∈ lw_all := lw_g (lw_at lw_m4 98 rfl) rfl
theorem q947 : (Jvm.Cond.code ({ cls := "BoardCrossing$Reade\x72", name := "formula", desc := "()LBoardCrossing$Part;" } : Jvm.MethodName) prog_11_method_23_code (1 : Nat) (Option.some (Jvm.ClassFile.FieldType.object "BoardCrossing$Part"))) ∈ lw_all := lw_g (lw_at lw_m4 99 rfl) rfl
theorem q948 : (Jvm.Cond.methodLink "BoardCrossing$Reade\x72" (202 : Nat) ({ cls := "BoardCrossing$Reade\x72", name := "eithe\x72", desc := "()LBoardCrossing$Part;" } : Jvm.MethodName)) ∈ lw_all := lw_g (lw_at lw_m4 100 rfl) rfl
theorem q949 : (Jvm.Cond.privateMethod ({ cls := "BoardCrossing$Reade\x72", name := "eithe\x72", desc := "()LBoardCrossing$Part;" } : Jvm.MethodName)) ∈ lw_tbl := lw_at lw_m4 101 rfl
theorem q950 : (Jvm.Cond.instanceMethod ({ cls := "BoardCrossing$Reade\x72", name := "eithe\x72", desc := "()LBoardCrossing$Part;" } : Jvm.MethodName)) ∈ lw_all := lw_g (lw_at lw_m4 102 rfl) rfl
theorem q951 : (Jvm.Cond.code ({ cls := "BoardCrossing$Reade\x72", name := "eithe\x72", desc := "()LBoardCrossing$Part;" } : Jvm.MethodName) prog_11_method_24_code (2 : Nat) (Option.some (Jvm.ClassFile.FieldType.object "BoardCrossing$Part"))) ∈ lw_all := lw_g (lw_at lw_m4 103 rfl) rfl
theorem q952 : (Jvm.Cond.methodLink "BoardCrossing$Reade\x72" (206 : Nat) ({ cls := "BoardCrossing$Reade\x72", name := "both", desc := "()LBoardCrossing$Part;" } : Jvm.MethodName)) ∈ lw_all := lw_g (lw_at lw_m4 104 rfl) rfl
theorem q953 : (Jvm.Cond.privateMethod ({ cls := "BoardCrossing$Reade\x72", name := "both", desc := "()LBoardCrossing$Part;" } : Jvm.MethodName)) ∈ lw_tbl := lw_at lw_m4 105 rfl
theorem q954 : (Jvm.Cond.instanceMethod ({ cls := "BoardCrossing$Reade\x72", name := "both", desc := "()LBoardCrossing$Part;" } : Jvm.MethodName)) ∈ lw_all := lw_g (lw_at lw_m4 106 rfl) rfl
theorem q955 : (Jvm.Cond.code ({ cls := "BoardCrossing$Reade\x72", name := "both", desc := "()LBoardCrossing$Part;" } : Jvm.MethodName) prog_11_method_25_code (2 : Nat) (Option.some (Jvm.ClassFile.FieldType.object "BoardCrossing$Part"))) ∈ lw_all := lw_g (lw_at lw_m4 107 rfl) rfl
theorem q956 : (Jvm.Cond.methodLink "BoardCrossing$Reade\x72" (216 : Nat) ({ cls := "BoardCrossing$Reade\x72", name := "one", desc := "()LBoardCrossing$Part;" } : Jvm.MethodName)) ∈ lw_all := lw_g (lw_at lw_m4 108 rfl) rfl
theorem q957 : (Jvm.Cond.privateMethod ({ cls := "BoardCrossing$Reade\x72", name := "one", desc := "()LBoardCrossing$Part;" } : Jvm.MethodName)) ∈ lw_tbl := lw_at lw_m4 109 rfl
theorem q958 : (Jvm.Cond.instanceMethod ({ cls := "BoardCrossing$Reade\x72", name := "one", desc := "()LBoardCrossing$Part;" } : Jvm.MethodName)) ∈ lw_all := lw_g (lw_at lw_m4 110 rfl) rfl
theorem q959 : (Jvm.Cond.code ({ cls := "BoardCrossing$Reade\x72", name := "one", desc := "()LBoardCrossing$Part;" } : Jvm.MethodName) prog_11_method_27_code (3 : Nat) (Option.some (Jvm.ClassFile.FieldType.object "BoardCrossing$Part"))) ∈ lw_all := lw_g (lw_at lw_m4 111 rfl) rfl
theorem q960 : (Jvm.Cond.stringRef "BoardCrossing$Reade\x72" (221 : Nat) "not") ∈ lw_tbl := lw_at lw_m4 112 rfl
theorem q961 : (Jvm.Cond.methodLink "BoardCrossing$Reade\x72" (223 : Nat) ({ cls := "BoardCrossing$Reade\x72", name := "open", desc := "()V" } : Jvm.MethodName)) ∈ lw_all := lw_g (lw_at lw_m4 113 rfl) rfl
theorem q962 : (Jvm.Cond.privateMethod ({ cls := "BoardCrossing$Reade\x72", name := "open", desc := "()V" } : Jvm.MethodName)) ∈ lw_tbl := lw_at lw_m4 114 rfl
theorem q963 : (Jvm.Cond.instanceMethod ({ cls := "BoardCrossing$Reade\x72", name := "open", desc := "()V" } : Jvm.MethodName)) ∈ lw_all := lw_g (lw_at lw_m4 115 rfl) rfl
theorem q964 : (Jvm.Cond.code ({ cls := "BoardCrossing$Reade\x72", name := "open", desc := "()V" } : Jvm.MethodName) prog_11_method_26_code (1 : Nat) (Option.none : Option Jvm.ClassFile.FieldType)) ∈ lw_all := lw_g (lw_at lw_m4 116 rfl) rfl
theorem q965 : (Jvm.Cond.classLink "BoardCrossing$Reade\x72" (226 : Nat) "BoardCrossing$Not") ∈ lw_all := lw_g (lw_at lw_m4 117 rfl) rfl
theorem q967 : (Jvm.Cond.methodLink "BoardCrossing$Reade\x72" (228 : Nat) ({ cls := "BoardCrossing$Not", name := "<init>", desc := "(LBoardCrossing$Part;)V" } : Jvm.MethodName)) ∈ lw_all := lw_g (lw_at lw_m4 119 rfl) rfl
theorem q978 : (Jvm.Cond.methodLink "BoardCrossing$Reade\x72" (231 : Nat) ({ cls := "BoardCrossing$Reade\x72", name := "sum", desc := "()LBoardCrossing$Part;" } : Jvm.MethodName)) ∈ lw_all := lw_g (lw_at lw_m4 130 rfl) rfl
theorem q979 : (Jvm.Cond.privateMethod ({ cls := "BoardCrossing$Reade\x72", name := "sum", desc := "()LBoardCrossing$Part;" } : Jvm.MethodName)) ∈ lw_tbl := lw_at lw_m4 131 rfl
theorem q980 : (Jvm.Cond.instanceMethod ({ cls := "BoardCrossing$Reade\x72", name := "sum", desc := "()LBoardCrossing$Part;" } : Jvm.MethodName)) ∈ lw_all := lw_g (lw_at lw_m4 132 rfl) rfl
theorem q981 : (Jvm.Cond.code ({ cls := "BoardCrossing$Reade\x72", name := "sum", desc := "()LBoardCrossing$Part;" } : Jvm.MethodName) prog_11_method_28_code (3 : Nat) (Option.some (Jvm.ClassFile.FieldType.object "BoardCrossing$Part"))) ∈ lw_all := lw_g (lw_at lw_m4 133 rfl) rfl
theorem q982 : (Jvm.Cond.methodLink "BoardCrossing$Reade\x72" (237 : Nat) ({ cls := "BoardCrossing$Reade\x72", name := "term", desc := "()LBoardCrossing$Part;" } : Jvm.MethodName)) ∈ lw_all := lw_g (lw_at lw_m4 134 rfl) rfl
theorem q983 : (Jvm.Cond.privateMethod ({ cls := "BoardCrossing$Reade\x72", name := "term", desc := "()LBoardCrossing$Part;" } : Jvm.MethodName)) ∈ lw_tbl := lw_at lw_m4 135 rfl
theorem q984 : (Jvm.Cond.instanceMethod ({ cls := "BoardCrossing$Reade\x72", name := "term", desc := "()LBoardCrossing$Part;" } : Jvm.MethodName)) ∈ lw_all := lw_g (lw_at lw_m4 136 rfl) rfl
theorem q985 : (Jvm.Cond.code ({ cls := "BoardCrossing$Reade\x72", name := "term", desc := "()LBoardCrossing$Part;" } : Jvm.MethodName) prog_11_method_29_code (3 : Nat) (Option.some (Jvm.ClassFile.FieldType.object "BoardCrossing$Part"))) ∈ lw_all := lw_g (lw_at lw_m4 137 rfl) rfl
theorem q986 : (Jvm.Cond.methodLink "BoardCrossing$Reade\x72" (240 : Nat) ({ cls := "BoardCrossing$Reade\x72", name := "unit", desc := "()LBoardCrossing$Part;" } : Jvm.MethodName)) ∈ lw_all := lw_g (lw_at lw_m4 138 rfl) rfl
theorem q987 : (Jvm.Cond.privateMethod ({ cls := "BoardCrossing$Reade\x72", name := "unit", desc := "()LBoardCrossing$Part;" } : Jvm.MethodName)) ∈ lw_tbl := lw_at lw_m4 139 rfl
theorem q988 : (Jvm.Cond.instanceMethod ({ cls := "BoardCrossing$Reade\x72", name := "unit", desc := "()LBoardCrossing$Part;" } : Jvm.MethodName)) ∈ lw_all := lw_g (lw_at lw_m4 140 rfl) rfl
theorem q989 : (Jvm.Cond.code ({ cls := "BoardCrossing$Reade\x72", name := "unit", desc := "()LBoardCrossing$Part;" } : Jvm.MethodName) prog_11_method_30_code (4 : Nat) (Option.some (Jvm.ClassFile.FieldType.object "BoardCrossing$Part"))) ∈ lw_all := lw_g (lw_at lw_m4 141 rfl) rfl
theorem q990 : (Jvm.Cond.methodLink "BoardCrossing$Reade\x72" (234 : Nat) ({ cls := "BoardCrossing$Reade\x72", name := "isSignHere", desc := "(I)Z" } : Jvm.MethodName)) ∈ lw_all := lw_g (lw_at lw_m4 142 rfl) rfl
theorem q991 : (Jvm.Cond.privateMethod ({ cls := "BoardCrossing$Reade\x72", name := "isSignHere", desc := "(I)Z" } : Jvm.MethodName)) ∈ lw_tbl := lw_at lw_m4 143 rfl
theorem q992 : (Jvm.Cond.instanceMethod ({ cls := "BoardCrossing$Reade\x72", name := "isSignHere", desc := "(I)Z" } : Jvm.MethodName)) ∈ lw_all := lw_g (lw_at lw_m4 144 rfl) rfl
theorem q993 : (Jvm.Cond.code ({ cls := "BoardCrossing$Reade\x72", name := "isSignHere", desc := "(I)Z" } : Jvm.MethodName) prog_11_method_11_code (2 : Nat) (Option.some Jvm.ClassFile.FieldType.boolean)) ∈ lw_all := lw_g (lw_at lw_m4 145 rfl) rfl
theorem q994 : (Jvm.Cond.fieldLink "BoardCrossing$Reade\x72" (243 : Nat) "BoardCrossing$Reade\x72" "NAMED" "[Ljava/lang/String;") ∈ lw_all := lw_g (lw_at lw_m4 146 rfl) rfl
theorem q995 : (Jvm.Cond.laysStatic "BoardCrossing$Reade\x72" "NAMED" "[Ljava/lang/String;") ∈ lw_tbl := lw_at lw_m4 147 rfl
theorem q996 : (Jvm.Cond.classLink "BoardCrossing$Reade\x72" (249 : Nat) "BoardCrossing$Numeral") ∈ lw_all := lw_g (lw_at lw_m4 148 rfl) rfl
theorem q998 : (Jvm.Cond.methodLink "BoardCrossing$Reade\x72" (251 : Nat) ({ cls := "BoardCrossing$Numeral", name := "<init>", desc := "(I)V" } : Jvm.MethodName)) ∈ lw_all := lw_g (lw_at lw_m4 150 rfl) rfl
theorem q1006 : (Jvm.Cond.classLink "BoardCrossing$Reade\x72" (254 : Nat) "BoardCrossing$Named") ∈ lw_all := lw_g (lw_at lw_m4 158 rfl) rfl
theorem q1008 : (Jvm.Cond.methodLink "BoardCrossing$Reade\x72" (256 : Nat) ({ cls := "BoardCrossing$Named", name := "<init>", desc := "(I)V" } : Jvm.MethodName)) ∈ lw_all := lw_g (lw_at lw_m4 160 rfl) rfl
theorem q1016 : (Jvm.Cond.classLink "BoardCrossing$Reade\x72" (211 : Nat) "BoardCrossing$Two") ∈ lw_all := lw_g (lw_at lw_m4 168 rfl) rfl
theorem q1018 : (Jvm.Cond.methodLink "BoardCrossing$Reade\x72" (213 : Nat) ({ cls := "BoardCrossing$Two", name := "<init>", desc := "(ILBoardCrossing$Part;LBoardCrossing$Part;)V" } : Jvm.MethodName)) ∈ lw_all := lw_g (lw_at lw_m4 170 rfl) rfl
theorem q1032 : (Jvm.Cond.stringRef "BoardCrossing$Reade\x72" (219 : Nat) "and") ∈ lw_tbl := lw_at lw_m4 184 rfl
theorem q1033 : (Jvm.Cond.stringRef "BoardCrossing$Reade\x72" (209 : Nat) "o\x72") ∈ lw_tbl := lw_at lw_m4 185 rfl
theorem q2249 : (Jvm.Cond.castable "BoardCrossing$Reade\x72" "java/lang/Object") ∈ lw_tbl := lw_at lw_m9 201 rfl
theorem q2271 : (Jvm.Cond.stringRef "BoardCrossing$Reade\x72" (309 : Nat) "row") ∈ lw_tbl := lw_at lw_m9 223 rfl
theorem q2272 : (Jvm.Cond.stringRef "BoardCrossing$Reade\x72" (311 : Nat) "column") ∈ lw_tbl := lw_at lw_m9 224 rfl
theorem q2273 : (Jvm.Cond.stringRef "BoardCrossing$Reade\x72" (313 : Nat) "strokes") ∈ lw_tbl := lw_at lw_m9 225 rfl
theorem q2274 : (Jvm.Cond.stringRef "BoardCrossing$Reade\x72" (314 : Nat) "hot") ∈ lw_tbl := lw_at lw_m9 226 rfl
theorem in_X9 : ∀ w ∈ wsX90, w ∈ lw_all := lw_in wsX90 [608, 610, 612, 614, 616, 618, 620, 622, 624, 626, 628] (by decide +kernel) (by decide +kernel)
