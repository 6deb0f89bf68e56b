/-! NeitherBare -/
set_option maxRecDepth 100000
def RX0 : String := "NeitherBare"
def TX0 : u_T := fun k => match k with
  | 0 => ("NeitherBare", "latest", "I", false)
  | 1 => ("NeitherBare", "came", "[I", true)
  | 2 => ("NeitherBare", "asked", "I", false)
  | 3 => ("NeitherBare", "upper", "J", false)
  | 4 => ("NeitherBare", "lower", "J", false)
  | 5 => ("NeitherBare", "rows", "[[I", true)
  | 6 => ("NeitherBare", "texts", "[[B", true)
  | 7 => ("NeitherBare", "thingMany", "I", false)
  | 8 => ("NeitherBare", "clauseMany", "I", false)
  | 9 => ("NeitherBare", "things", "[I", true)
  | 10 => ("NeitherBare", "clauses", "[LNeitherBare$Clause;", true)
  | 11 => ("NeitherBare", "now", "[I", true)
  | 12 => ("NeitherBare", "readAt", "I", false)
  | 13 => ("NeitherBare", "readThings", "I", false)
  | 14 => ("NeitherBare", "readClauses", "I", false)
  | 15 => ("NeitherBare", "readThing", "[I", true)
  | 16 => ("NeitherBare", "readClause", "[I", true)
  | 17 => ("NeitherBare", "deedMany", "I", false)
  | 18 => ("NeitherBare", "log", "[I", true)
  | 19 => ("NeitherBare", "kept", "[[I", true)
  | 20 => ("NeitherBare", "waySets", "[J", true)
  | 21 => ("NeitherBare", "firstNamed", "I", false)
  | _ => ("NeitherBare", "h", "J", false)
def tyX0 : Nat → FieldType := fun k => match k with
  | 0 => .int
  | 1 => .array .int
  | 2 => .int
  | 3 => .long
  | 4 => .long
  | 5 => .array (.array .int)
  | 6 => .array (.array .byte)
  | 7 => .int
  | 8 => .int
  | 9 => .array .int
  | 10 => .array (.object "NeitherBare$Clause")
  | 11 => .array .int
  | 12 => .int
  | 13 => .int
  | 14 => .int
  | 15 => .array .int
  | 16 => .array .int
  | 17 => .int
  | 18 => .array .int
  | 19 => .array (.array .int)
  | 20 => .array .long
  | 21 => .int
  | _ => .long
abbrev wsX00 : List Cond := u_ws RX0 TX0 23
set_option maxRecDepth 100000 in
theorem nmX0 : ∀ a, a < 23 → ∀ b, b < 23 → a ≠ b → (TX0 a).2.1 ≠ (TX0 b).2.1 := by decide +kernel
set_option maxRecDepth 100000 in
theorem tyX0_ok : ∀ k, k < 23 → parseFieldDescriptor (TX0 k).2.2.1 = some (tyX0 k) := by decide +kernel
abbrev cX0_asked : ByteArray := prog_1_method_5_code
def yX0_asked : MethodName := ⟨RX0, "asked", "()I"⟩
theorem dX0_asked_0 : decode cX0_asked 0 = .ok (.aload_n 0, 1) := by decide +kernel
theorem dX0_asked_1 : decode cX0_asked 1 = .ok (.getfield 11, 3) := by decide +kernel
theorem dX0_asked_4 : decode cX0_asked 4 = .ok (.ireturn, 1) := by decide +kernel
abbrev cX0_init : ByteArray := prog_1_method_6_code
def yX0_init : MethodName := ⟨RX0, "<init>", "()V"⟩
def dkwX0_init_5 : List UInt8 := [42, 180, 0, 44, 8, 27, 96, 7, 79, 132, 1, 1, 167, 255, 230, 177]
abbrev dktX0_init_5 : List UInt8 := dkwX0_init_5 ++ []
def dkwX0_init_4 : List UInt8 := [42, 16, 8, 188, 11, 181, 0, 59, 3, 60, 27, 7, 162, 0, 27, 42, 180, 0, 44, 4, 27, 96, 4, 79]
abbrev dktX0_init_4 : List UInt8 := dkwX0_init_4 ++ dktX0_init_5
def dkwX0_init_3 : List UInt8 := [16, 24, 188, 10, 181, 0, 50, 42, 17, 1, 104, 188, 10, 181, 0, 53, 42, 6, 189, 0, 24, 181, 0, 56]
abbrev dktX0_init_3 : List UInt8 := dkwX0_init_3 ++ dktX0_init_4
def dkwX0_init_2 : List UInt8 := [189, 0, 38, 181, 0, 40, 42, 16, 9, 188, 10, 181, 0, 44, 42, 16, 30, 188, 10, 181, 0, 47, 42]
abbrev dktX0_init_2 : List UInt8 := dkwX0_init_2 ++ dktX0_init_3
def dkwX0_init_1 : List UInt8 := [181, 0, 25, 42, 7, 189, 0, 29, 181, 0, 31, 42, 16, 30, 188, 10, 181, 0, 35, 42, 16, 8]
abbrev dktX0_init_1 : List UInt8 := dkwX0_init_1 ++ dktX0_init_2
def dkwX0_init_0 : List UInt8 := [42, 183, 0, 14, 42, 16, 6, 188, 10, 181, 0, 7, 42, 10, 181, 0, 20, 42, 16, 6, 189, 0, 24]
abbrev dktX0_init_0 : List UInt8 := dkwX0_init_0 ++ dktX0_init_1
theorem dksX0_init_0 : cX0_init.data.toList.drop 0 = dktX0_init_0 := by decide +kernel
theorem dksX0_init_1 : cX0_init.data.toList.drop 23 = dktX0_init_1 := dk_seg dksX0_init_0 23 rfl rfl
theorem dksX0_init_2 : cX0_init.data.toList.drop 45 = dktX0_init_2 := dk_seg dksX0_init_1 22 rfl rfl
theorem dksX0_init_3 : cX0_init.data.toList.drop 68 = dktX0_init_3 := dk_seg dksX0_init_2 23 rfl rfl
theorem dksX0_init_4 : cX0_init.data.toList.drop 92 = dktX0_init_4 := dk_seg dksX0_init_3 24 rfl rfl
theorem dksX0_init_5 : cX0_init.data.toList.drop 116 = dktX0_init_5 := dk_seg dksX0_init_4 24 rfl rfl
theorem dX0_init_0 : decode cX0_init 0 = .ok (.aload_n 0, 1) := dk_42 (dk_at dksX0_init_0 0 rfl rfl)
theorem dX0_init_1 : decode cX0_init 1 = .ok (.invokespecial 14, 3) := dk_183 0 14 (dk_at dksX0_init_0 1 rfl rfl)
theorem dX0_init_4 : decode cX0_init 4 = .ok (.aload_n 0, 1) := dk_42 (dk_at dksX0_init_0 4 rfl rfl)
theorem dX0_init_5 : decode cX0_init 5 = .ok (.bipush 6, 2) := dk_16 6 (dk_at dksX0_init_0 5 rfl rfl)
theorem dX0_init_7 : decode cX0_init 7 = .ok (.newarray .int, 2) := dk_188_10 (dk_at dksX0_init_0 7 rfl rfl)
theorem dX0_init_9 : decode cX0_init 9 = .ok (.putfield 7, 3) := dk_181 0 7 (dk_at dksX0_init_0 9 rfl rfl)
theorem dX0_init_12 : decode cX0_init 12 = .ok (.aload_n 0, 1) := dk_42 (dk_at dksX0_init_0 12 rfl rfl)
theorem dX0_init_13 : decode cX0_init 13 = .ok (.lconst 1, 1) := dk_10 (dk_at dksX0_init_0 13 rfl rfl)
theorem dX0_init_14 : decode cX0_init 14 = .ok (.putfield 20, 3) := dk_181 0 20 (dk_at dksX0_init_0 14 rfl rfl)
theorem dX0_init_17 : decode cX0_init 17 = .ok (.aload_n 0, 1) := dk_42 (dk_at dksX0_init_0 17 rfl rfl)
theorem dX0_init_18 : decode cX0_init 18 = .ok (.bipush 6, 2) := dk_16 6 (dk_at dksX0_init_0 18 rfl rfl)
theorem dX0_init_20 : decode cX0_init 20 = .ok (.anewarray 24, 3) := dk_189 0 24 (dk_at dksX0_init_0 20 rfl rfl)
theorem dX0_init_23 : decode cX0_init 23 = .ok (.putfield 25, 3) := dk_181 0 25 (dk_at dksX0_init_1 0 rfl rfl)
theorem dX0_init_26 : decode cX0_init 26 = .ok (.aload_n 0, 1) := dk_42 (dk_at dksX0_init_1 3 rfl rfl)
theorem dX0_init_27 : decode cX0_init 27 = .ok (.iconst 4, 1) := dk_7 (dk_at dksX0_init_1 4 rfl rfl)
theorem dX0_init_28 : decode cX0_init 28 = .ok (.anewarray 29, 3) := dk_189 0 29 (dk_at dksX0_init_1 5 rfl rfl)
theorem dX0_init_31 : decode cX0_init 31 = .ok (.putfield 31, 3) := dk_181 0 31 (dk_at dksX0_init_1 8 rfl rfl)
theorem dX0_init_34 : decode cX0_init 34 = .ok (.aload_n 0, 1) := dk_42 (dk_at dksX0_init_1 11 rfl rfl)
theorem dX0_init_35 : decode cX0_init 35 = .ok (.bipush 30, 2) := dk_16 30 (dk_at dksX0_init_1 12 rfl rfl)
theorem dX0_init_37 : decode cX0_init 37 = .ok (.newarray .int, 2) := dk_188_10 (dk_at dksX0_init_1 14 rfl rfl)
theorem dX0_init_39 : decode cX0_init 39 = .ok (.putfield 35, 3) := dk_181 0 35 (dk_at dksX0_init_1 16 rfl rfl)
theorem dX0_init_42 : decode cX0_init 42 = .ok (.aload_n 0, 1) := dk_42 (dk_at dksX0_init_1 19 rfl rfl)
theorem dX0_init_43 : decode cX0_init 43 = .ok (.bipush 8, 2) := dk_16 8 (dk_at dksX0_init_1 20 rfl rfl)
theorem dX0_init_45 : decode cX0_init 45 = .ok (.anewarray 38, 3) := dk_189 0 38 (dk_at dksX0_init_2 0 rfl rfl)
theorem dX0_init_48 : decode cX0_init 48 = .ok (.putfield 40, 3) := dk_181 0 40 (dk_at dksX0_init_2 3 rfl rfl)
theorem dX0_init_51 : decode cX0_init 51 = .ok (.aload_n 0, 1) := dk_42 (dk_at dksX0_init_2 6 rfl rfl)
theorem dX0_init_52 : decode cX0_init 52 = .ok (.bipush 9, 2) := dk_16 9 (dk_at dksX0_init_2 7 rfl rfl)
theorem dX0_init_54 : decode cX0_init 54 = .ok (.newarray .int, 2) := dk_188_10 (dk_at dksX0_init_2 9 rfl rfl)
theorem dX0_init_56 : decode cX0_init 56 = .ok (.putfield 44, 3) := dk_181 0 44 (dk_at dksX0_init_2 11 rfl rfl)
theorem dX0_init_59 : decode cX0_init 59 = .ok (.aload_n 0, 1) := dk_42 (dk_at dksX0_init_2 14 rfl rfl)
theorem dX0_init_60 : decode cX0_init 60 = .ok (.bipush 30, 2) := dk_16 30 (dk_at dksX0_init_2 15 rfl rfl)
theorem dX0_init_62 : decode cX0_init 62 = .ok (.newarray .int, 2) := dk_188_10 (dk_at dksX0_init_2 17 rfl rfl)
theorem dX0_init_64 : decode cX0_init 64 = .ok (.putfield 47, 3) := dk_181 0 47 (dk_at dksX0_init_2 19 rfl rfl)
theorem dX0_init_67 : decode cX0_init 67 = .ok (.aload_n 0, 1) := dk_42 (dk_at dksX0_init_2 22 rfl rfl)
theorem dX0_init_68 : decode cX0_init 68 = .ok (.bipush 24, 2) := dk_16 24 (dk_at dksX0_init_3 0 rfl rfl)
theorem dX0_init_70 : decode cX0_init 70 = .ok (.newarray .int, 2) := dk_188_10 (dk_at dksX0_init_3 2 rfl rfl)
theorem dX0_init_72 : decode cX0_init 72 = .ok (.putfield 50, 3) := dk_181 0 50 (dk_at dksX0_init_3 4 rfl rfl)
theorem dX0_init_75 : decode cX0_init 75 = .ok (.aload_n 0, 1) := dk_42 (dk_at dksX0_init_3 7 rfl rfl)
theorem dX0_init_76 : decode cX0_init 76 = .ok (.sipush 360, 3) := dk_17 1 104 (dk_at dksX0_init_3 8 rfl rfl)
theorem dX0_init_79 : decode cX0_init 79 = .ok (.newarray .int, 2) := dk_188_10 (dk_at dksX0_init_3 11 rfl rfl)
theorem dX0_init_81 : decode cX0_init 81 = .ok (.putfield 53, 3) := dk_181 0 53 (dk_at dksX0_init_3 13 rfl rfl)
theorem dX0_init_84 : decode cX0_init 84 = .ok (.aload_n 0, 1) := dk_42 (dk_at dksX0_init_3 16 rfl rfl)
theorem dX0_init_85 : decode cX0_init 85 = .ok (.iconst 3, 1) := dk_6 (dk_at dksX0_init_3 17 rfl rfl)
theorem dX0_init_86 : decode cX0_init 86 = .ok (.anewarray 24, 3) := dk_189 0 24 (dk_at dksX0_init_3 18 rfl rfl)
theorem dX0_init_89 : decode cX0_init 89 = .ok (.putfield 56, 3) := dk_181 0 56 (dk_at dksX0_init_3 21 rfl rfl)
theorem dX0_init_92 : decode cX0_init 92 = .ok (.aload_n 0, 1) := dk_42 (dk_at dksX0_init_4 0 rfl rfl)
theorem dX0_init_93 : decode cX0_init 93 = .ok (.bipush 8, 2) := dk_16 8 (dk_at dksX0_init_4 1 rfl rfl)
theorem dX0_init_95 : decode cX0_init 95 = .ok (.newarray .long, 2) := dk_188_11 (dk_at dksX0_init_4 3 rfl rfl)
theorem dX0_init_97 : decode cX0_init 97 = .ok (.putfield 59, 3) := dk_181 0 59 (dk_at dksX0_init_4 5 rfl rfl)
theorem dX0_init_100 : decode cX0_init 100 = .ok (.iconst 0, 1) := dk_3 (dk_at dksX0_init_4 8 rfl rfl)
theorem dX0_init_101 : decode cX0_init 101 = .ok (.istore_n 1, 1) := dk_60 (dk_at dksX0_init_4 9 rfl rfl)
theorem dX0_init_102 : decode cX0_init 102 = .ok (.iload_n 1, 1) := dk_27 (dk_at dksX0_init_4 10 rfl rfl)
theorem dX0_init_103 : decode cX0_init 103 = .ok (.iconst 4, 1) := dk_7 (dk_at dksX0_init_4 11 rfl rfl)
theorem dX0_init_104 : decode cX0_init 104 = .ok (.if_icmp .ge 27, 3) := dk_162 0 27 (dk_at dksX0_init_4 12 rfl rfl)
theorem dX0_init_107 : decode cX0_init 107 = .ok (.aload_n 0, 1) := dk_42 (dk_at dksX0_init_4 15 rfl rfl)
theorem dX0_init_108 : decode cX0_init 108 = .ok (.getfield 44, 3) := dk_180 0 44 (dk_at dksX0_init_4 16 rfl rfl)
theorem dX0_init_111 : decode cX0_init 111 = .ok (.iconst 1, 1) := dk_4 (dk_at dksX0_init_4 19 rfl rfl)
theorem dX0_init_112 : decode cX0_init 112 = .ok (.iload_n 1, 1) := dk_27 (dk_at dksX0_init_4 20 rfl rfl)
theorem dX0_init_113 : decode cX0_init 113 = .ok (.iadd, 1) := dk_96 (dk_at dksX0_init_4 21 rfl rfl)
theorem dX0_init_114 : decode cX0_init 114 = .ok (.iconst 1, 1) := dk_4 (dk_at dksX0_init_4 22 rfl rfl)
theorem dX0_init_115 : decode cX0_init 115 = .ok (.iastore, 1) := dk_79 (dk_at dksX0_init_4 23 rfl rfl)
theorem dX0_init_116 : decode cX0_init 116 = .ok (.aload_n 0, 1) := dk_42 (dk_at dksX0_init_5 0 rfl rfl)
theorem dX0_init_117 : decode cX0_init 117 = .ok (.getfield 44, 3) := dk_180 0 44 (dk_at dksX0_init_5 1 rfl rfl)
theorem dX0_init_120 : decode cX0_init 120 = .ok (.iconst 5, 1) := dk_8 (dk_at dksX0_init_5 4 rfl rfl)
theorem dX0_init_121 : decode cX0_init 121 = .ok (.iload_n 1, 1) := dk_27 (dk_at dksX0_init_5 5 rfl rfl)
theorem dX0_init_122 : decode cX0_init 122 = .ok (.iadd, 1) := dk_96 (dk_at dksX0_init_5 6 rfl rfl)
theorem dX0_init_123 : decode cX0_init 123 = .ok (.iconst 4, 1) := dk_7 (dk_at dksX0_init_5 7 rfl rfl)
theorem dX0_init_124 : decode cX0_init 124 = .ok (.iastore, 1) := dk_79 (dk_at dksX0_init_5 8 rfl rfl)
theorem dX0_init_125 : decode cX0_init 125 = .ok (.iinc 1 1, 3) := dk_132 1 1 (dk_at dksX0_init_5 9 rfl rfl)
theorem dX0_init_128 : decode cX0_init 128 = .ok (.goto (-26), 3) := dk_167 255 230 (dk_at dksX0_init_5 12 rfl rfl)
theorem dX0_init_131 : decode cX0_init 131 = .ok (.return_, 1) := dk_177 (dk_at dksX0_init_5 15 rfl rfl)
abbrev cX0_upper : ByteArray := prog_1_method_8_code
def yX0_upper : MethodName := ⟨RX0, "upper", "()J"⟩
theorem dX0_upper_0 : decode cX0_upper 0 = .ok (.aload_n 0, 1) := by decide +kernel
theorem dX0_upper_1 : decode cX0_upper 1 = .ok (.getfield 63, 3) := by decide +kernel
theorem dX0_upper_4 : decode cX0_upper 4 = .ok (.lreturn, 1) := by decide +kernel
abbrev cX0_lower : ByteArray := prog_1_method_9_code
def yX0_lower : MethodName := ⟨RX0, "lower", "()J"⟩
theorem dX0_lower_0 : decode cX0_lower 0 = .ok (.aload_n 0, 1) := by decide +kernel
theorem dX0_lower_1 : decode cX0_lower 1 = .ok (.getfield 20, 3) := by decide +kernel
theorem dX0_lower_4 : decode cX0_lower 4 = .ok (.lreturn, 1) := by decide +kernel
abbrev cX0_row : ByteArray := prog_1_method_11_code
def yX0_row : MethodName := ⟨RX0, "row", "(II)I"⟩
def dkwX0_row_1 : List UInt8 := [28, 172, 78, 42, 8, 182, 0, 76, 172]
abbrev dktX0_row_1 : List UInt8 := dkwX0_row_1 ++ []
def dkwX0_row_0 : List UInt8 := [27, 184, 0, 70, 153, 0, 9, 28, 16, 40, 164, 0, 5, 2, 172, 42, 180, 0, 25, 27, 28, 188, 10, 83]
abbrev dktX0_row_0 : List UInt8 := dkwX0_row_0 ++ dktX0_row_1
theorem dksX0_row_0 : cX0_row.data.toList.drop 0 = dktX0_row_0 := by decide +kernel
theorem dksX0_row_1 : cX0_row.data.toList.drop 24 = dktX0_row_1 := dk_seg dksX0_row_0 24 rfl rfl
theorem dX0_row_0 : decode cX0_row 0 = .ok (.iload_n 1, 1) := dk_27 (dk_at dksX0_row_0 0 rfl rfl)
theorem dX0_row_1 : decode cX0_row 1 = .ok (.invokestatic 70, 3) := dk_184 0 70 (dk_at dksX0_row_0 1 rfl rfl)
theorem dX0_row_4 : decode cX0_row 4 = .ok (.ifCond .eq 9, 3) := dk_153 0 9 (dk_at dksX0_row_0 4 rfl rfl)
theorem dX0_row_7 : decode cX0_row 7 = .ok (.iload_n 2, 1) := dk_28 (dk_at dksX0_row_0 7 rfl rfl)
theorem dX0_row_8 : decode cX0_row 8 = .ok (.bipush 40, 2) := dk_16 40 (dk_at dksX0_row_0 8 rfl rfl)
theorem dX0_row_10 : decode cX0_row 10 = .ok (.if_icmp .le 5, 3) := dk_164 0 5 (dk_at dksX0_row_0 10 rfl rfl)
theorem dX0_row_13 : decode cX0_row 13 = .ok (.iconst (-1), 1) := dk_2 (dk_at dksX0_row_0 13 rfl rfl)
theorem dX0_row_14 : decode cX0_row 14 = .ok (.ireturn, 1) := dk_172 (dk_at dksX0_row_0 14 rfl rfl)
theorem dX0_row_15 : decode cX0_row 15 = .ok (.aload_n 0, 1) := dk_42 (dk_at dksX0_row_0 15 rfl rfl)
theorem dX0_row_16 : decode cX0_row 16 = .ok (.getfield 25, 3) := dk_180 0 25 (dk_at dksX0_row_0 16 rfl rfl)
theorem dX0_row_19 : decode cX0_row 19 = .ok (.iload_n 1, 1) := dk_27 (dk_at dksX0_row_0 19 rfl rfl)
theorem dX0_row_20 : decode cX0_row 20 = .ok (.iload_n 2, 1) := dk_28 (dk_at dksX0_row_0 20 rfl rfl)
theorem dX0_row_21 : decode cX0_row 21 = .ok (.newarray .int, 2) := dk_188_10 (dk_at dksX0_row_0 21 rfl rfl)
theorem dX0_row_23 : decode cX0_row 23 = .ok (.aastore, 1) := dk_83 (dk_at dksX0_row_0 23 rfl rfl)
theorem dX0_row_24 : decode cX0_row 24 = .ok (.iload_n 2, 1) := dk_28 (dk_at dksX0_row_1 0 rfl rfl)
theorem dX0_row_25 : decode cX0_row 25 = .ok (.ireturn, 1) := dk_172 (dk_at dksX0_row_1 1 rfl rfl)
theorem dX0_row_26 : decode cX0_row 26 = .ok (.astore_n 3, 1) := dk_78 (dk_at dksX0_row_1 2 rfl rfl)
theorem dX0_row_27 : decode cX0_row 27 = .ok (.aload_n 0, 1) := dk_42 (dk_at dksX0_row_1 3 rfl rfl)
theorem dX0_row_28 : decode cX0_row 28 = .ok (.iconst 5, 1) := dk_8 (dk_at dksX0_row_1 4 rfl rfl)
theorem dX0_row_29 : decode cX0_row 29 = .ok (.invokevirtual 76, 3) := dk_182 0 76 (dk_at dksX0_row_1 5 rfl rfl)
theorem dX0_row_32 : decode cX0_row 32 = .ok (.ireturn, 1) := dk_172 (dk_at dksX0_row_1 8 rfl rfl)
abbrev cX0_isRow : ByteArray := prog_1_method_10_code
def yX0_isRow : MethodName := ⟨RX0, "isRow", "(I)Z"⟩
def dkwX0_isRow_0 : List UInt8 := [26, 3, 8, 184, 0, 66, 172]
abbrev dktX0_isRow_0 : List UInt8 := dkwX0_isRow_0 ++ []
theorem dksX0_isRow_0 : cX0_isRow.data.toList.drop 0 = dktX0_isRow_0 := by decide +kernel
theorem dX0_isRow_0 : decode cX0_isRow 0 = .ok (.iload_n 0, 1) := dk_26 (dk_at dksX0_isRow_0 0 rfl rfl)
theorem dX0_isRow_1 : decode cX0_isRow 1 = .ok (.iconst 0, 1) := dk_3 (dk_at dksX0_isRow_0 1 rfl rfl)
theorem dX0_isRow_2 : decode cX0_isRow 2 = .ok (.iconst 5, 1) := dk_8 (dk_at dksX0_isRow_0 2 rfl rfl)
theorem dX0_isRow_3 : decode cX0_isRow 3 = .ok (.invokestatic 66, 3) := dk_184 0 66 (dk_at dksX0_isRow_0 3 rfl rfl)
theorem dX0_isRow_6 : decode cX0_isRow 6 = .ok (.ireturn, 1) := dk_172 (dk_at dksX0_isRow_0 6 rfl rfl)
abbrev cX0_in : ByteArray := prog_1_method_1_code
def yX0_in : MethodName := ⟨RX0, "in", "(III)Z"⟩
def dkwX0_in_0 : List UInt8 := [26, 27, 161, 0, 12, 26, 28, 163, 0, 7, 4, 167, 0, 4, 3, 172]
abbrev dktX0_in_0 : List UInt8 := dkwX0_in_0 ++ []
theorem dksX0_in_0 : cX0_in.data.toList.drop 0 = dktX0_in_0 := by decide +kernel
theorem dX0_in_0 : decode cX0_in 0 = .ok (.iload_n 0, 1) := dk_26 (dk_at dksX0_in_0 0 rfl rfl)
theorem dX0_in_1 : decode cX0_in 1 = .ok (.iload_n 1, 1) := dk_27 (dk_at dksX0_in_0 1 rfl rfl)
theorem dX0_in_2 : decode cX0_in 2 = .ok (.if_icmp .lt 12, 3) := dk_161 0 12 (dk_at dksX0_in_0 2 rfl rfl)
theorem dX0_in_5 : decode cX0_in 5 = .ok (.iload_n 0, 1) := dk_26 (dk_at dksX0_in_0 5 rfl rfl)
theorem dX0_in_6 : decode cX0_in 6 = .ok (.iload_n 2, 1) := dk_28 (dk_at dksX0_in_0 6 rfl rfl)
theorem dX0_in_7 : decode cX0_in 7 = .ok (.if_icmp .gt 7, 3) := dk_163 0 7 (dk_at dksX0_in_0 7 rfl rfl)
theorem dX0_in_10 : decode cX0_in 10 = .ok (.iconst 1, 1) := dk_4 (dk_at dksX0_in_0 10 rfl rfl)
theorem dX0_in_11 : decode cX0_in 11 = .ok (.goto 4, 3) := dk_167 0 4 (dk_at dksX0_in_0 11 rfl rfl)
theorem dX0_in_14 : decode cX0_in 14 = .ok (.iconst 0, 1) := dk_3 (dk_at dksX0_in_0 14 rfl rfl)
theorem dX0_in_15 : decode cX0_in 15 = .ok (.ireturn, 1) := dk_172 (dk_at dksX0_in_0 15 rfl rfl)
abbrev cX0_found : ByteArray := prog_1_method_3_code
def yX0_found : MethodName := ⟨RX0, "found", "(I)I"⟩
def dkwX0_found_0 : List UInt8 := [42, 27, 181, 0, 3, 42, 180, 0, 7, 27, 92, 46, 4, 96, 79, 16, 253, 172]
abbrev dktX0_found_0 : List UInt8 := dkwX0_found_0 ++ []
theorem dksX0_found_0 : cX0_found.data.toList.drop 0 = dktX0_found_0 := by decide +kernel
theorem dX0_found_0 : decode cX0_found 0 = .ok (.aload_n 0, 1) := dk_42 (dk_at dksX0_found_0 0 rfl rfl)
theorem dX0_found_1 : decode cX0_found 1 = .ok (.iload_n 1, 1) := dk_27 (dk_at dksX0_found_0 1 rfl rfl)
theorem dX0_found_2 : decode cX0_found 2 = .ok (.putfield 3, 3) := dk_181 0 3 (dk_at dksX0_found_0 2 rfl rfl)
theorem dX0_found_5 : decode cX0_found 5 = .ok (.aload_n 0, 1) := dk_42 (dk_at dksX0_found_0 5 rfl rfl)
theorem dX0_found_6 : decode cX0_found 6 = .ok (.getfield 7, 3) := dk_180 0 7 (dk_at dksX0_found_0 6 rfl rfl)
theorem dX0_found_9 : decode cX0_found 9 = .ok (.iload_n 1, 1) := dk_27 (dk_at dksX0_found_0 9 rfl rfl)
theorem dX0_found_10 : decode cX0_found 10 = .ok (.dup2, 1) := dk_92 (dk_at dksX0_found_0 10 rfl rfl)
theorem dX0_found_11 : decode cX0_found 11 = .ok (.iaload, 1) := dk_46 (dk_at dksX0_found_0 11 rfl rfl)
theorem dX0_found_12 : decode cX0_found 12 = .ok (.iconst 1, 1) := dk_4 (dk_at dksX0_found_0 12 rfl rfl)
theorem dX0_found_13 : decode cX0_found 13 = .ok (.iadd, 1) := dk_96 (dk_at dksX0_found_0 13 rfl rfl)
theorem dX0_found_14 : decode cX0_found 14 = .ok (.iastore, 1) := dk_79 (dk_at dksX0_found_0 14 rfl rfl)
theorem dX0_found_15 : decode cX0_found 15 = .ok (.bipush (-3), 2) := dk_16 253 (dk_at dksX0_found_0 15 rfl rfl)
theorem dX0_found_17 : decode cX0_found 17 = .ok (.ireturn, 1) := dk_172 (dk_at dksX0_found_0 17 rfl rfl)
abbrev cX0_lay : ByteArray := prog_1_method_12_code
def yX0_lay : MethodName := ⟨RX0, "lay", "(III)I"⟩
def dkwX0_lay_2 : List UInt8 := [182, 0, 76, 172]
abbrev dktX0_lay_2 : List UInt8 := dkwX0_lay_2 ++ []
def dkwX0_lay_1 : List UInt8 := [50, 28, 29, 79, 42, 21, 4, 4, 182, 0, 80, 172, 58, 4, 42, 4, 182, 0, 76, 172, 58, 4, 42, 5]
abbrev dktX0_lay_1 : List UInt8 := dkwX0_lay_1 ++ dktX0_lay_2
def dkwX0_lay_0 : List UInt8 := [27, 184, 0, 70, 154, 0, 5, 2, 172, 42, 180, 0, 25, 27, 50, 28, 46, 54, 4, 42, 180, 0, 25, 27]
abbrev dktX0_lay_0 : List UInt8 := dkwX0_lay_0 ++ dktX0_lay_1
theorem dksX0_lay_0 : cX0_lay.data.toList.drop 0 = dktX0_lay_0 := by decide +kernel
theorem dksX0_lay_1 : cX0_lay.data.toList.drop 24 = dktX0_lay_1 := dk_seg dksX0_lay_0 24 rfl rfl
theorem dksX0_lay_2 : cX0_lay.data.toList.drop 48 = dktX0_lay_2 := dk_seg dksX0_lay_1 24 rfl rfl
theorem dX0_lay_0 : decode cX0_lay 0 = .ok (.iload_n 1, 1) := dk_27 (dk_at dksX0_lay_0 0 rfl rfl)
theorem dX0_lay_1 : decode cX0_lay 1 = .ok (.invokestatic 70, 3) := dk_184 0 70 (dk_at dksX0_lay_0 1 rfl rfl)
theorem dX0_lay_4 : decode cX0_lay 4 = .ok (.ifCond .ne 5, 3) := dk_154 0 5 (dk_at dksX0_lay_0 4 rfl rfl)
theorem dX0_lay_7 : decode cX0_lay 7 = .ok (.iconst (-1), 1) := dk_2 (dk_at dksX0_lay_0 7 rfl rfl)
theorem dX0_lay_8 : decode cX0_lay 8 = .ok (.ireturn, 1) := dk_172 (dk_at dksX0_lay_0 8 rfl rfl)
theorem dX0_lay_9 : decode cX0_lay 9 = .ok (.aload_n 0, 1) := dk_42 (dk_at dksX0_lay_0 9 rfl rfl)
theorem dX0_lay_10 : decode cX0_lay 10 = .ok (.getfield 25, 3) := dk_180 0 25 (dk_at dksX0_lay_0 10 rfl rfl)
theorem dX0_lay_13 : decode cX0_lay 13 = .ok (.iload_n 1, 1) := dk_27 (dk_at dksX0_lay_0 13 rfl rfl)
theorem dX0_lay_14 : decode cX0_lay 14 = .ok (.aaload, 1) := dk_50 (dk_at dksX0_lay_0 14 rfl rfl)
theorem dX0_lay_15 : decode cX0_lay 15 = .ok (.iload_n 2, 1) := dk_28 (dk_at dksX0_lay_0 15 rfl rfl)
theorem dX0_lay_16 : decode cX0_lay 16 = .ok (.iaload, 1) := dk_46 (dk_at dksX0_lay_0 16 rfl rfl)
theorem dX0_lay_17 : decode cX0_lay 17 = .ok (.istore 4, 2) := dk_54 4 (dk_at dksX0_lay_0 17 rfl rfl)
theorem dX0_lay_19 : decode cX0_lay 19 = .ok (.aload_n 0, 1) := dk_42 (dk_at dksX0_lay_0 19 rfl rfl)
theorem dX0_lay_20 : decode cX0_lay 20 = .ok (.getfield 25, 3) := dk_180 0 25 (dk_at dksX0_lay_0 20 rfl rfl)
theorem dX0_lay_23 : decode cX0_lay 23 = .ok (.iload_n 1, 1) := dk_27 (dk_at dksX0_lay_0 23 rfl rfl)
theorem dX0_lay_24 : decode cX0_lay 24 = .ok (.aaload, 1) := dk_50 (dk_at dksX0_lay_1 0 rfl rfl)
theorem dX0_lay_25 : decode cX0_lay 25 = .ok (.iload_n 2, 1) := dk_28 (dk_at dksX0_lay_1 1 rfl rfl)
theorem dX0_lay_26 : decode cX0_lay 26 = .ok (.iload_n 3, 1) := dk_29 (dk_at dksX0_lay_1 2 rfl rfl)
theorem dX0_lay_27 : decode cX0_lay 27 = .ok (.iastore, 1) := dk_79 (dk_at dksX0_lay_1 3 rfl rfl)
theorem dX0_lay_28 : decode cX0_lay 28 = .ok (.aload_n 0, 1) := dk_42 (dk_at dksX0_lay_1 4 rfl rfl)
theorem dX0_lay_29 : decode cX0_lay 29 = .ok (.iload 4, 2) := dk_21 4 (dk_at dksX0_lay_1 5 rfl rfl)
theorem dX0_lay_31 : decode cX0_lay 31 = .ok (.iconst 1, 1) := dk_4 (dk_at dksX0_lay_1 7 rfl rfl)
theorem dX0_lay_32 : decode cX0_lay 32 = .ok (.invokevirtual 80, 3) := dk_182 0 80 (dk_at dksX0_lay_1 8 rfl rfl)
theorem dX0_lay_35 : decode cX0_lay 35 = .ok (.ireturn, 1) := dk_172 (dk_at dksX0_lay_1 11 rfl rfl)
theorem dX0_lay_36 : decode cX0_lay 36 = .ok (.astore 4, 2) := dk_58 4 (dk_at dksX0_lay_1 12 rfl rfl)
theorem dX0_lay_38 : decode cX0_lay 38 = .ok (.aload_n 0, 1) := dk_42 (dk_at dksX0_lay_1 14 rfl rfl)
theorem dX0_lay_39 : decode cX0_lay 39 = .ok (.iconst 1, 1) := dk_4 (dk_at dksX0_lay_1 15 rfl rfl)
theorem dX0_lay_40 : decode cX0_lay 40 = .ok (.invokevirtual 76, 3) := dk_182 0 76 (dk_at dksX0_lay_1 16 rfl rfl)
theorem dX0_lay_43 : decode cX0_lay 43 = .ok (.ireturn, 1) := dk_172 (dk_at dksX0_lay_1 19 rfl rfl)
theorem dX0_lay_44 : decode cX0_lay 44 = .ok (.astore 4, 2) := dk_58 4 (dk_at dksX0_lay_1 20 rfl rfl)
theorem dX0_lay_46 : decode cX0_lay 46 = .ok (.aload_n 0, 1) := dk_42 (dk_at dksX0_lay_1 22 rfl rfl)
theorem dX0_lay_47 : decode cX0_lay 47 = .ok (.iconst 2, 1) := dk_5 (dk_at dksX0_lay_1 23 rfl rfl)
theorem dX0_lay_48 : decode cX0_lay 48 = .ok (.invokevirtual 76, 3) := dk_182 0 76 (dk_at dksX0_lay_2 0 rfl rfl)
theorem dX0_lay_51 : decode cX0_lay 51 = .ok (.ireturn, 1) := dk_172 (dk_at dksX0_lay_2 3 rfl rfl)
abbrev cX0_say : ByteArray := prog_1_method_4_code
def yX0_say : MethodName := ⟨RX0, "say", "(II)I"⟩
def dkwX0_say_0 : List UInt8 := [42, 27, 181, 0, 11, 28, 172]
abbrev dktX0_say_0 : List UInt8 := dkwX0_say_0 ++ []
theorem dksX0_say_0 : cX0_say.data.toList.drop 0 = dktX0_say_0 := by decide +kernel
theorem dX0_say_0 : decode cX0_say 0 = .ok (.aload_n 0, 1) := dk_42 (dk_at dksX0_say_0 0 rfl rfl)
theorem dX0_say_1 : decode cX0_say 1 = .ok (.iload_n 1, 1) := dk_27 (dk_at dksX0_say_0 1 rfl rfl)
theorem dX0_say_2 : decode cX0_say 2 = .ok (.putfield 11, 3) := dk_181 0 11 (dk_at dksX0_say_0 2 rfl rfl)
theorem dX0_say_5 : decode cX0_say 5 = .ok (.iload_n 2, 1) := dk_28 (dk_at dksX0_say_0 5 rfl rfl)
theorem dX0_say_6 : decode cX0_say 6 = .ok (.ireturn, 1) := dk_172 (dk_at dksX0_say_0 6 rfl rfl)
abbrev cX0_at : ByteArray := prog_1_method_13_code
def yX0_at : MethodName := ⟨RX0, "at", "(II)I"⟩
def dkwX0_at_1 : List UInt8 := [42, 4, 182, 0, 76, 172, 78, 42, 5, 182, 0, 76, 172]
abbrev dktX0_at_1 : List UInt8 := dkwX0_at_1 ++ []
def dkwX0_at_0 : List UInt8 := [27, 184, 0, 70, 154, 0, 5, 2, 172, 42, 42, 180, 0, 25, 27, 50, 28, 46, 4, 182, 0, 80, 172, 78]
abbrev dktX0_at_0 : List UInt8 := dkwX0_at_0 ++ dktX0_at_1
theorem dksX0_at_0 : cX0_at.data.toList.drop 0 = dktX0_at_0 := by decide +kernel
theorem dksX0_at_1 : cX0_at.data.toList.drop 24 = dktX0_at_1 := dk_seg dksX0_at_0 24 rfl rfl
theorem dX0_at_0 : decode cX0_at 0 = .ok (.iload_n 1, 1) := dk_27 (dk_at dksX0_at_0 0 rfl rfl)
theorem dX0_at_1 : decode cX0_at 1 = .ok (.invokestatic 70, 3) := dk_184 0 70 (dk_at dksX0_at_0 1 rfl rfl)
theorem dX0_at_4 : decode cX0_at 4 = .ok (.ifCond .ne 5, 3) := dk_154 0 5 (dk_at dksX0_at_0 4 rfl rfl)
theorem dX0_at_7 : decode cX0_at 7 = .ok (.iconst (-1), 1) := dk_2 (dk_at dksX0_at_0 7 rfl rfl)
theorem dX0_at_8 : decode cX0_at 8 = .ok (.ireturn, 1) := dk_172 (dk_at dksX0_at_0 8 rfl rfl)
theorem dX0_at_9 : decode cX0_at 9 = .ok (.aload_n 0, 1) := dk_42 (dk_at dksX0_at_0 9 rfl rfl)
theorem dX0_at_10 : decode cX0_at 10 = .ok (.aload_n 0, 1) := dk_42 (dk_at dksX0_at_0 10 rfl rfl)
theorem dX0_at_11 : decode cX0_at 11 = .ok (.getfield 25, 3) := dk_180 0 25 (dk_at dksX0_at_0 11 rfl rfl)
theorem dX0_at_14 : decode cX0_at 14 = .ok (.iload_n 1, 1) := dk_27 (dk_at dksX0_at_0 14 rfl rfl)
theorem dX0_at_15 : decode cX0_at 15 = .ok (.aaload, 1) := dk_50 (dk_at dksX0_at_0 15 rfl rfl)
theorem dX0_at_16 : decode cX0_at 16 = .ok (.iload_n 2, 1) := dk_28 (dk_at dksX0_at_0 16 rfl rfl)
theorem dX0_at_17 : decode cX0_at 17 = .ok (.iaload, 1) := dk_46 (dk_at dksX0_at_0 17 rfl rfl)
theorem dX0_at_18 : decode cX0_at 18 = .ok (.iconst 1, 1) := dk_4 (dk_at dksX0_at_0 18 rfl rfl)
theorem dX0_at_19 : decode cX0_at 19 = .ok (.invokevirtual 80, 3) := dk_182 0 80 (dk_at dksX0_at_0 19 rfl rfl)
theorem dX0_at_22 : decode cX0_at 22 = .ok (.ireturn, 1) := dk_172 (dk_at dksX0_at_0 22 rfl rfl)
theorem dX0_at_23 : decode cX0_at 23 = .ok (.astore_n 3, 1) := dk_78 (dk_at dksX0_at_0 23 rfl rfl)
theorem dX0_at_24 : decode cX0_at 24 = .ok (.aload_n 0, 1) := dk_42 (dk_at dksX0_at_1 0 rfl rfl)
theorem dX0_at_25 : decode cX0_at 25 = .ok (.iconst 1, 1) := dk_4 (dk_at dksX0_at_1 1 rfl rfl)
theorem dX0_at_26 : decode cX0_at 26 = .ok (.invokevirtual 76, 3) := dk_182 0 76 (dk_at dksX0_at_1 2 rfl rfl)
theorem dX0_at_29 : decode cX0_at 29 = .ok (.ireturn, 1) := dk_172 (dk_at dksX0_at_1 5 rfl rfl)
theorem dX0_at_30 : decode cX0_at 30 = .ok (.astore_n 3, 1) := dk_78 (dk_at dksX0_at_1 6 rfl rfl)
theorem dX0_at_31 : decode cX0_at 31 = .ok (.aload_n 0, 1) := dk_42 (dk_at dksX0_at_1 7 rfl rfl)
theorem dX0_at_32 : decode cX0_at 32 = .ok (.iconst 2, 1) := dk_5 (dk_at dksX0_at_1 8 rfl rfl)
theorem dX0_at_33 : decode cX0_at 33 = .ok (.invokevirtual 76, 3) := dk_182 0 76 (dk_at dksX0_at_1 9 rfl rfl)
theorem dX0_at_36 : decode cX0_at 36 = .ok (.ireturn, 1) := dk_172 (dk_at dksX0_at_1 12 rfl rfl)
abbrev cX0_tear : ByteArray := prog_1_method_14_code
def yX0_tear : MethodName := ⟨RX0, "tear", "(I)I"⟩
def dkwX0_tear_1 : List UInt8 := [42, 180, 0, 25, 27, 1, 83, 4, 172]
abbrev dktX0_tear_1 : List UInt8 := dkwX0_tear_1 ++ []
def dkwX0_tear_0 : List UInt8 := [27, 184, 0, 70, 154, 0, 5, 2, 172, 42, 180, 0, 25, 27, 50, 199, 0, 9, 42, 4, 182, 0, 76, 172]
abbrev dktX0_tear_0 : List UInt8 := dkwX0_tear_0 ++ dktX0_tear_1
theorem dksX0_tear_0 : cX0_tear.data.toList.drop 0 = dktX0_tear_0 := by decide +kernel
theorem dksX0_tear_1 : cX0_tear.data.toList.drop 24 = dktX0_tear_1 := dk_seg dksX0_tear_0 24 rfl rfl
theorem dX0_tear_0 : decode cX0_tear 0 = .ok (.iload_n 1, 1) := dk_27 (dk_at dksX0_tear_0 0 rfl rfl)
theorem dX0_tear_1 : decode cX0_tear 1 = .ok (.invokestatic 70, 3) := dk_184 0 70 (dk_at dksX0_tear_0 1 rfl rfl)
theorem dX0_tear_4 : decode cX0_tear 4 = .ok (.ifCond .ne 5, 3) := dk_154 0 5 (dk_at dksX0_tear_0 4 rfl rfl)
theorem dX0_tear_7 : decode cX0_tear 7 = .ok (.iconst (-1), 1) := dk_2 (dk_at dksX0_tear_0 7 rfl rfl)
theorem dX0_tear_8 : decode cX0_tear 8 = .ok (.ireturn, 1) := dk_172 (dk_at dksX0_tear_0 8 rfl rfl)
theorem dX0_tear_9 : decode cX0_tear 9 = .ok (.aload_n 0, 1) := dk_42 (dk_at dksX0_tear_0 9 rfl rfl)
theorem dX0_tear_10 : decode cX0_tear 10 = .ok (.getfield 25, 3) := dk_180 0 25 (dk_at dksX0_tear_0 10 rfl rfl)
theorem dX0_tear_13 : decode cX0_tear 13 = .ok (.iload_n 1, 1) := dk_27 (dk_at dksX0_tear_0 13 rfl rfl)
theorem dX0_tear_14 : decode cX0_tear 14 = .ok (.aaload, 1) := dk_50 (dk_at dksX0_tear_0 14 rfl rfl)
theorem dX0_tear_15 : decode cX0_tear 15 = .ok (.ifnonnull 9, 3) := dk_199 0 9 (dk_at dksX0_tear_0 15 rfl rfl)
theorem dX0_tear_18 : decode cX0_tear 18 = .ok (.aload_n 0, 1) := dk_42 (dk_at dksX0_tear_0 18 rfl rfl)
theorem dX0_tear_19 : decode cX0_tear 19 = .ok (.iconst 1, 1) := dk_4 (dk_at dksX0_tear_0 19 rfl rfl)
theorem dX0_tear_20 : decode cX0_tear 20 = .ok (.invokevirtual 76, 3) := dk_182 0 76 (dk_at dksX0_tear_0 20 rfl rfl)
theorem dX0_tear_23 : decode cX0_tear 23 = .ok (.ireturn, 1) := dk_172 (dk_at dksX0_tear_0 23 rfl rfl)
theorem dX0_tear_24 : decode cX0_tear 24 = .ok (.aload_n 0, 1) := dk_42 (dk_at dksX0_tear_1 0 rfl rfl)
theorem dX0_tear_25 : decode cX0_tear 25 = .ok (.getfield 25, 3) := dk_180 0 25 (dk_at dksX0_tear_1 1 rfl rfl)
theorem dX0_tear_28 : decode cX0_tear 28 = .ok (.iload_n 1, 1) := dk_27 (dk_at dksX0_tear_1 4 rfl rfl)
theorem dX0_tear_29 : decode cX0_tear 29 = .ok (.aconst_null, 1) := dk_1 (dk_at dksX0_tear_1 5 rfl rfl)
theorem dX0_tear_30 : decode cX0_tear 30 = .ok (.aastore, 1) := dk_83 (dk_at dksX0_tear_1 6 rfl rfl)
theorem dX0_tear_31 : decode cX0_tear 31 = .ok (.iconst 1, 1) := dk_4 (dk_at dksX0_tear_1 7 rfl rfl)
theorem dX0_tear_32 : decode cX0_tear 32 = .ok (.ireturn, 1) := dk_172 (dk_at dksX0_tear_1 8 rfl rfl)
abbrev cX0_copy : ByteArray := prog_1_method_15_code
def yX0_copy : MethodName := ⟨RX0, "copy", "(IIIII)I"⟩
def dkwX0_copy_2 : List UInt8 := [4, 172, 58, 6, 42, 4, 182, 0, 76, 172, 58, 6, 42, 5, 182, 0, 76, 172]
abbrev dktX0_copy_2 : List UInt8 := dkwX0_copy_2 ++ []
def dkwX0_copy_1 : List UInt8 := [182, 0, 76, 172, 42, 180, 0, 25, 27, 50, 28, 42, 180, 0, 25, 29, 50, 21, 4, 21, 5, 184, 0, 88]
abbrev dktX0_copy_1 : List UInt8 := dkwX0_copy_1 ++ dktX0_copy_2
def dkwX0_copy_0 : List UInt8 := [27, 184, 0, 70, 153, 0, 10, 29, 184, 0, 70, 154, 0, 5, 2, 172, 21, 5, 156, 0, 9, 42, 8]
abbrev dktX0_copy_0 : List UInt8 := dkwX0_copy_0 ++ dktX0_copy_1
theorem dksX0_copy_0 : cX0_copy.data.toList.drop 0 = dktX0_copy_0 := by decide +kernel
theorem dksX0_copy_1 : cX0_copy.data.toList.drop 23 = dktX0_copy_1 := dk_seg dksX0_copy_0 23 rfl rfl
theorem dksX0_copy_2 : cX0_copy.data.toList.drop 47 = dktX0_copy_2 := dk_seg dksX0_copy_1 24 rfl rfl
theorem dX0_copy_0 : decode cX0_copy 0 = .ok (.iload_n 1, 1) := dk_27 (dk_at dksX0_copy_0 0 rfl rfl)
theorem dX0_copy_1 : decode cX0_copy 1 = .ok (.invokestatic 70, 3) := dk_184 0 70 (dk_at dksX0_copy_0 1 rfl rfl)
theorem dX0_copy_4 : decode cX0_copy 4 = .ok (.ifCond .eq 10, 3) := dk_153 0 10 (dk_at dksX0_copy_0 4 rfl rfl)
theorem dX0_copy_7 : decode cX0_copy 7 = .ok (.iload_n 3, 1) := dk_29 (dk_at dksX0_copy_0 7 rfl rfl)
theorem dX0_copy_8 : decode cX0_copy 8 = .ok (.invokestatic 70, 3) := dk_184 0 70 (dk_at dksX0_copy_0 8 rfl rfl)
theorem dX0_copy_11 : decode cX0_copy 11 = .ok (.ifCond .ne 5, 3) := dk_154 0 5 (dk_at dksX0_copy_0 11 rfl rfl)
theorem dX0_copy_14 : decode cX0_copy 14 = .ok (.iconst (-1), 1) := dk_2 (dk_at dksX0_copy_0 14 rfl rfl)
theorem dX0_copy_15 : decode cX0_copy 15 = .ok (.ireturn, 1) := dk_172 (dk_at dksX0_copy_0 15 rfl rfl)
theorem dX0_copy_16 : decode cX0_copy 16 = .ok (.iload 5, 2) := dk_21 5 (dk_at dksX0_copy_0 16 rfl rfl)
theorem dX0_copy_18 : decode cX0_copy 18 = .ok (.ifCond .ge 9, 3) := dk_156 0 9 (dk_at dksX0_copy_0 18 rfl rfl)
theorem dX0_copy_21 : decode cX0_copy 21 = .ok (.aload_n 0, 1) := dk_42 (dk_at dksX0_copy_0 21 rfl rfl)
theorem dX0_copy_22 : decode cX0_copy 22 = .ok (.iconst 5, 1) := dk_8 (dk_at dksX0_copy_0 22 rfl rfl)
theorem dX0_copy_23 : decode cX0_copy 23 = .ok (.invokevirtual 76, 3) := dk_182 0 76 (dk_at dksX0_copy_1 0 rfl rfl)
theorem dX0_copy_26 : decode cX0_copy 26 = .ok (.ireturn, 1) := dk_172 (dk_at dksX0_copy_1 3 rfl rfl)
theorem dX0_copy_27 : decode cX0_copy 27 = .ok (.aload_n 0, 1) := dk_42 (dk_at dksX0_copy_1 4 rfl rfl)
theorem dX0_copy_28 : decode cX0_copy 28 = .ok (.getfield 25, 3) := dk_180 0 25 (dk_at dksX0_copy_1 5 rfl rfl)
theorem dX0_copy_31 : decode cX0_copy 31 = .ok (.iload_n 1, 1) := dk_27 (dk_at dksX0_copy_1 8 rfl rfl)
theorem dX0_copy_32 : decode cX0_copy 32 = .ok (.aaload, 1) := dk_50 (dk_at dksX0_copy_1 9 rfl rfl)
theorem dX0_copy_33 : decode cX0_copy 33 = .ok (.iload_n 2, 1) := dk_28 (dk_at dksX0_copy_1 10 rfl rfl)
theorem dX0_copy_34 : decode cX0_copy 34 = .ok (.aload_n 0, 1) := dk_42 (dk_at dksX0_copy_1 11 rfl rfl)
theorem dX0_copy_35 : decode cX0_copy 35 = .ok (.getfield 25, 3) := dk_180 0 25 (dk_at dksX0_copy_1 12 rfl rfl)
theorem dX0_copy_38 : decode cX0_copy 38 = .ok (.iload_n 3, 1) := dk_29 (dk_at dksX0_copy_1 15 rfl rfl)
theorem dX0_copy_39 : decode cX0_copy 39 = .ok (.aaload, 1) := dk_50 (dk_at dksX0_copy_1 16 rfl rfl)
theorem dX0_copy_40 : decode cX0_copy 40 = .ok (.iload 4, 2) := dk_21 4 (dk_at dksX0_copy_1 17 rfl rfl)
theorem dX0_copy_42 : decode cX0_copy 42 = .ok (.iload 5, 2) := dk_21 5 (dk_at dksX0_copy_1 19 rfl rfl)
theorem dX0_copy_44 : decode cX0_copy 44 = .ok (.invokestatic 88, 3) := dk_184 0 88 (dk_at dksX0_copy_1 21 rfl rfl)
theorem dX0_copy_47 : decode cX0_copy 47 = .ok (.iconst 1, 1) := dk_4 (dk_at dksX0_copy_2 0 rfl rfl)
theorem dX0_copy_48 : decode cX0_copy 48 = .ok (.ireturn, 1) := dk_172 (dk_at dksX0_copy_2 1 rfl rfl)
theorem dX0_copy_49 : decode cX0_copy 49 = .ok (.astore 6, 2) := dk_58 6 (dk_at dksX0_copy_2 2 rfl rfl)
theorem dX0_copy_51 : decode cX0_copy 51 = .ok (.aload_n 0, 1) := dk_42 (dk_at dksX0_copy_2 4 rfl rfl)
theorem dX0_copy_52 : decode cX0_copy 52 = .ok (.iconst 1, 1) := dk_4 (dk_at dksX0_copy_2 5 rfl rfl)
theorem dX0_copy_53 : decode cX0_copy 53 = .ok (.invokevirtual 76, 3) := dk_182 0 76 (dk_at dksX0_copy_2 6 rfl rfl)
theorem dX0_copy_56 : decode cX0_copy 56 = .ok (.ireturn, 1) := dk_172 (dk_at dksX0_copy_2 9 rfl rfl)
theorem dX0_copy_57 : decode cX0_copy 57 = .ok (.astore 6, 2) := dk_58 6 (dk_at dksX0_copy_2 10 rfl rfl)
theorem dX0_copy_59 : decode cX0_copy 59 = .ok (.aload_n 0, 1) := dk_42 (dk_at dksX0_copy_2 12 rfl rfl)
theorem dX0_copy_60 : decode cX0_copy 60 = .ok (.iconst 2, 1) := dk_5 (dk_at dksX0_copy_2 13 rfl rfl)
theorem dX0_copy_61 : decode cX0_copy 61 = .ok (.invokevirtual 76, 3) := dk_182 0 76 (dk_at dksX0_copy_2 14 rfl rfl)
theorem dX0_copy_64 : decode cX0_copy 64 = .ok (.ireturn, 1) := dk_172 (dk_at dksX0_copy_2 17 rfl rfl)
abbrev cX0_mean : ByteArray := prog_1_method_16_code
def yX0_mean : MethodName := ⟨RX0, "mean", "(I)I"⟩
def dkwX0_mean_3 : List UInt8 := [4, 182, 0, 80, 172, 58, 4, 42, 7, 182, 0, 76, 172]
abbrev dktX0_mean_3 : List UInt8 := dkwX0_mean_3 ++ []
def dkwX0_mean_2 : List UInt8 := [21, 4, 46, 133, 97, 65, 132, 4, 1, 167, 255, 228, 42, 32, 42, 180, 0, 25, 27, 50, 190, 133, 109, 136]
abbrev dktX0_mean_2 : List UInt8 := dkwX0_mean_2 ++ dktX0_mean_3
def dkwX0_mean_1 : List UInt8 := [9, 65, 3, 54, 4, 21, 4, 42, 180, 0, 25, 27, 50, 190, 162, 0, 22, 32, 42, 180, 0, 25, 27, 50]
abbrev dktX0_mean_1 : List UInt8 := dkwX0_mean_1 ++ dktX0_mean_2
def dkwX0_mean_0 : List UInt8 := [27, 184, 0, 70, 154, 0, 5, 2, 172, 42, 180, 0, 25, 27, 50, 199, 0, 9, 42, 4, 182, 0, 76, 172]
abbrev dktX0_mean_0 : List UInt8 := dkwX0_mean_0 ++ dktX0_mean_1
theorem dksX0_mean_0 : cX0_mean.data.toList.drop 0 = dktX0_mean_0 := by decide +kernel
theorem dksX0_mean_1 : cX0_mean.data.toList.drop 24 = dktX0_mean_1 := dk_seg dksX0_mean_0 24 rfl rfl
theorem dksX0_mean_2 : cX0_mean.data.toList.drop 48 = dktX0_mean_2 := dk_seg dksX0_mean_1 24 rfl rfl
theorem dksX0_mean_3 : cX0_mean.data.toList.drop 72 = dktX0_mean_3 := dk_seg dksX0_mean_2 24 rfl rfl
theorem dX0_mean_0 : decode cX0_mean 0 = .ok (.iload_n 1, 1) := dk_27 (dk_at dksX0_mean_0 0 rfl rfl)
theorem dX0_mean_1 : decode cX0_mean 1 = .ok (.invokestatic 70, 3) := dk_184 0 70 (dk_at dksX0_mean_0 1 rfl rfl)
theorem dX0_mean_4 : decode cX0_mean 4 = .ok (.ifCond .ne 5, 3) := dk_154 0 5 (dk_at dksX0_mean_0 4 rfl rfl)
theorem dX0_mean_7 : decode cX0_mean 7 = .ok (.iconst (-1), 1) := dk_2 (dk_at dksX0_mean_0 7 rfl rfl)
theorem dX0_mean_8 : decode cX0_mean 8 = .ok (.ireturn, 1) := dk_172 (dk_at dksX0_mean_0 8 rfl rfl)
theorem dX0_mean_9 : decode cX0_mean 9 = .ok (.aload_n 0, 1) := dk_42 (dk_at dksX0_mean_0 9 rfl rfl)
theorem dX0_mean_10 : decode cX0_mean 10 = .ok (.getfield 25, 3) := dk_180 0 25 (dk_at dksX0_mean_0 10 rfl rfl)
theorem dX0_mean_13 : decode cX0_mean 13 = .ok (.iload_n 1, 1) := dk_27 (dk_at dksX0_mean_0 13 rfl rfl)
theorem dX0_mean_14 : decode cX0_mean 14 = .ok (.aaload, 1) := dk_50 (dk_at dksX0_mean_0 14 rfl rfl)
theorem dX0_mean_15 : decode cX0_mean 15 = .ok (.ifnonnull 9, 3) := dk_199 0 9 (dk_at dksX0_mean_0 15 rfl rfl)
theorem dX0_mean_18 : decode cX0_mean 18 = .ok (.aload_n 0, 1) := dk_42 (dk_at dksX0_mean_0 18 rfl rfl)
theorem dX0_mean_19 : decode cX0_mean 19 = .ok (.iconst 1, 1) := dk_4 (dk_at dksX0_mean_0 19 rfl rfl)
theorem dX0_mean_20 : decode cX0_mean 20 = .ok (.invokevirtual 76, 3) := dk_182 0 76 (dk_at dksX0_mean_0 20 rfl rfl)
theorem dX0_mean_23 : decode cX0_mean 23 = .ok (.ireturn, 1) := dk_172 (dk_at dksX0_mean_0 23 rfl rfl)
theorem dX0_mean_24 : decode cX0_mean 24 = .ok (.lconst 0, 1) := dk_9 (dk_at dksX0_mean_1 0 rfl rfl)
theorem dX0_mean_25 : decode cX0_mean 25 = .ok (.lstore_n 2, 1) := dk_65 (dk_at dksX0_mean_1 1 rfl rfl)
theorem dX0_mean_26 : decode cX0_mean 26 = .ok (.iconst 0, 1) := dk_3 (dk_at dksX0_mean_1 2 rfl rfl)
theorem dX0_mean_27 : decode cX0_mean 27 = .ok (.istore 4, 2) := dk_54 4 (dk_at dksX0_mean_1 3 rfl rfl)
theorem dX0_mean_29 : decode cX0_mean 29 = .ok (.iload 4, 2) := dk_21 4 (dk_at dksX0_mean_1 5 rfl rfl)
theorem dX0_mean_31 : decode cX0_mean 31 = .ok (.aload_n 0, 1) := dk_42 (dk_at dksX0_mean_1 7 rfl rfl)
theorem dX0_mean_32 : decode cX0_mean 32 = .ok (.getfield 25, 3) := dk_180 0 25 (dk_at dksX0_mean_1 8 rfl rfl)
theorem dX0_mean_35 : decode cX0_mean 35 = .ok (.iload_n 1, 1) := dk_27 (dk_at dksX0_mean_1 11 rfl rfl)
theorem dX0_mean_36 : decode cX0_mean 36 = .ok (.aaload, 1) := dk_50 (dk_at dksX0_mean_1 12 rfl rfl)
theorem dX0_mean_37 : decode cX0_mean 37 = .ok (.arraylength, 1) := dk_190 (dk_at dksX0_mean_1 13 rfl rfl)
theorem dX0_mean_38 : decode cX0_mean 38 = .ok (.if_icmp .ge 22, 3) := dk_162 0 22 (dk_at dksX0_mean_1 14 rfl rfl)
theorem dX0_mean_41 : decode cX0_mean 41 = .ok (.lload_n 2, 1) := dk_32 (dk_at dksX0_mean_1 17 rfl rfl)
theorem dX0_mean_42 : decode cX0_mean 42 = .ok (.aload_n 0, 1) := dk_42 (dk_at dksX0_mean_1 18 rfl rfl)
theorem dX0_mean_43 : decode cX0_mean 43 = .ok (.getfield 25, 3) := dk_180 0 25 (dk_at dksX0_mean_1 19 rfl rfl)
theorem dX0_mean_46 : decode cX0_mean 46 = .ok (.iload_n 1, 1) := dk_27 (dk_at dksX0_mean_1 22 rfl rfl)
theorem dX0_mean_47 : decode cX0_mean 47 = .ok (.aaload, 1) := dk_50 (dk_at dksX0_mean_1 23 rfl rfl)
theorem dX0_mean_48 : decode cX0_mean 48 = .ok (.iload 4, 2) := dk_21 4 (dk_at dksX0_mean_2 0 rfl rfl)
theorem dX0_mean_50 : decode cX0_mean 50 = .ok (.iaload, 1) := dk_46 (dk_at dksX0_mean_2 2 rfl rfl)
theorem dX0_mean_51 : decode cX0_mean 51 = .ok (.i2l, 1) := dk_133 (dk_at dksX0_mean_2 3 rfl rfl)
theorem dX0_mean_52 : decode cX0_mean 52 = .ok (.ladd, 1) := dk_97 (dk_at dksX0_mean_2 4 rfl rfl)
theorem dX0_mean_53 : decode cX0_mean 53 = .ok (.lstore_n 2, 1) := dk_65 (dk_at dksX0_mean_2 5 rfl rfl)
theorem dX0_mean_54 : decode cX0_mean 54 = .ok (.iinc 4 1, 3) := dk_132 4 1 (dk_at dksX0_mean_2 6 rfl rfl)
theorem dX0_mean_57 : decode cX0_mean 57 = .ok (.goto (-28), 3) := dk_167 255 228 (dk_at dksX0_mean_2 9 rfl rfl)
theorem dX0_mean_60 : decode cX0_mean 60 = .ok (.aload_n 0, 1) := dk_42 (dk_at dksX0_mean_2 12 rfl rfl)
theorem dX0_mean_61 : decode cX0_mean 61 = .ok (.lload_n 2, 1) := dk_32 (dk_at dksX0_mean_2 13 rfl rfl)
theorem dX0_mean_62 : decode cX0_mean 62 = .ok (.aload_n 0, 1) := dk_42 (dk_at dksX0_mean_2 14 rfl rfl)
theorem dX0_mean_63 : decode cX0_mean 63 = .ok (.getfield 25, 3) := dk_180 0 25 (dk_at dksX0_mean_2 15 rfl rfl)
theorem dX0_mean_66 : decode cX0_mean 66 = .ok (.iload_n 1, 1) := dk_27 (dk_at dksX0_mean_2 18 rfl rfl)
theorem dX0_mean_67 : decode cX0_mean 67 = .ok (.aaload, 1) := dk_50 (dk_at dksX0_mean_2 19 rfl rfl)
theorem dX0_mean_68 : decode cX0_mean 68 = .ok (.arraylength, 1) := dk_190 (dk_at dksX0_mean_2 20 rfl rfl)
theorem dX0_mean_69 : decode cX0_mean 69 = .ok (.i2l, 1) := dk_133 (dk_at dksX0_mean_2 21 rfl rfl)
theorem dX0_mean_70 : decode cX0_mean 70 = .ok (.ldiv, 1) := dk_109 (dk_at dksX0_mean_2 22 rfl rfl)
theorem dX0_mean_71 : decode cX0_mean 71 = .ok (.l2i, 1) := dk_136 (dk_at dksX0_mean_2 23 rfl rfl)
theorem dX0_mean_72 : decode cX0_mean 72 = .ok (.iconst 1, 1) := dk_4 (dk_at dksX0_mean_3 0 rfl rfl)
theorem dX0_mean_73 : decode cX0_mean 73 = .ok (.invokevirtual 80, 3) := dk_182 0 80 (dk_at dksX0_mean_3 1 rfl rfl)
theorem dX0_mean_76 : decode cX0_mean 76 = .ok (.ireturn, 1) := dk_172 (dk_at dksX0_mean_3 4 rfl rfl)
theorem dX0_mean_77 : decode cX0_mean 77 = .ok (.astore 4, 2) := dk_58 4 (dk_at dksX0_mean_3 5 rfl rfl)
theorem dX0_mean_79 : decode cX0_mean 79 = .ok (.aload_n 0, 1) := dk_42 (dk_at dksX0_mean_3 7 rfl rfl)
theorem dX0_mean_80 : decode cX0_mean 80 = .ok (.iconst 4, 1) := dk_7 (dk_at dksX0_mean_3 8 rfl rfl)
theorem dX0_mean_81 : decode cX0_mean 81 = .ok (.invokevirtual 76, 3) := dk_182 0 76 (dk_at dksX0_mean_3 9 rfl rfl)
theorem dX0_mean_84 : decode cX0_mean 84 = .ok (.ireturn, 1) := dk_172 (dk_at dksX0_mean_3 12 rfl rfl)
abbrev cX0_text : ByteArray := prog_1_method_18_code
def yX0_text : MethodName := ⟨RX0, "text", "(II)I"⟩
def dkwX0_text_2 : List UInt8 := [172, 78, 42, 8, 182, 0, 76, 172]
abbrev dktX0_text_2 : List UInt8 := dkwX0_text_2 ++ []
def dkwX0_text_1 : List UInt8 := [28, 162, 0, 15, 45, 21, 4, 16, 32, 84, 132, 4, 1, 167, 255, 241, 42, 180, 0, 31, 27, 45, 83, 28]
abbrev dktX0_text_1 : List UInt8 := dkwX0_text_1 ++ dktX0_text_2
def dkwX0_text_0 : List UInt8 := [27, 184, 0, 96, 153, 0, 9, 28, 16, 80, 164, 0, 5, 2, 172, 28, 188, 8, 78, 3, 54, 4, 21, 4]
abbrev dktX0_text_0 : List UInt8 := dkwX0_text_0 ++ dktX0_text_1
theorem dksX0_text_0 : cX0_text.data.toList.drop 0 = dktX0_text_0 := by decide +kernel
theorem dksX0_text_1 : cX0_text.data.toList.drop 24 = dktX0_text_1 := dk_seg dksX0_text_0 24 rfl rfl
theorem dksX0_text_2 : cX0_text.data.toList.drop 48 = dktX0_text_2 := dk_seg dksX0_text_1 24 rfl rfl
theorem dX0_text_0 : decode cX0_text 0 = .ok (.iload_n 1, 1) := dk_27 (dk_at dksX0_text_0 0 rfl rfl)
theorem dX0_text_1 : decode cX0_text 1 = .ok (.invokestatic 96, 3) := dk_184 0 96 (dk_at dksX0_text_0 1 rfl rfl)
theorem dX0_text_4 : decode cX0_text 4 = .ok (.ifCond .eq 9, 3) := dk_153 0 9 (dk_at dksX0_text_0 4 rfl rfl)
theorem dX0_text_7 : decode cX0_text 7 = .ok (.iload_n 2, 1) := dk_28 (dk_at dksX0_text_0 7 rfl rfl)
theorem dX0_text_8 : decode cX0_text 8 = .ok (.bipush 80, 2) := dk_16 80 (dk_at dksX0_text_0 8 rfl rfl)
theorem dX0_text_10 : decode cX0_text 10 = .ok (.if_icmp .le 5, 3) := dk_164 0 5 (dk_at dksX0_text_0 10 rfl rfl)
theorem dX0_text_13 : decode cX0_text 13 = .ok (.iconst (-1), 1) := dk_2 (dk_at dksX0_text_0 13 rfl rfl)
theorem dX0_text_14 : decode cX0_text 14 = .ok (.ireturn, 1) := dk_172 (dk_at dksX0_text_0 14 rfl rfl)
theorem dX0_text_15 : decode cX0_text 15 = .ok (.iload_n 2, 1) := dk_28 (dk_at dksX0_text_0 15 rfl rfl)
theorem dX0_text_16 : decode cX0_text 16 = .ok (.newarray .byte, 2) := dk_188_8 (dk_at dksX0_text_0 16 rfl rfl)
theorem dX0_text_18 : decode cX0_text 18 = .ok (.astore_n 3, 1) := dk_78 (dk_at dksX0_text_0 18 rfl rfl)
theorem dX0_text_19 : decode cX0_text 19 = .ok (.iconst 0, 1) := dk_3 (dk_at dksX0_text_0 19 rfl rfl)
theorem dX0_text_20 : decode cX0_text 20 = .ok (.istore 4, 2) := dk_54 4 (dk_at dksX0_text_0 20 rfl rfl)
theorem dX0_text_22 : decode cX0_text 22 = .ok (.iload 4, 2) := dk_21 4 (dk_at dksX0_text_0 22 rfl rfl)
theorem dX0_text_24 : decode cX0_text 24 = .ok (.iload_n 2, 1) := dk_28 (dk_at dksX0_text_1 0 rfl rfl)
theorem dX0_text_25 : decode cX0_text 25 = .ok (.if_icmp .ge 15, 3) := dk_162 0 15 (dk_at dksX0_text_1 1 rfl rfl)
theorem dX0_text_28 : decode cX0_text 28 = .ok (.aload_n 3, 1) := dk_45 (dk_at dksX0_text_1 4 rfl rfl)
theorem dX0_text_29 : decode cX0_text 29 = .ok (.iload 4, 2) := dk_21 4 (dk_at dksX0_text_1 5 rfl rfl)
theorem dX0_text_31 : decode cX0_text 31 = .ok (.bipush 32, 2) := dk_16 32 (dk_at dksX0_text_1 7 rfl rfl)
theorem dX0_text_33 : decode cX0_text 33 = .ok (.bastore, 1) := dk_84 (dk_at dksX0_text_1 9 rfl rfl)
theorem dX0_text_34 : decode cX0_text 34 = .ok (.iinc 4 1, 3) := dk_132 4 1 (dk_at dksX0_text_1 10 rfl rfl)
theorem dX0_text_37 : decode cX0_text 37 = .ok (.goto (-15), 3) := dk_167 255 241 (dk_at dksX0_text_1 13 rfl rfl)
theorem dX0_text_40 : decode cX0_text 40 = .ok (.aload_n 0, 1) := dk_42 (dk_at dksX0_text_1 16 rfl rfl)
theorem dX0_text_41 : decode cX0_text 41 = .ok (.getfield 31, 3) := dk_180 0 31 (dk_at dksX0_text_1 17 rfl rfl)
theorem dX0_text_44 : decode cX0_text 44 = .ok (.iload_n 1, 1) := dk_27 (dk_at dksX0_text_1 20 rfl rfl)
theorem dX0_text_45 : decode cX0_text 45 = .ok (.aload_n 3, 1) := dk_45 (dk_at dksX0_text_1 21 rfl rfl)
theorem dX0_text_46 : decode cX0_text 46 = .ok (.aastore, 1) := dk_83 (dk_at dksX0_text_1 22 rfl rfl)
theorem dX0_text_47 : decode cX0_text 47 = .ok (.iload_n 2, 1) := dk_28 (dk_at dksX0_text_1 23 rfl rfl)
theorem dX0_text_48 : decode cX0_text 48 = .ok (.ireturn, 1) := dk_172 (dk_at dksX0_text_2 0 rfl rfl)
theorem dX0_text_49 : decode cX0_text 49 = .ok (.astore_n 3, 1) := dk_78 (dk_at dksX0_text_2 1 rfl rfl)
theorem dX0_text_50 : decode cX0_text 50 = .ok (.aload_n 0, 1) := dk_42 (dk_at dksX0_text_2 2 rfl rfl)
theorem dX0_text_51 : decode cX0_text 51 = .ok (.iconst 5, 1) := dk_8 (dk_at dksX0_text_2 3 rfl rfl)
theorem dX0_text_52 : decode cX0_text 52 = .ok (.invokevirtual 76, 3) := dk_182 0 76 (dk_at dksX0_text_2 4 rfl rfl)
theorem dX0_text_55 : decode cX0_text 55 = .ok (.ireturn, 1) := dk_172 (dk_at dksX0_text_2 7 rfl rfl)
abbrev cX0_isText : ByteArray := prog_1_method_17_code
def yX0_isText : MethodName := ⟨RX0, "isText", "(I)Z"⟩
def dkwX0_isText_0 : List UInt8 := [26, 3, 6, 184, 0, 66, 172]
abbrev dktX0_isText_0 : List UInt8 := dkwX0_isText_0 ++ []
theorem dksX0_isText_0 : cX0_isText.data.toList.drop 0 = dktX0_isText_0 := by decide +kernel
theorem dX0_isText_0 : decode cX0_isText 0 = .ok (.iload_n 0, 1) := dk_26 (dk_at dksX0_isText_0 0 rfl rfl)
theorem dX0_isText_1 : decode cX0_isText 1 = .ok (.iconst 0, 1) := dk_3 (dk_at dksX0_isText_0 1 rfl rfl)
theorem dX0_isText_2 : decode cX0_isText 2 = .ok (.iconst 3, 1) := dk_6 (dk_at dksX0_isText_0 2 rfl rfl)
theorem dX0_isText_3 : decode cX0_isText 3 = .ok (.invokestatic 66, 3) := dk_184 0 66 (dk_at dksX0_isText_0 3 rfl rfl)
theorem dX0_isText_6 : decode cX0_isText 6 = .ok (.ireturn, 1) := dk_172 (dk_at dksX0_isText_0 6 rfl rfl)
abbrev cX0_put : ByteArray := prog_1_method_19_code
def yX0_put : MethodName := ⟨RX0, "put", "(III)I"⟩
def dkwX0_put_2 : List UInt8 := [182, 0, 76, 172]
abbrev dktX0_put_2 : List UInt8 := dkwX0_put_2 ++ []
def dkwX0_put_1 : List UInt8 := [50, 28, 29, 145, 84, 17, 3, 232, 21, 4, 96, 172, 58, 4, 42, 4, 182, 0, 76, 172, 58, 4, 42, 5]
abbrev dktX0_put_1 : List UInt8 := dkwX0_put_1 ++ dktX0_put_2
def dkwX0_put_0 : List UInt8 := [27, 184, 0, 96, 154, 0, 5, 2, 172, 42, 180, 0, 31, 27, 50, 28, 51, 54, 4, 42, 180, 0, 31, 27]
abbrev dktX0_put_0 : List UInt8 := dkwX0_put_0 ++ dktX0_put_1
theorem dksX0_put_0 : cX0_put.data.toList.drop 0 = dktX0_put_0 := by decide +kernel
theorem dksX0_put_1 : cX0_put.data.toList.drop 24 = dktX0_put_1 := dk_seg dksX0_put_0 24 rfl rfl
theorem dksX0_put_2 : cX0_put.data.toList.drop 48 = dktX0_put_2 := dk_seg dksX0_put_1 24 rfl rfl
theorem dX0_put_0 : decode cX0_put 0 = .ok (.iload_n 1, 1) := dk_27 (dk_at dksX0_put_0 0 rfl rfl)
theorem dX0_put_1 : decode cX0_put 1 = .ok (.invokestatic 96, 3) := dk_184 0 96 (dk_at dksX0_put_0 1 rfl rfl)
theorem dX0_put_4 : decode cX0_put 4 = .ok (.ifCond .ne 5, 3) := dk_154 0 5 (dk_at dksX0_put_0 4 rfl rfl)
theorem dX0_put_7 : decode cX0_put 7 = .ok (.iconst (-1), 1) := dk_2 (dk_at dksX0_put_0 7 rfl rfl)
theorem dX0_put_8 : decode cX0_put 8 = .ok (.ireturn, 1) := dk_172 (dk_at dksX0_put_0 8 rfl rfl)
theorem dX0_put_9 : decode cX0_put 9 = .ok (.aload_n 0, 1) := dk_42 (dk_at dksX0_put_0 9 rfl rfl)
theorem dX0_put_10 : decode cX0_put 10 = .ok (.getfield 31, 3) := dk_180 0 31 (dk_at dksX0_put_0 10 rfl rfl)
theorem dX0_put_13 : decode cX0_put 13 = .ok (.iload_n 1, 1) := dk_27 (dk_at dksX0_put_0 13 rfl rfl)
theorem dX0_put_14 : decode cX0_put 14 = .ok (.aaload, 1) := dk_50 (dk_at dksX0_put_0 14 rfl rfl)
theorem dX0_put_15 : decode cX0_put 15 = .ok (.iload_n 2, 1) := dk_28 (dk_at dksX0_put_0 15 rfl rfl)
theorem dX0_put_16 : decode cX0_put 16 = .ok (.baload, 1) := dk_51 (dk_at dksX0_put_0 16 rfl rfl)
theorem dX0_put_17 : decode cX0_put 17 = .ok (.istore 4, 2) := dk_54 4 (dk_at dksX0_put_0 17 rfl rfl)
theorem dX0_put_19 : decode cX0_put 19 = .ok (.aload_n 0, 1) := dk_42 (dk_at dksX0_put_0 19 rfl rfl)
theorem dX0_put_20 : decode cX0_put 20 = .ok (.getfield 31, 3) := dk_180 0 31 (dk_at dksX0_put_0 20 rfl rfl)
theorem dX0_put_23 : decode cX0_put 23 = .ok (.iload_n 1, 1) := dk_27 (dk_at dksX0_put_0 23 rfl rfl)
theorem dX0_put_24 : decode cX0_put 24 = .ok (.aaload, 1) := dk_50 (dk_at dksX0_put_1 0 rfl rfl)
theorem dX0_put_25 : decode cX0_put 25 = .ok (.iload_n 2, 1) := dk_28 (dk_at dksX0_put_1 1 rfl rfl)
theorem dX0_put_26 : decode cX0_put 26 = .ok (.iload_n 3, 1) := dk_29 (dk_at dksX0_put_1 2 rfl rfl)
theorem dX0_put_27 : decode cX0_put 27 = .ok (.i2b, 1) := dk_145 (dk_at dksX0_put_1 3 rfl rfl)
theorem dX0_put_28 : decode cX0_put 28 = .ok (.bastore, 1) := dk_84 (dk_at dksX0_put_1 4 rfl rfl)
theorem dX0_put_29 : decode cX0_put 29 = .ok (.sipush 1000, 3) := dk_17 3 232 (dk_at dksX0_put_1 5 rfl rfl)
theorem dX0_put_32 : decode cX0_put 32 = .ok (.iload 4, 2) := dk_21 4 (dk_at dksX0_put_1 8 rfl rfl)
theorem dX0_put_34 : decode cX0_put 34 = .ok (.iadd, 1) := dk_96 (dk_at dksX0_put_1 10 rfl rfl)
theorem dX0_put_35 : decode cX0_put 35 = .ok (.ireturn, 1) := dk_172 (dk_at dksX0_put_1 11 rfl rfl)
theorem dX0_put_36 : decode cX0_put 36 = .ok (.astore 4, 2) := dk_58 4 (dk_at dksX0_put_1 12 rfl rfl)
theorem dX0_put_38 : decode cX0_put 38 = .ok (.aload_n 0, 1) := dk_42 (dk_at dksX0_put_1 14 rfl rfl)
theorem dX0_put_39 : decode cX0_put 39 = .ok (.iconst 1, 1) := dk_4 (dk_at dksX0_put_1 15 rfl rfl)
theorem dX0_put_40 : decode cX0_put 40 = .ok (.invokevirtual 76, 3) := dk_182 0 76 (dk_at dksX0_put_1 16 rfl rfl)
theorem dX0_put_43 : decode cX0_put 43 = .ok (.ireturn, 1) := dk_172 (dk_at dksX0_put_1 19 rfl rfl)
theorem dX0_put_44 : decode cX0_put 44 = .ok (.astore 4, 2) := dk_58 4 (dk_at dksX0_put_1 20 rfl rfl)
theorem dX0_put_46 : decode cX0_put 46 = .ok (.aload_n 0, 1) := dk_42 (dk_at dksX0_put_1 22 rfl rfl)
theorem dX0_put_47 : decode cX0_put 47 = .ok (.iconst 2, 1) := dk_5 (dk_at dksX0_put_1 23 rfl rfl)
theorem dX0_put_48 : decode cX0_put 48 = .ok (.invokevirtual 76, 3) := dk_182 0 76 (dk_at dksX0_put_2 0 rfl rfl)
theorem dX0_put_51 : decode cX0_put 51 = .ok (.ireturn, 1) := dk_172 (dk_at dksX0_put_2 3 rfl rfl)
abbrev cX0_fault : ByteArray := prog_1_method_36_code
def yX0_fault : MethodName := ⟨RX0, "fault", "(I)I"⟩
def dkwX0_fault_1 : List UInt8 := [167, 0, 13, 42, 42, 180, 0, 31, 27, 50, 182, 0, 168, 172]
abbrev dktX0_fault_1 : List UInt8 := dkwX0_fault_1 ++ []
def dkwX0_fault_0 : List UInt8 := [27, 184, 0, 96, 154, 0, 5, 2, 172, 42, 180, 0, 31, 27, 50, 199, 0, 11, 42, 4, 182, 0, 76]
abbrev dktX0_fault_0 : List UInt8 := dkwX0_fault_0 ++ dktX0_fault_1
theorem dksX0_fault_0 : cX0_fault.data.toList.drop 0 = dktX0_fault_0 := by decide +kernel
theorem dksX0_fault_1 : cX0_fault.data.toList.drop 23 = dktX0_fault_1 := dk_seg dksX0_fault_0 23 rfl rfl
theorem dX0_fault_0 : decode cX0_fault 0 = .ok (.iload_n 1, 1) := dk_27 (dk_at dksX0_fault_0 0 rfl rfl)
theorem dX0_fault_1 : decode cX0_fault 1 = .ok (.invokestatic 96, 3) := dk_184 0 96 (dk_at dksX0_fault_0 1 rfl rfl)
theorem dX0_fault_4 : decode cX0_fault 4 = .ok (.ifCond .ne 5, 3) := dk_154 0 5 (dk_at dksX0_fault_0 4 rfl rfl)
theorem dX0_fault_7 : decode cX0_fault 7 = .ok (.iconst (-1), 1) := dk_2 (dk_at dksX0_fault_0 7 rfl rfl)
theorem dX0_fault_8 : decode cX0_fault 8 = .ok (.ireturn, 1) := dk_172 (dk_at dksX0_fault_0 8 rfl rfl)
theorem dX0_fault_9 : decode cX0_fault 9 = .ok (.aload_n 0, 1) := dk_42 (dk_at dksX0_fault_0 9 rfl rfl)
theorem dX0_fault_10 : decode cX0_fault 10 = .ok (.getfield 31, 3) := dk_180 0 31 (dk_at dksX0_fault_0 10 rfl rfl)
theorem dX0_fault_13 : decode cX0_fault 13 = .ok (.iload_n 1, 1) := dk_27 (dk_at dksX0_fault_0 13 rfl rfl)
theorem dX0_fault_14 : decode cX0_fault 14 = .ok (.aaload, 1) := dk_50 (dk_at dksX0_fault_0 14 rfl rfl)
theorem dX0_fault_15 : decode cX0_fault 15 = .ok (.ifnonnull 11, 3) := dk_199 0 11 (dk_at dksX0_fault_0 15 rfl rfl)
theorem dX0_fault_18 : decode cX0_fault 18 = .ok (.aload_n 0, 1) := dk_42 (dk_at dksX0_fault_0 18 rfl rfl)
theorem dX0_fault_19 : decode cX0_fault 19 = .ok (.iconst 1, 1) := dk_4 (dk_at dksX0_fault_0 19 rfl rfl)
theorem dX0_fault_20 : decode cX0_fault 20 = .ok (.invokevirtual 76, 3) := dk_182 0 76 (dk_at dksX0_fault_0 20 rfl rfl)
theorem dX0_fault_23 : decode cX0_fault 23 = .ok (.goto 13, 3) := dk_167 0 13 (dk_at dksX0_fault_1 0 rfl rfl)
theorem dX0_fault_26 : decode cX0_fault 26 = .ok (.aload_n 0, 1) := dk_42 (dk_at dksX0_fault_1 3 rfl rfl)
theorem dX0_fault_27 : decode cX0_fault 27 = .ok (.aload_n 0, 1) := dk_42 (dk_at dksX0_fault_1 4 rfl rfl)
theorem dX0_fault_28 : decode cX0_fault 28 = .ok (.getfield 31, 3) := dk_180 0 31 (dk_at dksX0_fault_1 5 rfl rfl)
theorem dX0_fault_31 : decode cX0_fault 31 = .ok (.iload_n 1, 1) := dk_27 (dk_at dksX0_fault_1 8 rfl rfl)
theorem dX0_fault_32 : decode cX0_fault 32 = .ok (.aaload, 1) := dk_50 (dk_at dksX0_fault_1 9 rfl rfl)
theorem dX0_fault_33 : decode cX0_fault 33 = .ok (.invokevirtual 168, 3) := dk_182 0 168 (dk_at dksX0_fault_1 10 rfl rfl)
theorem dX0_fault_36 : decode cX0_fault 36 = .ok (.ireturn, 1) := dk_172 (dk_at dksX0_fault_1 13 rfl rfl)
abbrev cX0_read : ByteArray := prog_1_method_35_code
def yX0_read : MethodName := ⟨RX0, "read", "([B)I"⟩
def dkwX0_read_4 : List UInt8 := [16, 247, 172]
abbrev dktX0_read_4 : List UInt8 := dkwX0_read_4 ++ []
def dkwX0_read_3 : List UInt8 := [182, 0, 166, 154, 255, 196, 42, 180, 0, 147, 172, 42, 180, 0, 141, 154, 0, 8, 43, 190, 167, 0, 5]
abbrev dktX0_read_3 : List UInt8 := dkwX0_read_3 ++ dktX0_read_4
def dkwX0_read_2 : List UInt8 := [43, 42, 180, 0, 147, 51, 16, 116, 160, 0, 14, 42, 43, 182, 0, 163, 153, 0, 14, 167, 255, 204, 42, 43]
abbrev dktX0_read_2 : List UInt8 := dkwX0_read_2 ++ dktX0_read_3
def dkwX0_read_1 : List UInt8 := [43, 42, 180, 0, 147, 51, 16, 32, 160, 0, 16, 42, 89, 180, 0, 147, 4, 96, 181, 0, 147, 167, 255, 226]
abbrev dktX0_read_1 : List UInt8 := dkwX0_read_1 ++ dktX0_read_2
def dkwX0_read_0 : List UInt8 := [42, 3, 181, 0, 147, 42, 3, 181, 0, 141, 42, 3, 181, 0, 144, 42, 180, 0, 147, 43, 190, 162, 0, 62]
abbrev dktX0_read_0 : List UInt8 := dkwX0_read_0 ++ dktX0_read_1
theorem dksX0_read_0 : cX0_read.data.toList.drop 0 = dktX0_read_0 := by decide +kernel
theorem dksX0_read_1 : cX0_read.data.toList.drop 24 = dktX0_read_1 := dk_seg dksX0_read_0 24 rfl rfl
theorem dksX0_read_2 : cX0_read.data.toList.drop 48 = dktX0_read_2 := dk_seg dksX0_read_1 24 rfl rfl
theorem dksX0_read_3 : cX0_read.data.toList.drop 72 = dktX0_read_3 := dk_seg dksX0_read_2 24 rfl rfl
theorem dksX0_read_4 : cX0_read.data.toList.drop 95 = dktX0_read_4 := dk_seg dksX0_read_3 23 rfl rfl
theorem dX0_read_0 : decode cX0_read 0 = .ok (.aload_n 0, 1) := dk_42 (dk_at dksX0_read_0 0 rfl rfl)
theorem dX0_read_1 : decode cX0_read 1 = .ok (.iconst 0, 1) := dk_3 (dk_at dksX0_read_0 1 rfl rfl)
theorem dX0_read_2 : decode cX0_read 2 = .ok (.putfield 147, 3) := dk_181 0 147 (dk_at dksX0_read_0 2 rfl rfl)
theorem dX0_read_5 : decode cX0_read 5 = .ok (.aload_n 0, 1) := dk_42 (dk_at dksX0_read_0 5 rfl rfl)
theorem dX0_read_6 : decode cX0_read 6 = .ok (.iconst 0, 1) := dk_3 (dk_at dksX0_read_0 6 rfl rfl)
theorem dX0_read_7 : decode cX0_read 7 = .ok (.putfield 141, 3) := dk_181 0 141 (dk_at dksX0_read_0 7 rfl rfl)
theorem dX0_read_10 : decode cX0_read 10 = .ok (.aload_n 0, 1) := dk_42 (dk_at dksX0_read_0 10 rfl rfl)
theorem dX0_read_11 : decode cX0_read 11 = .ok (.iconst 0, 1) := dk_3 (dk_at dksX0_read_0 11 rfl rfl)
theorem dX0_read_12 : decode cX0_read 12 = .ok (.putfield 144, 3) := dk_181 0 144 (dk_at dksX0_read_0 12 rfl rfl)
theorem dX0_read_15 : decode cX0_read 15 = .ok (.aload_n 0, 1) := dk_42 (dk_at dksX0_read_0 15 rfl rfl)
theorem dX0_read_16 : decode cX0_read 16 = .ok (.getfield 147, 3) := dk_180 0 147 (dk_at dksX0_read_0 16 rfl rfl)
theorem dX0_read_19 : decode cX0_read 19 = .ok (.aload_n 1, 1) := dk_43 (dk_at dksX0_read_0 19 rfl rfl)
theorem dX0_read_20 : decode cX0_read 20 = .ok (.arraylength, 1) := dk_190 (dk_at dksX0_read_0 20 rfl rfl)
theorem dX0_read_21 : decode cX0_read 21 = .ok (.if_icmp .ge 62, 3) := dk_162 0 62 (dk_at dksX0_read_0 21 rfl rfl)
theorem dX0_read_24 : decode cX0_read 24 = .ok (.aload_n 1, 1) := dk_43 (dk_at dksX0_read_1 0 rfl rfl)
theorem dX0_read_25 : decode cX0_read 25 = .ok (.aload_n 0, 1) := dk_42 (dk_at dksX0_read_1 1 rfl rfl)
theorem dX0_read_26 : decode cX0_read 26 = .ok (.getfield 147, 3) := dk_180 0 147 (dk_at dksX0_read_1 2 rfl rfl)
theorem dX0_read_29 : decode cX0_read 29 = .ok (.baload, 1) := dk_51 (dk_at dksX0_read_1 5 rfl rfl)
theorem dX0_read_30 : decode cX0_read 30 = .ok (.bipush 32, 2) := dk_16 32 (dk_at dksX0_read_1 6 rfl rfl)
theorem dX0_read_32 : decode cX0_read 32 = .ok (.if_icmp .ne 16, 3) := dk_160 0 16 (dk_at dksX0_read_1 8 rfl rfl)
theorem dX0_read_35 : decode cX0_read 35 = .ok (.aload_n 0, 1) := dk_42 (dk_at dksX0_read_1 11 rfl rfl)
theorem dX0_read_36 : decode cX0_read 36 = .ok (.dup, 1) := dk_89 (dk_at dksX0_read_1 12 rfl rfl)
theorem dX0_read_37 : decode cX0_read 37 = .ok (.getfield 147, 3) := dk_180 0 147 (dk_at dksX0_read_1 13 rfl rfl)
theorem dX0_read_40 : decode cX0_read 40 = .ok (.iconst 1, 1) := dk_4 (dk_at dksX0_read_1 16 rfl rfl)
theorem dX0_read_41 : decode cX0_read 41 = .ok (.iadd, 1) := dk_96 (dk_at dksX0_read_1 17 rfl rfl)
theorem dX0_read_42 : decode cX0_read 42 = .ok (.putfield 147, 3) := dk_181 0 147 (dk_at dksX0_read_1 18 rfl rfl)
theorem dX0_read_45 : decode cX0_read 45 = .ok (.goto (-30), 3) := dk_167 255 226 (dk_at dksX0_read_1 21 rfl rfl)
theorem dX0_read_48 : decode cX0_read 48 = .ok (.aload_n 1, 1) := dk_43 (dk_at dksX0_read_2 0 rfl rfl)
theorem dX0_read_49 : decode cX0_read 49 = .ok (.aload_n 0, 1) := dk_42 (dk_at dksX0_read_2 1 rfl rfl)
theorem dX0_read_50 : decode cX0_read 50 = .ok (.getfield 147, 3) := dk_180 0 147 (dk_at dksX0_read_2 2 rfl rfl)
theorem dX0_read_53 : decode cX0_read 53 = .ok (.baload, 1) := dk_51 (dk_at dksX0_read_2 5 rfl rfl)
theorem dX0_read_54 : decode cX0_read 54 = .ok (.bipush 116, 2) := dk_16 116 (dk_at dksX0_read_2 6 rfl rfl)
theorem dX0_read_56 : decode cX0_read 56 = .ok (.if_icmp .ne 14, 3) := dk_160 0 14 (dk_at dksX0_read_2 8 rfl rfl)
theorem dX0_read_59 : decode cX0_read 59 = .ok (.aload_n 0, 1) := dk_42 (dk_at dksX0_read_2 11 rfl rfl)
theorem dX0_read_60 : decode cX0_read 60 = .ok (.aload_n 1, 1) := dk_43 (dk_at dksX0_read_2 12 rfl rfl)
theorem dX0_read_61 : decode cX0_read 61 = .ok (.invokevirtual 163, 3) := dk_182 0 163 (dk_at dksX0_read_2 13 rfl rfl)
theorem dX0_read_64 : decode cX0_read 64 = .ok (.ifCond .eq 14, 3) := dk_153 0 14 (dk_at dksX0_read_2 16 rfl rfl)
theorem dX0_read_67 : decode cX0_read 67 = .ok (.goto (-52), 3) := dk_167 255 204 (dk_at dksX0_read_2 19 rfl rfl)
theorem dX0_read_70 : decode cX0_read 70 = .ok (.aload_n 0, 1) := dk_42 (dk_at dksX0_read_2 22 rfl rfl)
theorem dX0_read_71 : decode cX0_read 71 = .ok (.aload_n 1, 1) := dk_43 (dk_at dksX0_read_2 23 rfl rfl)
theorem dX0_read_72 : decode cX0_read 72 = .ok (.invokevirtual 166, 3) := dk_182 0 166 (dk_at dksX0_read_3 0 rfl rfl)
theorem dX0_read_75 : decode cX0_read 75 = .ok (.ifCond .ne (-60), 3) := dk_154 255 196 (dk_at dksX0_read_3 3 rfl rfl)
theorem dX0_read_78 : decode cX0_read 78 = .ok (.aload_n 0, 1) := dk_42 (dk_at dksX0_read_3 6 rfl rfl)
theorem dX0_read_79 : decode cX0_read 79 = .ok (.getfield 147, 3) := dk_180 0 147 (dk_at dksX0_read_3 7 rfl rfl)
theorem dX0_read_82 : decode cX0_read 82 = .ok (.ireturn, 1) := dk_172 (dk_at dksX0_read_3 10 rfl rfl)
theorem dX0_read_83 : decode cX0_read 83 = .ok (.aload_n 0, 1) := dk_42 (dk_at dksX0_read_3 11 rfl rfl)
theorem dX0_read_84 : decode cX0_read 84 = .ok (.getfield 141, 3) := dk_180 0 141 (dk_at dksX0_read_3 12 rfl rfl)
theorem dX0_read_87 : decode cX0_read 87 = .ok (.ifCond .ne 8, 3) := dk_154 0 8 (dk_at dksX0_read_3 15 rfl rfl)
theorem dX0_read_90 : decode cX0_read 90 = .ok (.aload_n 1, 1) := dk_43 (dk_at dksX0_read_3 18 rfl rfl)
theorem dX0_read_91 : decode cX0_read 91 = .ok (.arraylength, 1) := dk_190 (dk_at dksX0_read_3 19 rfl rfl)
theorem dX0_read_92 : decode cX0_read 92 = .ok (.goto 5, 3) := dk_167 0 5 (dk_at dksX0_read_3 20 rfl rfl)
theorem dX0_read_95 : decode cX0_read 95 = .ok (.bipush (-9), 2) := dk_16 247 (dk_at dksX0_read_4 0 rfl rfl)
theorem dX0_read_97 : decode cX0_read 97 = .ok (.ireturn, 1) := dk_172 (dk_at dksX0_read_4 2 rfl rfl)
abbrev cX0_readThing : ByteArray := prog_1_method_33_code
def yX0_readThing : MethodName := ⟨RX0, "readThing", "([B)Z"⟩
def dkwX0_readThing_4 : List UInt8 := [167, 255, 191, 42, 89, 180, 0, 141, 4, 96, 181, 0, 141, 4, 172]
abbrev dktX0_readThing_4 : List UInt8 := dkwX0_readThing_4 ++ []
def dkwX0_readThing_3 : List UInt8 := [8, 42, 180, 0, 141, 104, 28, 96, 29, 79, 42, 89, 180, 0, 147, 4, 96, 181, 0, 147, 132, 2, 1]
abbrev dktX0_readThing_3 : List UInt8 := dkwX0_readThing_3 ++ dktX0_readThing_4
def dkwX0_readThing_2 : List UInt8 := [3, 28, 7, 162, 0, 7, 6, 167, 0, 5, 16, 9, 184, 0, 66, 154, 0, 5, 3, 172, 42, 180, 0, 47]
abbrev dktX0_readThing_2 : List UInt8 := dkwX0_readThing_2 ++ dktX0_readThing_3
def dkwX0_readThing_1 : List UInt8 := [96, 181, 0, 147, 3, 61, 28, 8, 162, 0, 66, 43, 42, 180, 0, 147, 184, 0, 150, 16, 48, 100, 62, 29]
abbrev dktX0_readThing_1 : List UInt8 := dkwX0_readThing_1 ++ dktX0_readThing_2
def dkwX0_readThing_0 : List UInt8 := [42, 180, 0, 141, 16, 6, 159, 0, 10, 42, 180, 0, 144, 158, 0, 5, 3, 172, 42, 89, 180, 0, 147, 4]
abbrev dktX0_readThing_0 : List UInt8 := dkwX0_readThing_0 ++ dktX0_readThing_1
theorem dksX0_readThing_0 : cX0_readThing.data.toList.drop 0 = dktX0_readThing_0 := by decide +kernel
theorem dksX0_readThing_1 : cX0_readThing.data.toList.drop 24 = dktX0_readThing_1 := dk_seg dksX0_readThing_0 24 rfl rfl
theorem dksX0_readThing_2 : cX0_readThing.data.toList.drop 48 = dktX0_readThing_2 := dk_seg dksX0_readThing_1 24 rfl rfl
theorem dksX0_readThing_3 : cX0_readThing.data.toList.drop 72 = dktX0_readThing_3 := dk_seg dksX0_readThing_2 24 rfl rfl
theorem dksX0_readThing_4 : cX0_readThing.data.toList.drop 95 = dktX0_readThing_4 := dk_seg dksX0_readThing_3 23 rfl rfl
theorem dX0_readThing_0 : decode cX0_readThing 0 = .ok (.aload_n 0, 1) := dk_42 (dk_at dksX0_readThing_0 0 rfl rfl)
theorem dX0_readThing_1 : decode cX0_readThing 1 = .ok (.getfield 141, 3) := dk_180 0 141 (dk_at dksX0_readThing_0 1 rfl rfl)
theorem dX0_readThing_4 : decode cX0_readThing 4 = .ok (.bipush 6, 2) := dk_16 6 (dk_at dksX0_readThing_0 4 rfl rfl)
theorem dX0_readThing_6 : decode cX0_readThing 6 = .ok (.if_icmp .eq 10, 3) := dk_159 0 10 (dk_at dksX0_readThing_0 6 rfl rfl)
theorem dX0_readThing_9 : decode cX0_readThing 9 = .ok (.aload_n 0, 1) := dk_42 (dk_at dksX0_readThing_0 9 rfl rfl)
theorem dX0_readThing_10 : decode cX0_readThing 10 = .ok (.getfield 144, 3) := dk_180 0 144 (dk_at dksX0_readThing_0 10 rfl rfl)
theorem dX0_readThing_13 : decode cX0_readThing 13 = .ok (.ifCond .le 5, 3) := dk_158 0 5 (dk_at dksX0_readThing_0 13 rfl rfl)
theorem dX0_readThing_16 : decode cX0_readThing 16 = .ok (.iconst 0, 1) := dk_3 (dk_at dksX0_readThing_0 16 rfl rfl)
theorem dX0_readThing_17 : decode cX0_readThing 17 = .ok (.ireturn, 1) := dk_172 (dk_at dksX0_readThing_0 17 rfl rfl)
theorem dX0_readThing_18 : decode cX0_readThing 18 = .ok (.aload_n 0, 1) := dk_42 (dk_at dksX0_readThing_0 18 rfl rfl)
theorem dX0_readThing_19 : decode cX0_readThing 19 = .ok (.dup, 1) := dk_89 (dk_at dksX0_readThing_0 19 rfl rfl)
theorem dX0_readThing_20 : decode cX0_readThing 20 = .ok (.getfield 147, 3) := dk_180 0 147 (dk_at dksX0_readThing_0 20 rfl rfl)
theorem dX0_readThing_23 : decode cX0_readThing 23 = .ok (.iconst 1, 1) := dk_4 (dk_at dksX0_readThing_0 23 rfl rfl)
theorem dX0_readThing_24 : decode cX0_readThing 24 = .ok (.iadd, 1) := dk_96 (dk_at dksX0_readThing_1 0 rfl rfl)
theorem dX0_readThing_25 : decode cX0_readThing 25 = .ok (.putfield 147, 3) := dk_181 0 147 (dk_at dksX0_readThing_1 1 rfl rfl)
theorem dX0_readThing_28 : decode cX0_readThing 28 = .ok (.iconst 0, 1) := dk_3 (dk_at dksX0_readThing_1 4 rfl rfl)
theorem dX0_readThing_29 : decode cX0_readThing 29 = .ok (.istore_n 2, 1) := dk_61 (dk_at dksX0_readThing_1 5 rfl rfl)
theorem dX0_readThing_30 : decode cX0_readThing 30 = .ok (.iload_n 2, 1) := dk_28 (dk_at dksX0_readThing_1 6 rfl rfl)
theorem dX0_readThing_31 : decode cX0_readThing 31 = .ok (.iconst 5, 1) := dk_8 (dk_at dksX0_readThing_1 7 rfl rfl)
theorem dX0_readThing_32 : decode cX0_readThing 32 = .ok (.if_icmp .ge 66, 3) := dk_162 0 66 (dk_at dksX0_readThing_1 8 rfl rfl)
theorem dX0_readThing_35 : decode cX0_readThing 35 = .ok (.aload_n 1, 1) := dk_43 (dk_at dksX0_readThing_1 11 rfl rfl)
theorem dX0_readThing_36 : decode cX0_readThing 36 = .ok (.aload_n 0, 1) := dk_42 (dk_at dksX0_readThing_1 12 rfl rfl)
theorem dX0_readThing_37 : decode cX0_readThing 37 = .ok (.getfield 147, 3) := dk_180 0 147 (dk_at dksX0_readThing_1 13 rfl rfl)
theorem dX0_readThing_40 : decode cX0_readThing 40 = .ok (.invokestatic 150, 3) := dk_184 0 150 (dk_at dksX0_readThing_1 16 rfl rfl)
theorem dX0_readThing_43 : decode cX0_readThing 43 = .ok (.bipush 48, 2) := dk_16 48 (dk_at dksX0_readThing_1 19 rfl rfl)
theorem dX0_readThing_45 : decode cX0_readThing 45 = .ok (.isub, 1) := dk_100 (dk_at dksX0_readThing_1 21 rfl rfl)
theorem dX0_readThing_46 : decode cX0_readThing 46 = .ok (.istore_n 3, 1) := dk_62 (dk_at dksX0_readThing_1 22 rfl rfl)
theorem dX0_readThing_47 : decode cX0_readThing 47 = .ok (.iload_n 3, 1) := dk_29 (dk_at dksX0_readThing_1 23 rfl rfl)
theorem dX0_readThing_48 : decode cX0_readThing 48 = .ok (.iconst 0, 1) := dk_3 (dk_at dksX0_readThing_2 0 rfl rfl)
theorem dX0_readThing_49 : decode cX0_readThing 49 = .ok (.iload_n 2, 1) := dk_28 (dk_at dksX0_readThing_2 1 rfl rfl)
theorem dX0_readThing_50 : decode cX0_readThing 50 = .ok (.iconst 4, 1) := dk_7 (dk_at dksX0_readThing_2 2 rfl rfl)
theorem dX0_readThing_51 : decode cX0_readThing 51 = .ok (.if_icmp .ge 7, 3) := dk_162 0 7 (dk_at dksX0_readThing_2 3 rfl rfl)
theorem dX0_readThing_54 : decode cX0_readThing 54 = .ok (.iconst 3, 1) := dk_6 (dk_at dksX0_readThing_2 6 rfl rfl)
theorem dX0_readThing_55 : decode cX0_readThing 55 = .ok (.goto 5, 3) := dk_167 0 5 (dk_at dksX0_readThing_2 7 rfl rfl)
theorem dX0_readThing_58 : decode cX0_readThing 58 = .ok (.bipush 9, 2) := dk_16 9 (dk_at dksX0_readThing_2 10 rfl rfl)
theorem dX0_readThing_60 : decode cX0_readThing 60 = .ok (.invokestatic 66, 3) := dk_184 0 66 (dk_at dksX0_readThing_2 12 rfl rfl)
theorem dX0_readThing_63 : decode cX0_readThing 63 = .ok (.ifCond .ne 5, 3) := dk_154 0 5 (dk_at dksX0_readThing_2 15 rfl rfl)
theorem dX0_readThing_66 : decode cX0_readThing 66 = .ok (.iconst 0, 1) := dk_3 (dk_at dksX0_readThing_2 18 rfl rfl)
theorem dX0_readThing_67 : decode cX0_readThing 67 = .ok (.ireturn, 1) := dk_172 (dk_at dksX0_readThing_2 19 rfl rfl)
theorem dX0_readThing_68 : decode cX0_readThing 68 = .ok (.aload_n 0, 1) := dk_42 (dk_at dksX0_readThing_2 20 rfl rfl)
theorem dX0_readThing_69 : decode cX0_readThing 69 = .ok (.getfield 47, 3) := dk_180 0 47 (dk_at dksX0_readThing_2 21 rfl rfl)
theorem dX0_readThing_72 : decode cX0_readThing 72 = .ok (.iconst 5, 1) := dk_8 (dk_at dksX0_readThing_3 0 rfl rfl)
theorem dX0_readThing_73 : decode cX0_readThing 73 = .ok (.aload_n 0, 1) := dk_42 (dk_at dksX0_readThing_3 1 rfl rfl)
theorem dX0_readThing_74 : decode cX0_readThing 74 = .ok (.getfield 141, 3) := dk_180 0 141 (dk_at dksX0_readThing_3 2 rfl rfl)
theorem dX0_readThing_77 : decode cX0_readThing 77 = .ok (.imul, 1) := dk_104 (dk_at dksX0_readThing_3 5 rfl rfl)
theorem dX0_readThing_78 : decode cX0_readThing 78 = .ok (.iload_n 2, 1) := dk_28 (dk_at dksX0_readThing_3 6 rfl rfl)
theorem dX0_readThing_79 : decode cX0_readThing 79 = .ok (.iadd, 1) := dk_96 (dk_at dksX0_readThing_3 7 rfl rfl)
theorem dX0_readThing_80 : decode cX0_readThing 80 = .ok (.iload_n 3, 1) := dk_29 (dk_at dksX0_readThing_3 8 rfl rfl)
theorem dX0_readThing_81 : decode cX0_readThing 81 = .ok (.iastore, 1) := dk_79 (dk_at dksX0_readThing_3 9 rfl rfl)
theorem dX0_readThing_82 : decode cX0_readThing 82 = .ok (.aload_n 0, 1) := dk_42 (dk_at dksX0_readThing_3 10 rfl rfl)
theorem dX0_readThing_83 : decode cX0_readThing 83 = .ok (.dup, 1) := dk_89 (dk_at dksX0_readThing_3 11 rfl rfl)
theorem dX0_readThing_84 : decode cX0_readThing 84 = .ok (.getfield 147, 3) := dk_180 0 147 (dk_at dksX0_readThing_3 12 rfl rfl)
theorem dX0_readThing_87 : decode cX0_readThing 87 = .ok (.iconst 1, 1) := dk_4 (dk_at dksX0_readThing_3 15 rfl rfl)
theorem dX0_readThing_88 : decode cX0_readThing 88 = .ok (.iadd, 1) := dk_96 (dk_at dksX0_readThing_3 16 rfl rfl)
theorem dX0_readThing_89 : decode cX0_readThing 89 = .ok (.putfield 147, 3) := dk_181 0 147 (dk_at dksX0_readThing_3 17 rfl rfl)
theorem dX0_readThing_92 : decode cX0_readThing 92 = .ok (.iinc 2 1, 3) := dk_132 2 1 (dk_at dksX0_readThing_3 20 rfl rfl)
theorem dX0_readThing_95 : decode cX0_readThing 95 = .ok (.goto (-65), 3) := dk_167 255 191 (dk_at dksX0_readThing_4 0 rfl rfl)
theorem dX0_readThing_98 : decode cX0_readThing 98 = .ok (.aload_n 0, 1) := dk_42 (dk_at dksX0_readThing_4 3 rfl rfl)
theorem dX0_readThing_99 : decode cX0_readThing 99 = .ok (.dup, 1) := dk_89 (dk_at dksX0_readThing_4 4 rfl rfl)
theorem dX0_readThing_100 : decode cX0_readThing 100 = .ok (.getfield 141, 3) := dk_180 0 141 (dk_at dksX0_readThing_4 5 rfl rfl)
theorem dX0_readThing_103 : decode cX0_readThing 103 = .ok (.iconst 1, 1) := dk_4 (dk_at dksX0_readThing_4 8 rfl rfl)
theorem dX0_readThing_104 : decode cX0_readThing 104 = .ok (.iadd, 1) := dk_96 (dk_at dksX0_readThing_4 9 rfl rfl)
theorem dX0_readThing_105 : decode cX0_readThing 105 = .ok (.putfield 141, 3) := dk_181 0 141 (dk_at dksX0_readThing_4 10 rfl rfl)
theorem dX0_readThing_108 : decode cX0_readThing 108 = .ok (.iconst 1, 1) := dk_4 (dk_at dksX0_readThing_4 13 rfl rfl)
theorem dX0_readThing_109 : decode cX0_readThing 109 = .ok (.ireturn, 1) := dk_172 (dk_at dksX0_readThing_4 14 rfl rfl)
abbrev cX0_byteAt : ByteArray := prog_1_method_30_code
def yX0_byteAt : MethodName := ⟨RX0, "byteAt", "([BI)I"⟩
def dkwX0_byteAt_0 : List UInt8 := [27, 42, 190, 162, 0, 9, 42, 27, 51, 167, 0, 4, 3, 172]
abbrev dktX0_byteAt_0 : List UInt8 := dkwX0_byteAt_0 ++ []
theorem dksX0_byteAt_0 : cX0_byteAt.data.toList.drop 0 = dktX0_byteAt_0 := by decide +kernel
theorem dX0_byteAt_0 : decode cX0_byteAt 0 = .ok (.iload_n 1, 1) := dk_27 (dk_at dksX0_byteAt_0 0 rfl rfl)
theorem dX0_byteAt_1 : decode cX0_byteAt 1 = .ok (.aload_n 0, 1) := dk_42 (dk_at dksX0_byteAt_0 1 rfl rfl)
theorem dX0_byteAt_2 : decode cX0_byteAt 2 = .ok (.arraylength, 1) := dk_190 (dk_at dksX0_byteAt_0 2 rfl rfl)
theorem dX0_byteAt_3 : decode cX0_byteAt 3 = .ok (.if_icmp .ge 9, 3) := dk_162 0 9 (dk_at dksX0_byteAt_0 3 rfl rfl)
theorem dX0_byteAt_6 : decode cX0_byteAt 6 = .ok (.aload_n 0, 1) := dk_42 (dk_at dksX0_byteAt_0 6 rfl rfl)
theorem dX0_byteAt_7 : decode cX0_byteAt 7 = .ok (.iload_n 1, 1) := dk_27 (dk_at dksX0_byteAt_0 7 rfl rfl)
theorem dX0_byteAt_8 : decode cX0_byteAt 8 = .ok (.baload, 1) := dk_51 (dk_at dksX0_byteAt_0 8 rfl rfl)
theorem dX0_byteAt_9 : decode cX0_byteAt 9 = .ok (.goto 4, 3) := dk_167 0 4 (dk_at dksX0_byteAt_0 9 rfl rfl)
theorem dX0_byteAt_12 : decode cX0_byteAt 12 = .ok (.iconst 0, 1) := dk_3 (dk_at dksX0_byteAt_0 12 rfl rfl)
theorem dX0_byteAt_13 : decode cX0_byteAt 13 = .ok (.ireturn, 1) := dk_172 (dk_at dksX0_byteAt_0 13 rfl rfl)
abbrev cX0_readClause : ByteArray := prog_1_method_34_code
def yX0_readClause : MethodName := ⟨RX0, "readClause", "([B)Z"⟩
def dkwX0_readClause_7 : List UInt8 := [181, 0, 144, 4, 172]
abbrev dktX0_readClause_7 : List UInt8 := dkwX0_readClause_7 ++ []
def dkwX0_readClause_6 : List UInt8 := [42, 89, 180, 0, 147, 4, 96, 181, 0, 147, 132, 4, 1, 167, 255, 173, 42, 89, 180, 0, 144, 4, 96]
abbrev dktX0_readClause_6 : List UInt8 := dkwX0_readClause_6 ++ dktX0_readClause_7
def dkwX0_readClause_5 : List UInt8 := [42, 180, 0, 50, 29, 4, 96, 46, 160, 0, 5, 3, 172, 42, 180, 0, 50, 29, 21, 4, 96, 21, 5, 79]
abbrev dktX0_readClause_5 : List UInt8 := dkwX0_readClause_5 ++ dktX0_readClause_6
def dkwX0_readClause_4 : List UInt8 := [184, 0, 150, 16, 48, 100, 54, 5, 21, 5, 184, 0, 160, 153, 0, 22, 21, 4, 5, 160, 0, 18, 21, 5]
abbrev dktX0_readClause_4 : List UInt8 := dkwX0_readClause_4 ++ dktX0_readClause_5
def dkwX0_readClause_3 : List UInt8 := [54, 4, 21, 4, 28, 184, 0, 157, 153, 0, 7, 5, 167, 0, 4, 4, 163, 0, 72, 43, 42, 180, 0, 147]
abbrev dktX0_readClause_3 : List UInt8 := dkwX0_readClause_3 ++ dktX0_readClause_4
def dkwX0_readClause_2 : List UInt8 := [6, 42, 180, 0, 144, 104, 62, 42, 180, 0, 50, 29, 28, 79, 42, 180, 0, 50, 29, 5, 96, 3, 79, 4]
abbrev dktX0_readClause_2 : List UInt8 := dkwX0_readClause_2 ++ dktX0_readClause_3
def dkwX0_readClause_1 : List UInt8 := [153, 0, 12, 42, 180, 0, 144, 16, 8, 160, 0, 5, 3, 172, 42, 89, 180, 0, 147, 4, 96, 181, 0, 147]
abbrev dktX0_readClause_1 : List UInt8 := dkwX0_readClause_1 ++ dktX0_readClause_2
def dkwX0_readClause_0 : List UInt8 := [43, 42, 180, 0, 147, 184, 0, 150, 184, 0, 154, 61, 28, 16, 247, 159, 0, 19, 42, 180, 0, 141]
abbrev dktX0_readClause_0 : List UInt8 := dkwX0_readClause_0 ++ dktX0_readClause_1
theorem dksX0_readClause_0 : cX0_readClause.data.toList.drop 0 = dktX0_readClause_0 := by decide +kernel
theorem dksX0_readClause_1 : cX0_readClause.data.toList.drop 22 = dktX0_readClause_1 := dk_seg dksX0_readClause_0 22 rfl rfl
theorem dksX0_readClause_2 : cX0_readClause.data.toList.drop 46 = dktX0_readClause_2 := dk_seg dksX0_readClause_1 24 rfl rfl
theorem dksX0_readClause_3 : cX0_readClause.data.toList.drop 70 = dktX0_readClause_3 := dk_seg dksX0_readClause_2 24 rfl rfl
theorem dksX0_readClause_4 : cX0_readClause.data.toList.drop 94 = dktX0_readClause_4 := dk_seg dksX0_readClause_3 24 rfl rfl
theorem dksX0_readClause_5 : cX0_readClause.data.toList.drop 118 = dktX0_readClause_5 := dk_seg dksX0_readClause_4 24 rfl rfl
theorem dksX0_readClause_6 : cX0_readClause.data.toList.drop 142 = dktX0_readClause_6 := dk_seg dksX0_readClause_5 24 rfl rfl
theorem dksX0_readClause_7 : cX0_readClause.data.toList.drop 165 = dktX0_readClause_7 := dk_seg dksX0_readClause_6 23 rfl rfl
theorem dX0_readClause_0 : decode cX0_readClause 0 = .ok (.aload_n 1, 1) := dk_43 (dk_at dksX0_readClause_0 0 rfl rfl)
theorem dX0_readClause_1 : decode cX0_readClause 1 = .ok (.aload_n 0, 1) := dk_42 (dk_at dksX0_readClause_0 1 rfl rfl)
theorem dX0_readClause_2 : decode cX0_readClause 2 = .ok (.getfield 147, 3) := dk_180 0 147 (dk_at dksX0_readClause_0 2 rfl rfl)
theorem dX0_readClause_5 : decode cX0_readClause 5 = .ok (.invokestatic 150, 3) := dk_184 0 150 (dk_at dksX0_readClause_0 5 rfl rfl)
theorem dX0_readClause_8 : decode cX0_readClause 8 = .ok (.invokestatic 154, 3) := dk_184 0 154 (dk_at dksX0_readClause_0 8 rfl rfl)
theorem dX0_readClause_11 : decode cX0_readClause 11 = .ok (.istore_n 2, 1) := dk_61 (dk_at dksX0_readClause_0 11 rfl rfl)
theorem dX0_readClause_12 : decode cX0_readClause 12 = .ok (.iload_n 2, 1) := dk_28 (dk_at dksX0_readClause_0 12 rfl rfl)
theorem dX0_readClause_13 : decode cX0_readClause 13 = .ok (.bipush (-9), 2) := dk_16 247 (dk_at dksX0_readClause_0 13 rfl rfl)
theorem dX0_readClause_15 : decode cX0_readClause 15 = .ok (.if_icmp .eq 19, 3) := dk_159 0 19 (dk_at dksX0_readClause_0 15 rfl rfl)
theorem dX0_readClause_18 : decode cX0_readClause 18 = .ok (.aload_n 0, 1) := dk_42 (dk_at dksX0_readClause_0 18 rfl rfl)
theorem dX0_readClause_19 : decode cX0_readClause 19 = .ok (.getfield 141, 3) := dk_180 0 141 (dk_at dksX0_readClause_0 19 rfl rfl)
theorem dX0_readClause_22 : decode cX0_readClause 22 = .ok (.ifCond .eq 12, 3) := dk_153 0 12 (dk_at dksX0_readClause_1 0 rfl rfl)
theorem dX0_readClause_25 : decode cX0_readClause 25 = .ok (.aload_n 0, 1) := dk_42 (dk_at dksX0_readClause_1 3 rfl rfl)
theorem dX0_readClause_26 : decode cX0_readClause 26 = .ok (.getfield 144, 3) := dk_180 0 144 (dk_at dksX0_readClause_1 4 rfl rfl)
theorem dX0_readClause_29 : decode cX0_readClause 29 = .ok (.bipush 8, 2) := dk_16 8 (dk_at dksX0_readClause_1 7 rfl rfl)
theorem dX0_readClause_31 : decode cX0_readClause 31 = .ok (.if_icmp .ne 5, 3) := dk_160 0 5 (dk_at dksX0_readClause_1 9 rfl rfl)
theorem dX0_readClause_34 : decode cX0_readClause 34 = .ok (.iconst 0, 1) := dk_3 (dk_at dksX0_readClause_1 12 rfl rfl)
theorem dX0_readClause_35 : decode cX0_readClause 35 = .ok (.ireturn, 1) := dk_172 (dk_at dksX0_readClause_1 13 rfl rfl)
theorem dX0_readClause_36 : decode cX0_readClause 36 = .ok (.aload_n 0, 1) := dk_42 (dk_at dksX0_readClause_1 14 rfl rfl)
theorem dX0_readClause_37 : decode cX0_readClause 37 = .ok (.dup, 1) := dk_89 (dk_at dksX0_readClause_1 15 rfl rfl)
theorem dX0_readClause_38 : decode cX0_readClause 38 = .ok (.getfield 147, 3) := dk_180 0 147 (dk_at dksX0_readClause_1 16 rfl rfl)
theorem dX0_readClause_41 : decode cX0_readClause 41 = .ok (.iconst 1, 1) := dk_4 (dk_at dksX0_readClause_1 19 rfl rfl)
theorem dX0_readClause_42 : decode cX0_readClause 42 = .ok (.iadd, 1) := dk_96 (dk_at dksX0_readClause_1 20 rfl rfl)
theorem dX0_readClause_43 : decode cX0_readClause 43 = .ok (.putfield 147, 3) := dk_181 0 147 (dk_at dksX0_readClause_1 21 rfl rfl)
theorem dX0_readClause_46 : decode cX0_readClause 46 = .ok (.iconst 3, 1) := dk_6 (dk_at dksX0_readClause_2 0 rfl rfl)
theorem dX0_readClause_47 : decode cX0_readClause 47 = .ok (.aload_n 0, 1) := dk_42 (dk_at dksX0_readClause_2 1 rfl rfl)
theorem dX0_readClause_48 : decode cX0_readClause 48 = .ok (.getfield 144, 3) := dk_180 0 144 (dk_at dksX0_readClause_2 2 rfl rfl)
theorem dX0_readClause_51 : decode cX0_readClause 51 = .ok (.imul, 1) := dk_104 (dk_at dksX0_readClause_2 5 rfl rfl)
theorem dX0_readClause_52 : decode cX0_readClause 52 = .ok (.istore_n 3, 1) := dk_62 (dk_at dksX0_readClause_2 6 rfl rfl)
theorem dX0_readClause_53 : decode cX0_readClause 53 = .ok (.aload_n 0, 1) := dk_42 (dk_at dksX0_readClause_2 7 rfl rfl)
theorem dX0_readClause_54 : decode cX0_readClause 54 = .ok (.getfield 50, 3) := dk_180 0 50 (dk_at dksX0_readClause_2 8 rfl rfl)
theorem dX0_readClause_57 : decode cX0_readClause 57 = .ok (.iload_n 3, 1) := dk_29 (dk_at dksX0_readClause_2 11 rfl rfl)
theorem dX0_readClause_58 : decode cX0_readClause 58 = .ok (.iload_n 2, 1) := dk_28 (dk_at dksX0_readClause_2 12 rfl rfl)
theorem dX0_readClause_59 : decode cX0_readClause 59 = .ok (.iastore, 1) := dk_79 (dk_at dksX0_readClause_2 13 rfl rfl)
theorem dX0_readClause_60 : decode cX0_readClause 60 = .ok (.aload_n 0, 1) := dk_42 (dk_at dksX0_readClause_2 14 rfl rfl)
theorem dX0_readClause_61 : decode cX0_readClause 61 = .ok (.getfield 50, 3) := dk_180 0 50 (dk_at dksX0_readClause_2 15 rfl rfl)
theorem dX0_readClause_64 : decode cX0_readClause 64 = .ok (.iload_n 3, 1) := dk_29 (dk_at dksX0_readClause_2 18 rfl rfl)
theorem dX0_readClause_65 : decode cX0_readClause 65 = .ok (.iconst 2, 1) := dk_5 (dk_at dksX0_readClause_2 19 rfl rfl)
theorem dX0_readClause_66 : decode cX0_readClause 66 = .ok (.iadd, 1) := dk_96 (dk_at dksX0_readClause_2 20 rfl rfl)
theorem dX0_readClause_67 : decode cX0_readClause 67 = .ok (.iconst 0, 1) := dk_3 (dk_at dksX0_readClause_2 21 rfl rfl)
theorem dX0_readClause_68 : decode cX0_readClause 68 = .ok (.iastore, 1) := dk_79 (dk_at dksX0_readClause_2 22 rfl rfl)
theorem dX0_readClause_69 : decode cX0_readClause 69 = .ok (.iconst 1, 1) := dk_4 (dk_at dksX0_readClause_2 23 rfl rfl)
theorem dX0_readClause_70 : decode cX0_readClause 70 = .ok (.istore 4, 2) := dk_54 4 (dk_at dksX0_readClause_3 0 rfl rfl)
theorem dX0_readClause_72 : decode cX0_readClause 72 = .ok (.iload 4, 2) := dk_21 4 (dk_at dksX0_readClause_3 2 rfl rfl)
theorem dX0_readClause_74 : decode cX0_readClause 74 = .ok (.iload_n 2, 1) := dk_28 (dk_at dksX0_readClause_3 4 rfl rfl)
theorem dX0_readClause_75 : decode cX0_readClause 75 = .ok (.invokestatic 157, 3) := dk_184 0 157 (dk_at dksX0_readClause_3 5 rfl rfl)
theorem dX0_readClause_78 : decode cX0_readClause 78 = .ok (.ifCond .eq 7, 3) := dk_153 0 7 (dk_at dksX0_readClause_3 8 rfl rfl)
theorem dX0_readClause_81 : decode cX0_readClause 81 = .ok (.iconst 2, 1) := dk_5 (dk_at dksX0_readClause_3 11 rfl rfl)
theorem dX0_readClause_82 : decode cX0_readClause 82 = .ok (.goto 4, 3) := dk_167 0 4 (dk_at dksX0_readClause_3 12 rfl rfl)
theorem dX0_readClause_85 : decode cX0_readClause 85 = .ok (.iconst 1, 1) := dk_4 (dk_at dksX0_readClause_3 15 rfl rfl)
theorem dX0_readClause_86 : decode cX0_readClause 86 = .ok (.if_icmp .gt 72, 3) := dk_163 0 72 (dk_at dksX0_readClause_3 16 rfl rfl)
theorem dX0_readClause_89 : decode cX0_readClause 89 = .ok (.aload_n 1, 1) := dk_43 (dk_at dksX0_readClause_3 19 rfl rfl)
theorem dX0_readClause_90 : decode cX0_readClause 90 = .ok (.aload_n 0, 1) := dk_42 (dk_at dksX0_readClause_3 20 rfl rfl)
theorem dX0_readClause_91 : decode cX0_readClause 91 = .ok (.getfield 147, 3) := dk_180 0 147 (dk_at dksX0_readClause_3 21 rfl rfl)
theorem dX0_readClause_94 : decode cX0_readClause 94 = .ok (.invokestatic 150, 3) := dk_184 0 150 (dk_at dksX0_readClause_4 0 rfl rfl)
theorem dX0_readClause_97 : decode cX0_readClause 97 = .ok (.bipush 48, 2) := dk_16 48 (dk_at dksX0_readClause_4 3 rfl rfl)
theorem dX0_readClause_99 : decode cX0_readClause 99 = .ok (.isub, 1) := dk_100 (dk_at dksX0_readClause_4 5 rfl rfl)
theorem dX0_readClause_100 : decode cX0_readClause 100 = .ok (.istore 5, 2) := dk_54 5 (dk_at dksX0_readClause_4 6 rfl rfl)
theorem dX0_readClause_102 : decode cX0_readClause 102 = .ok (.iload 5, 2) := dk_21 5 (dk_at dksX0_readClause_4 8 rfl rfl)
theorem dX0_readClause_104 : decode cX0_readClause 104 = .ok (.invokestatic 160, 3) := dk_184 0 160 (dk_at dksX0_readClause_4 10 rfl rfl)
theorem dX0_readClause_107 : decode cX0_readClause 107 = .ok (.ifCond .eq 22, 3) := dk_153 0 22 (dk_at dksX0_readClause_4 13 rfl rfl)
theorem dX0_readClause_110 : decode cX0_readClause 110 = .ok (.iload 4, 2) := dk_21 4 (dk_at dksX0_readClause_4 16 rfl rfl)
theorem dX0_readClause_112 : decode cX0_readClause 112 = .ok (.iconst 2, 1) := dk_5 (dk_at dksX0_readClause_4 18 rfl rfl)
theorem dX0_readClause_113 : decode cX0_readClause 113 = .ok (.if_icmp .ne 18, 3) := dk_160 0 18 (dk_at dksX0_readClause_4 19 rfl rfl)
theorem dX0_readClause_116 : decode cX0_readClause 116 = .ok (.iload 5, 2) := dk_21 5 (dk_at dksX0_readClause_4 22 rfl rfl)
theorem dX0_readClause_118 : decode cX0_readClause 118 = .ok (.aload_n 0, 1) := dk_42 (dk_at dksX0_readClause_5 0 rfl rfl)
theorem dX0_readClause_119 : decode cX0_readClause 119 = .ok (.getfield 50, 3) := dk_180 0 50 (dk_at dksX0_readClause_5 1 rfl rfl)
theorem dX0_readClause_122 : decode cX0_readClause 122 = .ok (.iload_n 3, 1) := dk_29 (dk_at dksX0_readClause_5 4 rfl rfl)
theorem dX0_readClause_123 : decode cX0_readClause 123 = .ok (.iconst 1, 1) := dk_4 (dk_at dksX0_readClause_5 5 rfl rfl)
theorem dX0_readClause_124 : decode cX0_readClause 124 = .ok (.iadd, 1) := dk_96 (dk_at dksX0_readClause_5 6 rfl rfl)
theorem dX0_readClause_125 : decode cX0_readClause 125 = .ok (.iaload, 1) := dk_46 (dk_at dksX0_readClause_5 7 rfl rfl)
theorem dX0_readClause_126 : decode cX0_readClause 126 = .ok (.if_icmp .ne 5, 3) := dk_160 0 5 (dk_at dksX0_readClause_5 8 rfl rfl)
theorem dX0_readClause_129 : decode cX0_readClause 129 = .ok (.iconst 0, 1) := dk_3 (dk_at dksX0_readClause_5 11 rfl rfl)
theorem dX0_readClause_130 : decode cX0_readClause 130 = .ok (.ireturn, 1) := dk_172 (dk_at dksX0_readClause_5 12 rfl rfl)
theorem dX0_readClause_131 : decode cX0_readClause 131 = .ok (.aload_n 0, 1) := dk_42 (dk_at dksX0_readClause_5 13 rfl rfl)
theorem dX0_readClause_132 : decode cX0_readClause 132 = .ok (.getfield 50, 3) := dk_180 0 50 (dk_at dksX0_readClause_5 14 rfl rfl)
theorem dX0_readClause_135 : decode cX0_readClause 135 = .ok (.iload_n 3, 1) := dk_29 (dk_at dksX0_readClause_5 17 rfl rfl)
theorem dX0_readClause_136 : decode cX0_readClause 136 = .ok (.iload 4, 2) := dk_21 4 (dk_at dksX0_readClause_5 18 rfl rfl)
theorem dX0_readClause_138 : decode cX0_readClause 138 = .ok (.iadd, 1) := dk_96 (dk_at dksX0_readClause_5 20 rfl rfl)
theorem dX0_readClause_139 : decode cX0_readClause 139 = .ok (.iload 5, 2) := dk_21 5 (dk_at dksX0_readClause_5 21 rfl rfl)
theorem dX0_readClause_141 : decode cX0_readClause 141 = .ok (.iastore, 1) := dk_79 (dk_at dksX0_readClause_5 23 rfl rfl)
theorem dX0_readClause_142 : decode cX0_readClause 142 = .ok (.aload_n 0, 1) := dk_42 (dk_at dksX0_readClause_6 0 rfl rfl)
theorem dX0_readClause_143 : decode cX0_readClause 143 = .ok (.dup, 1) := dk_89 (dk_at dksX0_readClause_6 1 rfl rfl)
theorem dX0_readClause_144 : decode cX0_readClause 144 = .ok (.getfield 147, 3) := dk_180 0 147 (dk_at dksX0_readClause_6 2 rfl rfl)
theorem dX0_readClause_147 : decode cX0_readClause 147 = .ok (.iconst 1, 1) := dk_4 (dk_at dksX0_readClause_6 5 rfl rfl)
theorem dX0_readClause_148 : decode cX0_readClause 148 = .ok (.iadd, 1) := dk_96 (dk_at dksX0_readClause_6 6 rfl rfl)
theorem dX0_readClause_149 : decode cX0_readClause 149 = .ok (.putfield 147, 3) := dk_181 0 147 (dk_at dksX0_readClause_6 7 rfl rfl)
theorem dX0_readClause_152 : decode cX0_readClause 152 = .ok (.iinc 4 1, 3) := dk_132 4 1 (dk_at dksX0_readClause_6 10 rfl rfl)
theorem dX0_readClause_155 : decode cX0_readClause 155 = .ok (.goto (-83), 3) := dk_167 255 173 (dk_at dksX0_readClause_6 13 rfl rfl)
theorem dX0_readClause_158 : decode cX0_readClause 158 = .ok (.aload_n 0, 1) := dk_42 (dk_at dksX0_readClause_6 16 rfl rfl)
theorem dX0_readClause_159 : decode cX0_readClause 159 = .ok (.dup, 1) := dk_89 (dk_at dksX0_readClause_6 17 rfl rfl)
theorem dX0_readClause_160 : decode cX0_readClause 160 = .ok (.getfield 144, 3) := dk_180 0 144 (dk_at dksX0_readClause_6 18 rfl rfl)
theorem dX0_readClause_163 : decode cX0_readClause 163 = .ok (.iconst 1, 1) := dk_4 (dk_at dksX0_readClause_6 21 rfl rfl)
theorem dX0_readClause_164 : decode cX0_readClause 164 = .ok (.iadd, 1) := dk_96 (dk_at dksX0_readClause_6 22 rfl rfl)
theorem dX0_readClause_165 : decode cX0_readClause 165 = .ok (.putfield 144, 3) := dk_181 0 144 (dk_at dksX0_readClause_7 0 rfl rfl)
theorem dX0_readClause_168 : decode cX0_readClause 168 = .ok (.iconst 1, 1) := dk_4 (dk_at dksX0_readClause_7 3 rfl rfl)
theorem dX0_readClause_169 : decode cX0_readClause 169 = .ok (.ireturn, 1) := dk_172 (dk_at dksX0_readClause_7 4 rfl rfl)
abbrev cX0_kindOf : ByteArray := prog_1_method_31_code
def yX0_kindOf : MethodName := ⟨RX0, "kindOf", "(I)I"⟩
def dkwX0_kindOf_2 : List UInt8 := [3, 172, 4, 172, 5, 172, 6, 172, 7, 172, 8, 172, 16, 247, 172]
abbrev dktX0_kindOf_2 : List UInt8 := dkwX0_kindOf_2 ++ []
def dkwX0_kindOf_1 : List UInt8 := [171, 0, 0, 0, 0, 0, 71, 0, 0, 0, 6, 0, 0, 0, 98, 0, 0, 0, 63, 0, 0, 0, 99, 0, 0, 0, 59, 0, 0, 0, 104, 0, 0, 0, 67, 0, 0, 0, 110, 0, 0, 0, 61, 0, 0, 0, 117, 0, 0, 0, 65, 0, 0, 0, 120, 0, 0, 0, 69]
abbrev dktX0_kindOf_1 : List UInt8 := dkwX0_kindOf_1 ++ dktX0_kindOf_2
def dkwX0_kindOf_0 : List UInt8 := [26]
abbrev dktX0_kindOf_0 : List UInt8 := dkwX0_kindOf_0 ++ dktX0_kindOf_1
theorem dksX0_kindOf_0 : cX0_kindOf.data.toList.drop 0 = dktX0_kindOf_0 := by decide +kernel
theorem dksX0_kindOf_1 : cX0_kindOf.data.toList.drop 1 = dktX0_kindOf_1 := dk_seg dksX0_kindOf_0 1 rfl rfl
theorem dksX0_kindOf_2 : cX0_kindOf.data.toList.drop 60 = dktX0_kindOf_2 := dk_seg dksX0_kindOf_1 59 rfl rfl
theorem dX0_kindOf_0 : decode cX0_kindOf 0 = .ok (.iload_n 0, 1) := dk_26 (dk_at dksX0_kindOf_0 0 rfl rfl)
theorem dX0_kindOf_1 : decode cX0_kindOf 1 = .ok (.lookupswitch 71 #[(98, 63), (99, 59), (104, 67), (110, 61), (117, 65), (120, 69)], 59) := by decide +kernel
theorem dX0_kindOf_60 : decode cX0_kindOf 60 = .ok (.iconst 0, 1) := dk_3 (dk_at dksX0_kindOf_2 0 rfl rfl)
theorem dX0_kindOf_61 : decode cX0_kindOf 61 = .ok (.ireturn, 1) := dk_172 (dk_at dksX0_kindOf_2 1 rfl rfl)
theorem dX0_kindOf_62 : decode cX0_kindOf 62 = .ok (.iconst 1, 1) := dk_4 (dk_at dksX0_kindOf_2 2 rfl rfl)
theorem dX0_kindOf_63 : decode cX0_kindOf 63 = .ok (.ireturn, 1) := dk_172 (dk_at dksX0_kindOf_2 3 rfl rfl)
theorem dX0_kindOf_64 : decode cX0_kindOf 64 = .ok (.iconst 2, 1) := dk_5 (dk_at dksX0_kindOf_2 4 rfl rfl)
theorem dX0_kindOf_65 : decode cX0_kindOf 65 = .ok (.ireturn, 1) := dk_172 (dk_at dksX0_kindOf_2 5 rfl rfl)
theorem dX0_kindOf_66 : decode cX0_kindOf 66 = .ok (.iconst 3, 1) := dk_6 (dk_at dksX0_kindOf_2 6 rfl rfl)
theorem dX0_kindOf_67 : decode cX0_kindOf 67 = .ok (.ireturn, 1) := dk_172 (dk_at dksX0_kindOf_2 7 rfl rfl)
theorem dX0_kindOf_68 : decode cX0_kindOf 68 = .ok (.iconst 4, 1) := dk_7 (dk_at dksX0_kindOf_2 8 rfl rfl)
theorem dX0_kindOf_69 : decode cX0_kindOf 69 = .ok (.ireturn, 1) := dk_172 (dk_at dksX0_kindOf_2 9 rfl rfl)
theorem dX0_kindOf_70 : decode cX0_kindOf 70 = .ok (.iconst 5, 1) := dk_8 (dk_at dksX0_kindOf_2 10 rfl rfl)
theorem dX0_kindOf_71 : decode cX0_kindOf 71 = .ok (.ireturn, 1) := dk_172 (dk_at dksX0_kindOf_2 11 rfl rfl)
theorem dX0_kindOf_72 : decode cX0_kindOf 72 = .ok (.bipush (-9), 2) := dk_16 247 (dk_at dksX0_kindOf_2 12 rfl rfl)
theorem dX0_kindOf_74 : decode cX0_kindOf 74 = .ok (.ireturn, 1) := dk_172 (dk_at dksX0_kindOf_2 14 rfl rfl)
abbrev cX0_isTwo : ByteArray := prog_1_method_32_code
def yX0_isTwo : MethodName := ⟨RX0, "isTwo", "(I)Z"⟩
def dkwX0_isTwo_0 : List UInt8 := [26, 5, 159, 0, 8, 26, 8, 160, 0, 7, 4, 167, 0, 4, 3, 172]
abbrev dktX0_isTwo_0 : List UInt8 := dkwX0_isTwo_0 ++ []
theorem dksX0_isTwo_0 : cX0_isTwo.data.toList.drop 0 = dktX0_isTwo_0 := by decide +kernel
theorem dX0_isTwo_0 : decode cX0_isTwo 0 = .ok (.iload_n 0, 1) := dk_26 (dk_at dksX0_isTwo_0 0 rfl rfl)
theorem dX0_isTwo_1 : decode cX0_isTwo 1 = .ok (.iconst 2, 1) := dk_5 (dk_at dksX0_isTwo_0 1 rfl rfl)
theorem dX0_isTwo_2 : decode cX0_isTwo 2 = .ok (.if_icmp .eq 8, 3) := dk_159 0 8 (dk_at dksX0_isTwo_0 2 rfl rfl)
theorem dX0_isTwo_5 : decode cX0_isTwo 5 = .ok (.iload_n 0, 1) := dk_26 (dk_at dksX0_isTwo_0 5 rfl rfl)
theorem dX0_isTwo_6 : decode cX0_isTwo 6 = .ok (.iconst 5, 1) := dk_8 (dk_at dksX0_isTwo_0 6 rfl rfl)
theorem dX0_isTwo_7 : decode cX0_isTwo 7 = .ok (.if_icmp .ne 7, 3) := dk_160 0 7 (dk_at dksX0_isTwo_0 7 rfl rfl)
theorem dX0_isTwo_10 : decode cX0_isTwo 10 = .ok (.iconst 1, 1) := dk_4 (dk_at dksX0_isTwo_0 10 rfl rfl)
theorem dX0_isTwo_11 : decode cX0_isTwo 11 = .ok (.goto 4, 3) := dk_167 0 4 (dk_at dksX0_isTwo_0 11 rfl rfl)
theorem dX0_isTwo_14 : decode cX0_isTwo 14 = .ok (.iconst 0, 1) := dk_3 (dk_at dksX0_isTwo_0 14 rfl rfl)
theorem dX0_isTwo_15 : decode cX0_isTwo 15 = .ok (.ireturn, 1) := dk_172 (dk_at dksX0_isTwo_0 15 rfl rfl)
abbrev cX0_isTrait : ByteArray := prog_1_method_23_code
def yX0_isTrait : MethodName := ⟨RX0, "isTrait", "(I)Z"⟩
def dkwX0_isTrait_0 : List UInt8 := [26, 3, 6, 184, 0, 66, 172]
abbrev dktX0_isTrait_0 : List UInt8 := dkwX0_isTrait_0 ++ []
theorem dksX0_isTrait_0 : cX0_isTrait.data.toList.drop 0 = dktX0_isTrait_0 := by decide +kernel
theorem dX0_isTrait_0 : decode cX0_isTrait 0 = .ok (.iload_n 0, 1) := dk_26 (dk_at dksX0_isTrait_0 0 rfl rfl)
theorem dX0_isTrait_1 : decode cX0_isTrait 1 = .ok (.iconst 0, 1) := dk_3 (dk_at dksX0_isTrait_0 1 rfl rfl)
theorem dX0_isTrait_2 : decode cX0_isTrait 2 = .ok (.iconst 3, 1) := dk_6 (dk_at dksX0_isTrait_0 2 rfl rfl)
theorem dX0_isTrait_3 : decode cX0_isTrait 3 = .ok (.invokestatic 66, 3) := dk_184 0 66 (dk_at dksX0_isTrait_0 3 rfl rfl)
theorem dX0_isTrait_6 : decode cX0_isTrait 6 = .ok (.ireturn, 1) := dk_172 (dk_at dksX0_isTrait_0 6 rfl rfl)
abbrev cX0_court : ByteArray := prog_1_method_37_code
def yX0_court : MethodName := ⟨RX0, "court", "(I)I"⟩
def dkwX0_court_8 : List UInt8 := [1, 83, 132, 2, 1, 167, 255, 237, 42, 180, 0, 119, 172]
abbrev dktX0_court_8 : List UInt8 := dkwX0_court_8 ++ []
def dkwX0_court_7 : List UInt8 := [167, 255, 230, 42, 3, 181, 0, 176, 3, 61, 28, 42, 180, 0, 56, 190, 162, 0, 16, 42, 180, 0, 56, 28]
abbrev dktX0_court_7 : List UInt8 := dkwX0_court_7 ++ dktX0_court_8
def dkwX0_court_6 : List UInt8 := [162, 0, 27, 42, 180, 0, 44, 4, 28, 96, 4, 79, 42, 180, 0, 44, 8, 28, 96, 7, 79, 132, 2, 1]
abbrev dktX0_court_6 : List UInt8 := dkwX0_court_6 ++ dktX0_court_7
def dkwX0_court_5 : List UInt8 := [5, 96, 46, 182, 0, 172, 83, 132, 2, 1, 167, 255, 207, 42, 180, 0, 44, 3, 3, 79, 3, 61, 28, 7]
abbrev dktX0_court_5 : List UInt8 := dkwX0_court_5 ++ dktX0_court_6
def dkwX0_court_4 : List UInt8 := [180, 0, 50, 6, 28, 104, 46, 42, 180, 0, 50, 6, 28, 104, 4, 96, 46, 42, 180, 0, 50, 6, 28, 104]
abbrev dktX0_court_4 : List UInt8 := dkwX0_court_4 ++ dktX0_court_5
def dkwX0_court_3 : List UInt8 := [180, 0, 35, 190, 184, 0, 88, 3, 61, 28, 42, 180, 0, 122, 162, 0, 47, 42, 180, 0, 40, 28, 42, 42]
abbrev dktX0_court_3 : List UInt8 := dkwX0_court_3 ++ dktX0_court_4
def dkwX0_court_2 : List UInt8 := [181, 0, 119, 42, 42, 180, 0, 144, 181, 0, 122, 42, 180, 0, 47, 3, 42, 180, 0, 35, 3, 42]
abbrev dktX0_court_2 : List UInt8 := dkwX0_court_2 ++ dktX0_court_3
def dkwX0_court_1 : List UInt8 := [42, 42, 180, 0, 31, 27, 50, 182, 0, 168, 16, 247, 159, 0, 6, 16, 252, 172, 42, 42, 180, 0, 141]
abbrev dktX0_court_1 : List UInt8 := dkwX0_court_1 ++ dktX0_court_2
def dkwX0_court_0 : List UInt8 := [27, 184, 0, 96, 154, 0, 5, 2, 172, 42, 180, 0, 31, 27, 50, 199, 0, 9, 42, 4, 182, 0, 76, 172]
abbrev dktX0_court_0 : List UInt8 := dkwX0_court_0 ++ dktX0_court_1
theorem dksX0_court_0 : cX0_court.data.toList.drop 0 = dktX0_court_0 := by decide +kernel
theorem dksX0_court_1 : cX0_court.data.toList.drop 24 = dktX0_court_1 := dk_seg dksX0_court_0 24 rfl rfl
theorem dksX0_court_2 : cX0_court.data.toList.drop 47 = dktX0_court_2 := dk_seg dksX0_court_1 23 rfl rfl
theorem dksX0_court_3 : cX0_court.data.toList.drop 69 = dktX0_court_3 := dk_seg dksX0_court_2 22 rfl rfl
theorem dksX0_court_4 : cX0_court.data.toList.drop 93 = dktX0_court_4 := dk_seg dksX0_court_3 24 rfl rfl
theorem dksX0_court_5 : cX0_court.data.toList.drop 117 = dktX0_court_5 := dk_seg dksX0_court_4 24 rfl rfl
theorem dksX0_court_6 : cX0_court.data.toList.drop 141 = dktX0_court_6 := dk_seg dksX0_court_5 24 rfl rfl
theorem dksX0_court_7 : cX0_court.data.toList.drop 165 = dktX0_court_7 := dk_seg dksX0_court_6 24 rfl rfl
theorem dksX0_court_8 : cX0_court.data.toList.drop 189 = dktX0_court_8 := dk_seg dksX0_court_7 24 rfl rfl
theorem dX0_court_0 : decode cX0_court 0 = .ok (.iload_n 1, 1) := dk_27 (dk_at dksX0_court_0 0 rfl rfl)
theorem dX0_court_1 : decode cX0_court 1 = .ok (.invokestatic 96, 3) := dk_184 0 96 (dk_at dksX0_court_0 1 rfl rfl)
theorem dX0_court_4 : decode cX0_court 4 = .ok (.ifCond .ne 5, 3) := dk_154 0 5 (dk_at dksX0_court_0 4 rfl rfl)
theorem dX0_court_7 : decode cX0_court 7 = .ok (.iconst (-1), 1) := dk_2 (dk_at dksX0_court_0 7 rfl rfl)
theorem dX0_court_8 : decode cX0_court 8 = .ok (.ireturn, 1) := dk_172 (dk_at dksX0_court_0 8 rfl rfl)
theorem dX0_court_9 : decode cX0_court 9 = .ok (.aload_n 0, 1) := dk_42 (dk_at dksX0_court_0 9 rfl rfl)
theorem dX0_court_10 : decode cX0_court 10 = .ok (.getfield 31, 3) := dk_180 0 31 (dk_at dksX0_court_0 10 rfl rfl)
theorem dX0_court_13 : decode cX0_court 13 = .ok (.iload_n 1, 1) := dk_27 (dk_at dksX0_court_0 13 rfl rfl)
theorem dX0_court_14 : decode cX0_court 14 = .ok (.aaload, 1) := dk_50 (dk_at dksX0_court_0 14 rfl rfl)
theorem dX0_court_15 : decode cX0_court 15 = .ok (.ifnonnull 9, 3) := dk_199 0 9 (dk_at dksX0_court_0 15 rfl rfl)
theorem dX0_court_18 : decode cX0_court 18 = .ok (.aload_n 0, 1) := dk_42 (dk_at dksX0_court_0 18 rfl rfl)
theorem dX0_court_19 : decode cX0_court 19 = .ok (.iconst 1, 1) := dk_4 (dk_at dksX0_court_0 19 rfl rfl)
theorem dX0_court_20 : decode cX0_court 20 = .ok (.invokevirtual 76, 3) := dk_182 0 76 (dk_at dksX0_court_0 20 rfl rfl)
theorem dX0_court_23 : decode cX0_court 23 = .ok (.ireturn, 1) := dk_172 (dk_at dksX0_court_0 23 rfl rfl)
theorem dX0_court_24 : decode cX0_court 24 = .ok (.aload_n 0, 1) := dk_42 (dk_at dksX0_court_1 0 rfl rfl)
theorem dX0_court_25 : decode cX0_court 25 = .ok (.aload_n 0, 1) := dk_42 (dk_at dksX0_court_1 1 rfl rfl)
theorem dX0_court_26 : decode cX0_court 26 = .ok (.getfield 31, 3) := dk_180 0 31 (dk_at dksX0_court_1 2 rfl rfl)
theorem dX0_court_29 : decode cX0_court 29 = .ok (.iload_n 1, 1) := dk_27 (dk_at dksX0_court_1 5 rfl rfl)
theorem dX0_court_30 : decode cX0_court 30 = .ok (.aaload, 1) := dk_50 (dk_at dksX0_court_1 6 rfl rfl)
theorem dX0_court_31 : decode cX0_court 31 = .ok (.invokevirtual 168, 3) := dk_182 0 168 (dk_at dksX0_court_1 7 rfl rfl)
theorem dX0_court_34 : decode cX0_court 34 = .ok (.bipush (-9), 2) := dk_16 247 (dk_at dksX0_court_1 10 rfl rfl)
theorem dX0_court_36 : decode cX0_court 36 = .ok (.if_icmp .eq 6, 3) := dk_159 0 6 (dk_at dksX0_court_1 12 rfl rfl)
theorem dX0_court_39 : decode cX0_court 39 = .ok (.bipush (-4), 2) := dk_16 252 (dk_at dksX0_court_1 15 rfl rfl)
theorem dX0_court_41 : decode cX0_court 41 = .ok (.ireturn, 1) := dk_172 (dk_at dksX0_court_1 17 rfl rfl)
theorem dX0_court_42 : decode cX0_court 42 = .ok (.aload_n 0, 1) := dk_42 (dk_at dksX0_court_1 18 rfl rfl)
theorem dX0_court_43 : decode cX0_court 43 = .ok (.aload_n 0, 1) := dk_42 (dk_at dksX0_court_1 19 rfl rfl)
theorem dX0_court_44 : decode cX0_court 44 = .ok (.getfield 141, 3) := dk_180 0 141 (dk_at dksX0_court_1 20 rfl rfl)
theorem dX0_court_47 : decode cX0_court 47 = .ok (.putfield 119, 3) := dk_181 0 119 (dk_at dksX0_court_2 0 rfl rfl)
theorem dX0_court_50 : decode cX0_court 50 = .ok (.aload_n 0, 1) := dk_42 (dk_at dksX0_court_2 3 rfl rfl)
theorem dX0_court_51 : decode cX0_court 51 = .ok (.aload_n 0, 1) := dk_42 (dk_at dksX0_court_2 4 rfl rfl)
theorem dX0_court_52 : decode cX0_court 52 = .ok (.getfield 144, 3) := dk_180 0 144 (dk_at dksX0_court_2 5 rfl rfl)
theorem dX0_court_55 : decode cX0_court 55 = .ok (.putfield 122, 3) := dk_181 0 122 (dk_at dksX0_court_2 8 rfl rfl)
theorem dX0_court_58 : decode cX0_court 58 = .ok (.aload_n 0, 1) := dk_42 (dk_at dksX0_court_2 11 rfl rfl)
theorem dX0_court_59 : decode cX0_court 59 = .ok (.getfield 47, 3) := dk_180 0 47 (dk_at dksX0_court_2 12 rfl rfl)
theorem dX0_court_62 : decode cX0_court 62 = .ok (.iconst 0, 1) := dk_3 (dk_at dksX0_court_2 15 rfl rfl)
theorem dX0_court_63 : decode cX0_court 63 = .ok (.aload_n 0, 1) := dk_42 (dk_at dksX0_court_2 16 rfl rfl)
theorem dX0_court_64 : decode cX0_court 64 = .ok (.getfield 35, 3) := dk_180 0 35 (dk_at dksX0_court_2 17 rfl rfl)
theorem dX0_court_67 : decode cX0_court 67 = .ok (.iconst 0, 1) := dk_3 (dk_at dksX0_court_2 20 rfl rfl)
theorem dX0_court_68 : decode cX0_court 68 = .ok (.aload_n 0, 1) := dk_42 (dk_at dksX0_court_2 21 rfl rfl)
theorem dX0_court_69 : decode cX0_court 69 = .ok (.getfield 35, 3) := dk_180 0 35 (dk_at dksX0_court_3 0 rfl rfl)
theorem dX0_court_72 : decode cX0_court 72 = .ok (.arraylength, 1) := dk_190 (dk_at dksX0_court_3 3 rfl rfl)
theorem dX0_court_73 : decode cX0_court 73 = .ok (.invokestatic 88, 3) := dk_184 0 88 (dk_at dksX0_court_3 4 rfl rfl)
theorem dX0_court_76 : decode cX0_court 76 = .ok (.iconst 0, 1) := dk_3 (dk_at dksX0_court_3 7 rfl rfl)
theorem dX0_court_77 : decode cX0_court 77 = .ok (.istore_n 2, 1) := dk_61 (dk_at dksX0_court_3 8 rfl rfl)
theorem dX0_court_78 : decode cX0_court 78 = .ok (.iload_n 2, 1) := dk_28 (dk_at dksX0_court_3 9 rfl rfl)
theorem dX0_court_79 : decode cX0_court 79 = .ok (.aload_n 0, 1) := dk_42 (dk_at dksX0_court_3 10 rfl rfl)
theorem dX0_court_80 : decode cX0_court 80 = .ok (.getfield 122, 3) := dk_180 0 122 (dk_at dksX0_court_3 11 rfl rfl)
theorem dX0_court_83 : decode cX0_court 83 = .ok (.if_icmp .ge 47, 3) := dk_162 0 47 (dk_at dksX0_court_3 14 rfl rfl)
theorem dX0_court_86 : decode cX0_court 86 = .ok (.aload_n 0, 1) := dk_42 (dk_at dksX0_court_3 17 rfl rfl)
theorem dX0_court_87 : decode cX0_court 87 = .ok (.getfield 40, 3) := dk_180 0 40 (dk_at dksX0_court_3 18 rfl rfl)
theorem dX0_court_90 : decode cX0_court 90 = .ok (.iload_n 2, 1) := dk_28 (dk_at dksX0_court_3 21 rfl rfl)
theorem dX0_court_91 : decode cX0_court 91 = .ok (.aload_n 0, 1) := dk_42 (dk_at dksX0_court_3 22 rfl rfl)
theorem dX0_court_92 : decode cX0_court 92 = .ok (.aload_n 0, 1) := dk_42 (dk_at dksX0_court_3 23 rfl rfl)
theorem dX0_court_93 : decode cX0_court 93 = .ok (.getfield 50, 3) := dk_180 0 50 (dk_at dksX0_court_4 0 rfl rfl)
theorem dX0_court_96 : decode cX0_court 96 = .ok (.iconst 3, 1) := dk_6 (dk_at dksX0_court_4 3 rfl rfl)
theorem dX0_court_97 : decode cX0_court 97 = .ok (.iload_n 2, 1) := dk_28 (dk_at dksX0_court_4 4 rfl rfl)
theorem dX0_court_98 : decode cX0_court 98 = .ok (.imul, 1) := dk_104 (dk_at dksX0_court_4 5 rfl rfl)
theorem dX0_court_99 : decode cX0_court 99 = .ok (.iaload, 1) := dk_46 (dk_at dksX0_court_4 6 rfl rfl)
theorem dX0_court_100 : decode cX0_court 100 = .ok (.aload_n 0, 1) := dk_42 (dk_at dksX0_court_4 7 rfl rfl)
theorem dX0_court_101 : decode cX0_court 101 = .ok (.getfield 50, 3) := dk_180 0 50 (dk_at dksX0_court_4 8 rfl rfl)
theorem dX0_court_104 : decode cX0_court 104 = .ok (.iconst 3, 1) := dk_6 (dk_at dksX0_court_4 11 rfl rfl)
theorem dX0_court_105 : decode cX0_court 105 = .ok (.iload_n 2, 1) := dk_28 (dk_at dksX0_court_4 12 rfl rfl)
theorem dX0_court_106 : decode cX0_court 106 = .ok (.imul, 1) := dk_104 (dk_at dksX0_court_4 13 rfl rfl)
theorem dX0_court_107 : decode cX0_court 107 = .ok (.iconst 1, 1) := dk_4 (dk_at dksX0_court_4 14 rfl rfl)
theorem dX0_court_108 : decode cX0_court 108 = .ok (.iadd, 1) := dk_96 (dk_at dksX0_court_4 15 rfl rfl)
theorem dX0_court_109 : decode cX0_court 109 = .ok (.iaload, 1) := dk_46 (dk_at dksX0_court_4 16 rfl rfl)
theorem dX0_court_110 : decode cX0_court 110 = .ok (.aload_n 0, 1) := dk_42 (dk_at dksX0_court_4 17 rfl rfl)
theorem dX0_court_111 : decode cX0_court 111 = .ok (.getfield 50, 3) := dk_180 0 50 (dk_at dksX0_court_4 18 rfl rfl)
theorem dX0_court_114 : decode cX0_court 114 = .ok (.iconst 3, 1) := dk_6 (dk_at dksX0_court_4 21 rfl rfl)
theorem dX0_court_115 : decode cX0_court 115 = .ok (.iload_n 2, 1) := dk_28 (dk_at dksX0_court_4 22 rfl rfl)
theorem dX0_court_116 : decode cX0_court 116 = .ok (.imul, 1) := dk_104 (dk_at dksX0_court_4 23 rfl rfl)
theorem dX0_court_117 : decode cX0_court 117 = .ok (.iconst 2, 1) := dk_5 (dk_at dksX0_court_5 0 rfl rfl)
theorem dX0_court_118 : decode cX0_court 118 = .ok (.iadd, 1) := dk_96 (dk_at dksX0_court_5 1 rfl rfl)
theorem dX0_court_119 : decode cX0_court 119 = .ok (.iaload, 1) := dk_46 (dk_at dksX0_court_5 2 rfl rfl)
theorem dX0_court_120 : decode cX0_court 120 = .ok (.invokevirtual 172, 3) := dk_182 0 172 (dk_at dksX0_court_5 3 rfl rfl)
theorem dX0_court_123 : decode cX0_court 123 = .ok (.aastore, 1) := dk_83 (dk_at dksX0_court_5 6 rfl rfl)
theorem dX0_court_124 : decode cX0_court 124 = .ok (.iinc 2 1, 3) := dk_132 2 1 (dk_at dksX0_court_5 7 rfl rfl)
theorem dX0_court_127 : decode cX0_court 127 = .ok (.goto (-49), 3) := dk_167 255 207 (dk_at dksX0_court_5 10 rfl rfl)
theorem dX0_court_130 : decode cX0_court 130 = .ok (.aload_n 0, 1) := dk_42 (dk_at dksX0_court_5 13 rfl rfl)
theorem dX0_court_131 : decode cX0_court 131 = .ok (.getfield 44, 3) := dk_180 0 44 (dk_at dksX0_court_5 14 rfl rfl)
theorem dX0_court_134 : decode cX0_court 134 = .ok (.iconst 0, 1) := dk_3 (dk_at dksX0_court_5 17 rfl rfl)
theorem dX0_court_135 : decode cX0_court 135 = .ok (.iconst 0, 1) := dk_3 (dk_at dksX0_court_5 18 rfl rfl)
theorem dX0_court_136 : decode cX0_court 136 = .ok (.iastore, 1) := dk_79 (dk_at dksX0_court_5 19 rfl rfl)
theorem dX0_court_137 : decode cX0_court 137 = .ok (.iconst 0, 1) := dk_3 (dk_at dksX0_court_5 20 rfl rfl)
theorem dX0_court_138 : decode cX0_court 138 = .ok (.istore_n 2, 1) := dk_61 (dk_at dksX0_court_5 21 rfl rfl)
theorem dX0_court_139 : decode cX0_court 139 = .ok (.iload_n 2, 1) := dk_28 (dk_at dksX0_court_5 22 rfl rfl)
theorem dX0_court_140 : decode cX0_court 140 = .ok (.iconst 4, 1) := dk_7 (dk_at dksX0_court_5 23 rfl rfl)
theorem dX0_court_141 : decode cX0_court 141 = .ok (.if_icmp .ge 27, 3) := dk_162 0 27 (dk_at dksX0_court_6 0 rfl rfl)
theorem dX0_court_144 : decode cX0_court 144 = .ok (.aload_n 0, 1) := dk_42 (dk_at dksX0_court_6 3 rfl rfl)
theorem dX0_court_145 : decode cX0_court 145 = .ok (.getfield 44, 3) := dk_180 0 44 (dk_at dksX0_court_6 4 rfl rfl)
theorem dX0_court_148 : decode cX0_court 148 = .ok (.iconst 1, 1) := dk_4 (dk_at dksX0_court_6 7 rfl rfl)
theorem dX0_court_149 : decode cX0_court 149 = .ok (.iload_n 2, 1) := dk_28 (dk_at dksX0_court_6 8 rfl rfl)
theorem dX0_court_150 : decode cX0_court 150 = .ok (.iadd, 1) := dk_96 (dk_at dksX0_court_6 9 rfl rfl)
theorem dX0_court_151 : decode cX0_court 151 = .ok (.iconst 1, 1) := dk_4 (dk_at dksX0_court_6 10 rfl rfl)
theorem dX0_court_152 : decode cX0_court 152 = .ok (.iastore, 1) := dk_79 (dk_at dksX0_court_6 11 rfl rfl)
theorem dX0_court_153 : decode cX0_court 153 = .ok (.aload_n 0, 1) := dk_42 (dk_at dksX0_court_6 12 rfl rfl)
theorem dX0_court_154 : decode cX0_court 154 = .ok (.getfield 44, 3) := dk_180 0 44 (dk_at dksX0_court_6 13 rfl rfl)
theorem dX0_court_157 : decode cX0_court 157 = .ok (.iconst 5, 1) := dk_8 (dk_at dksX0_court_6 16 rfl rfl)
theorem dX0_court_158 : decode cX0_court 158 = .ok (.iload_n 2, 1) := dk_28 (dk_at dksX0_court_6 17 rfl rfl)
theorem dX0_court_159 : decode cX0_court 159 = .ok (.iadd, 1) := dk_96 (dk_at dksX0_court_6 18 rfl rfl)
theorem dX0_court_160 : decode cX0_court 160 = .ok (.iconst 4, 1) := dk_7 (dk_at dksX0_court_6 19 rfl rfl)
theorem dX0_court_161 : decode cX0_court 161 = .ok (.iastore, 1) := dk_79 (dk_at dksX0_court_6 20 rfl rfl)
theorem dX0_court_162 : decode cX0_court 162 = .ok (.iinc 2 1, 3) := dk_132 2 1 (dk_at dksX0_court_6 21 rfl rfl)
theorem dX0_court_165 : decode cX0_court 165 = .ok (.goto (-26), 3) := dk_167 255 230 (dk_at dksX0_court_7 0 rfl rfl)
theorem dX0_court_168 : decode cX0_court 168 = .ok (.aload_n 0, 1) := dk_42 (dk_at dksX0_court_7 3 rfl rfl)
theorem dX0_court_169 : decode cX0_court 169 = .ok (.iconst 0, 1) := dk_3 (dk_at dksX0_court_7 4 rfl rfl)
theorem dX0_court_170 : decode cX0_court 170 = .ok (.putfield 176, 3) := dk_181 0 176 (dk_at dksX0_court_7 5 rfl rfl)
theorem dX0_court_173 : decode cX0_court 173 = .ok (.iconst 0, 1) := dk_3 (dk_at dksX0_court_7 8 rfl rfl)
theorem dX0_court_174 : decode cX0_court 174 = .ok (.istore_n 2, 1) := dk_61 (dk_at dksX0_court_7 9 rfl rfl)
theorem dX0_court_175 : decode cX0_court 175 = .ok (.iload_n 2, 1) := dk_28 (dk_at dksX0_court_7 10 rfl rfl)
theorem dX0_court_176 : decode cX0_court 176 = .ok (.aload_n 0, 1) := dk_42 (dk_at dksX0_court_7 11 rfl rfl)
theorem dX0_court_177 : decode cX0_court 177 = .ok (.getfield 56, 3) := dk_180 0 56 (dk_at dksX0_court_7 12 rfl rfl)
theorem dX0_court_180 : decode cX0_court 180 = .ok (.arraylength, 1) := dk_190 (dk_at dksX0_court_7 15 rfl rfl)
theorem dX0_court_181 : decode cX0_court 181 = .ok (.if_icmp .ge 16, 3) := dk_162 0 16 (dk_at dksX0_court_7 16 rfl rfl)
theorem dX0_court_184 : decode cX0_court 184 = .ok (.aload_n 0, 1) := dk_42 (dk_at dksX0_court_7 19 rfl rfl)
theorem dX0_court_185 : decode cX0_court 185 = .ok (.getfield 56, 3) := dk_180 0 56 (dk_at dksX0_court_7 20 rfl rfl)
theorem dX0_court_188 : decode cX0_court 188 = .ok (.iload_n 2, 1) := dk_28 (dk_at dksX0_court_7 23 rfl rfl)
theorem dX0_court_189 : decode cX0_court 189 = .ok (.aconst_null, 1) := dk_1 (dk_at dksX0_court_8 0 rfl rfl)
theorem dX0_court_190 : decode cX0_court 190 = .ok (.aastore, 1) := dk_83 (dk_at dksX0_court_8 1 rfl rfl)
theorem dX0_court_191 : decode cX0_court 191 = .ok (.iinc 2 1, 3) := dk_132 2 1 (dk_at dksX0_court_8 2 rfl rfl)
theorem dX0_court_194 : decode cX0_court 194 = .ok (.goto (-19), 3) := dk_167 255 237 (dk_at dksX0_court_8 5 rfl rfl)
theorem dX0_court_197 : decode cX0_court 197 = .ok (.aload_n 0, 1) := dk_42 (dk_at dksX0_court_8 8 rfl rfl)
theorem dX0_court_198 : decode cX0_court 198 = .ok (.getfield 119, 3) := dk_180 0 119 (dk_at dksX0_court_8 9 rfl rfl)
theorem dX0_court_201 : decode cX0_court 201 = .ok (.ireturn, 1) := dk_172 (dk_at dksX0_court_8 12 rfl rfl)
abbrev cX0_make : ByteArray := prog_1_method_20_code
def yX0_make : MethodName := ⟨RX0, "make", "(III)LNeitherBare$Clause;"⟩
def dkwX0_make_4 : List UInt8 := [183, 0, 115, 176, 187, 0, 116, 89, 42, 28, 29, 183, 0, 118, 176]
abbrev dktX0_make_4 : List UInt8 := dkwX0_make_4 ++ []
def dkwX0_make_3 : List UInt8 := [42, 28, 29, 183, 0, 107, 176, 187, 0, 110, 89, 42, 28, 183, 0, 112, 176, 187, 0, 113, 89, 42, 28]
abbrev dktX0_make_3 : List UInt8 := dkwX0_make_3 ++ dktX0_make_4
def dkwX0_make_2 : List UInt8 := [187, 0, 38, 89, 42, 28, 183, 0, 99, 176, 187, 0, 102, 89, 42, 28, 183, 0, 104, 176, 187, 0, 105, 89]
abbrev dktX0_make_2 : List UInt8 := dkwX0_make_2 ++ dktX0_make_3
def dkwX0_make_1 : List UInt8 := [170, 0, 0, 0, 0, 0, 86, 0, 0, 0, 0, 0, 0, 0, 4, 0, 0, 0, 35, 0, 0, 0, 45, 0, 0, 0, 55, 0, 0, 0, 66, 0, 0, 0, 76]
abbrev dktX0_make_1 : List UInt8 := dkwX0_make_1 ++ dktX0_make_2
def dkwX0_make_0 : List UInt8 := [27]
abbrev dktX0_make_0 : List UInt8 := dkwX0_make_0 ++ dktX0_make_1
theorem dksX0_make_0 : cX0_make.data.toList.drop 0 = dktX0_make_0 := by decide +kernel
theorem dksX0_make_1 : cX0_make.data.toList.drop 1 = dktX0_make_1 := dk_seg dksX0_make_0 1 rfl rfl
theorem dksX0_make_2 : cX0_make.data.toList.drop 36 = dktX0_make_2 := dk_seg dksX0_make_1 35 rfl rfl
theorem dksX0_make_3 : cX0_make.data.toList.drop 60 = dktX0_make_3 := dk_seg dksX0_make_2 24 rfl rfl
theorem dksX0_make_4 : cX0_make.data.toList.drop 83 = dktX0_make_4 := dk_seg dksX0_make_3 23 rfl rfl
theorem dX0_make_0 : decode cX0_make 0 = .ok (.iload_n 1, 1) := dk_27 (dk_at dksX0_make_0 0 rfl rfl)
theorem dX0_make_1 : decode cX0_make 1 = .ok (.tableswitch 86 0 4 #[35, 45, 55, 66, 76], 35) := by decide +kernel
theorem dX0_make_36 : decode cX0_make 36 = .ok (.new 38, 3) := dk_187 0 38 (dk_at dksX0_make_2 0 rfl rfl)
theorem dX0_make_39 : decode cX0_make 39 = .ok (.dup, 1) := dk_89 (dk_at dksX0_make_2 3 rfl rfl)
theorem dX0_make_40 : decode cX0_make 40 = .ok (.aload_n 0, 1) := dk_42 (dk_at dksX0_make_2 4 rfl rfl)
theorem dX0_make_41 : decode cX0_make 41 = .ok (.iload_n 2, 1) := dk_28 (dk_at dksX0_make_2 5 rfl rfl)
theorem dX0_make_42 : decode cX0_make 42 = .ok (.invokespecial 99, 3) := dk_183 0 99 (dk_at dksX0_make_2 6 rfl rfl)
theorem dX0_make_45 : decode cX0_make 45 = .ok (.areturn, 1) := dk_176 (dk_at dksX0_make_2 9 rfl rfl)
theorem dX0_make_46 : decode cX0_make 46 = .ok (.new 102, 3) := dk_187 0 102 (dk_at dksX0_make_2 10 rfl rfl)
theorem dX0_make_49 : decode cX0_make 49 = .ok (.dup, 1) := dk_89 (dk_at dksX0_make_2 13 rfl rfl)
theorem dX0_make_50 : decode cX0_make 50 = .ok (.aload_n 0, 1) := dk_42 (dk_at dksX0_make_2 14 rfl rfl)
theorem dX0_make_51 : decode cX0_make 51 = .ok (.iload_n 2, 1) := dk_28 (dk_at dksX0_make_2 15 rfl rfl)
theorem dX0_make_52 : decode cX0_make 52 = .ok (.invokespecial 104, 3) := dk_183 0 104 (dk_at dksX0_make_2 16 rfl rfl)
theorem dX0_make_55 : decode cX0_make 55 = .ok (.areturn, 1) := dk_176 (dk_at dksX0_make_2 19 rfl rfl)
theorem dX0_make_56 : decode cX0_make 56 = .ok (.new 105, 3) := dk_187 0 105 (dk_at dksX0_make_2 20 rfl rfl)
theorem dX0_make_59 : decode cX0_make 59 = .ok (.dup, 1) := dk_89 (dk_at dksX0_make_2 23 rfl rfl)
theorem dX0_make_60 : decode cX0_make 60 = .ok (.aload_n 0, 1) := dk_42 (dk_at dksX0_make_3 0 rfl rfl)
theorem dX0_make_61 : decode cX0_make 61 = .ok (.iload_n 2, 1) := dk_28 (dk_at dksX0_make_3 1 rfl rfl)
theorem dX0_make_62 : decode cX0_make 62 = .ok (.iload_n 3, 1) := dk_29 (dk_at dksX0_make_3 2 rfl rfl)
theorem dX0_make_63 : decode cX0_make 63 = .ok (.invokespecial 107, 3) := dk_183 0 107 (dk_at dksX0_make_3 3 rfl rfl)
theorem dX0_make_66 : decode cX0_make 66 = .ok (.areturn, 1) := dk_176 (dk_at dksX0_make_3 6 rfl rfl)
theorem dX0_make_67 : decode cX0_make 67 = .ok (.new 110, 3) := dk_187 0 110 (dk_at dksX0_make_3 7 rfl rfl)
theorem dX0_make_70 : decode cX0_make 70 = .ok (.dup, 1) := dk_89 (dk_at dksX0_make_3 10 rfl rfl)
theorem dX0_make_71 : decode cX0_make 71 = .ok (.aload_n 0, 1) := dk_42 (dk_at dksX0_make_3 11 rfl rfl)
theorem dX0_make_72 : decode cX0_make 72 = .ok (.iload_n 2, 1) := dk_28 (dk_at dksX0_make_3 12 rfl rfl)
theorem dX0_make_73 : decode cX0_make 73 = .ok (.invokespecial 112, 3) := dk_183 0 112 (dk_at dksX0_make_3 13 rfl rfl)
theorem dX0_make_76 : decode cX0_make 76 = .ok (.areturn, 1) := dk_176 (dk_at dksX0_make_3 16 rfl rfl)
theorem dX0_make_77 : decode cX0_make 77 = .ok (.new 113, 3) := dk_187 0 113 (dk_at dksX0_make_3 17 rfl rfl)
theorem dX0_make_80 : decode cX0_make 80 = .ok (.dup, 1) := dk_89 (dk_at dksX0_make_3 20 rfl rfl)
theorem dX0_make_81 : decode cX0_make 81 = .ok (.aload_n 0, 1) := dk_42 (dk_at dksX0_make_3 21 rfl rfl)
theorem dX0_make_82 : decode cX0_make 82 = .ok (.iload_n 2, 1) := dk_28 (dk_at dksX0_make_3 22 rfl rfl)
theorem dX0_make_83 : decode cX0_make 83 = .ok (.invokespecial 115, 3) := dk_183 0 115 (dk_at dksX0_make_4 0 rfl rfl)
theorem dX0_make_86 : decode cX0_make 86 = .ok (.areturn, 1) := dk_176 (dk_at dksX0_make_4 3 rfl rfl)
theorem dX0_make_87 : decode cX0_make 87 = .ok (.new 116, 3) := dk_187 0 116 (dk_at dksX0_make_4 4 rfl rfl)
theorem dX0_make_90 : decode cX0_make 90 = .ok (.dup, 1) := dk_89 (dk_at dksX0_make_4 7 rfl rfl)
theorem dX0_make_91 : decode cX0_make 91 = .ok (.aload_n 0, 1) := dk_42 (dk_at dksX0_make_4 8 rfl rfl)
theorem dX0_make_92 : decode cX0_make 92 = .ok (.iload_n 2, 1) := dk_28 (dk_at dksX0_make_4 9 rfl rfl)
theorem dX0_make_93 : decode cX0_make 93 = .ok (.iload_n 3, 1) := dk_29 (dk_at dksX0_make_4 10 rfl rfl)
theorem dX0_make_94 : decode cX0_make 94 = .ok (.invokespecial 118, 3) := dk_183 0 118 (dk_at dksX0_make_4 11 rfl rfl)
theorem dX0_make_97 : decode cX0_make 97 = .ok (.areturn, 1) := dk_176 (dk_at dksX0_make_4 14 rfl rfl)
abbrev cX0_thing : ByteArray := prog_1_method_38_code
def yX0_thing : MethodName := ⟨RX0, "thing", "(II)I"⟩
def dkwX0_thing_1 : List UInt8 := [104, 28, 96, 46, 4, 182, 0, 80, 167, 0, 4, 2, 172]
abbrev dktX0_thing_1 : List UInt8 := dkwX0_thing_1 ++ []
def dkwX0_thing_0 : List UInt8 := [42, 27, 182, 0, 179, 153, 0, 30, 28, 3, 7, 184, 0, 66, 153, 0, 21, 42, 42, 180, 0, 35, 8, 27]
abbrev dktX0_thing_0 : List UInt8 := dkwX0_thing_0 ++ dktX0_thing_1
theorem dksX0_thing_0 : cX0_thing.data.toList.drop 0 = dktX0_thing_0 := by decide +kernel
theorem dksX0_thing_1 : cX0_thing.data.toList.drop 24 = dktX0_thing_1 := dk_seg dksX0_thing_0 24 rfl rfl
theorem dX0_thing_0 : decode cX0_thing 0 = .ok (.aload_n 0, 1) := dk_42 (dk_at dksX0_thing_0 0 rfl rfl)
theorem dX0_thing_1 : decode cX0_thing 1 = .ok (.iload_n 1, 1) := dk_27 (dk_at dksX0_thing_0 1 rfl rfl)
theorem dX0_thing_2 : decode cX0_thing 2 = .ok (.invokevirtual 179, 3) := dk_182 0 179 (dk_at dksX0_thing_0 2 rfl rfl)
theorem dX0_thing_5 : decode cX0_thing 5 = .ok (.ifCond .eq 30, 3) := dk_153 0 30 (dk_at dksX0_thing_0 5 rfl rfl)
theorem dX0_thing_8 : decode cX0_thing 8 = .ok (.iload_n 2, 1) := dk_28 (dk_at dksX0_thing_0 8 rfl rfl)
theorem dX0_thing_9 : decode cX0_thing 9 = .ok (.iconst 0, 1) := dk_3 (dk_at dksX0_thing_0 9 rfl rfl)
theorem dX0_thing_10 : decode cX0_thing 10 = .ok (.iconst 4, 1) := dk_7 (dk_at dksX0_thing_0 10 rfl rfl)
theorem dX0_thing_11 : decode cX0_thing 11 = .ok (.invokestatic 66, 3) := dk_184 0 66 (dk_at dksX0_thing_0 11 rfl rfl)
theorem dX0_thing_14 : decode cX0_thing 14 = .ok (.ifCond .eq 21, 3) := dk_153 0 21 (dk_at dksX0_thing_0 14 rfl rfl)
theorem dX0_thing_17 : decode cX0_thing 17 = .ok (.aload_n 0, 1) := dk_42 (dk_at dksX0_thing_0 17 rfl rfl)
theorem dX0_thing_18 : decode cX0_thing 18 = .ok (.aload_n 0, 1) := dk_42 (dk_at dksX0_thing_0 18 rfl rfl)
theorem dX0_thing_19 : decode cX0_thing 19 = .ok (.getfield 35, 3) := dk_180 0 35 (dk_at dksX0_thing_0 19 rfl rfl)
theorem dX0_thing_22 : decode cX0_thing 22 = .ok (.iconst 5, 1) := dk_8 (dk_at dksX0_thing_0 22 rfl rfl)
theorem dX0_thing_23 : decode cX0_thing 23 = .ok (.iload_n 1, 1) := dk_27 (dk_at dksX0_thing_0 23 rfl rfl)
theorem dX0_thing_24 : decode cX0_thing 24 = .ok (.imul, 1) := dk_104 (dk_at dksX0_thing_1 0 rfl rfl)
theorem dX0_thing_25 : decode cX0_thing 25 = .ok (.iload_n 2, 1) := dk_28 (dk_at dksX0_thing_1 1 rfl rfl)
theorem dX0_thing_26 : decode cX0_thing 26 = .ok (.iadd, 1) := dk_96 (dk_at dksX0_thing_1 2 rfl rfl)
theorem dX0_thing_27 : decode cX0_thing 27 = .ok (.iaload, 1) := dk_46 (dk_at dksX0_thing_1 3 rfl rfl)
theorem dX0_thing_28 : decode cX0_thing 28 = .ok (.iconst 1, 1) := dk_4 (dk_at dksX0_thing_1 4 rfl rfl)
theorem dX0_thing_29 : decode cX0_thing 29 = .ok (.invokevirtual 80, 3) := dk_182 0 80 (dk_at dksX0_thing_1 5 rfl rfl)
theorem dX0_thing_32 : decode cX0_thing 32 = .ok (.goto 4, 3) := dk_167 0 4 (dk_at dksX0_thing_1 8 rfl rfl)
theorem dX0_thing_35 : decode cX0_thing 35 = .ok (.iconst (-1), 1) := dk_2 (dk_at dksX0_thing_1 11 rfl rfl)
theorem dX0_thing_36 : decode cX0_thing 36 = .ok (.ireturn, 1) := dk_172 (dk_at dksX0_thing_1 12 rfl rfl)
abbrev cX0_isThing : ByteArray := prog_1_method_21_code
def yX0_isThing : MethodName := ⟨RX0, "isThing", "(I)Z"⟩
def dkwX0_isThing_0 : List UInt8 := [27, 3, 42, 180, 0, 119, 4, 100, 184, 0, 66, 172]
abbrev dktX0_isThing_0 : List UInt8 := dkwX0_isThing_0 ++ []
theorem dksX0_isThing_0 : cX0_isThing.data.toList.drop 0 = dktX0_isThing_0 := by decide +kernel
theorem dX0_isThing_0 : decode cX0_isThing 0 = .ok (.iload_n 1, 1) := dk_27 (dk_at dksX0_isThing_0 0 rfl rfl)
theorem dX0_isThing_1 : decode cX0_isThing 1 = .ok (.iconst 0, 1) := dk_3 (dk_at dksX0_isThing_0 1 rfl rfl)
theorem dX0_isThing_2 : decode cX0_isThing 2 = .ok (.aload_n 0, 1) := dk_42 (dk_at dksX0_isThing_0 2 rfl rfl)
theorem dX0_isThing_3 : decode cX0_isThing 3 = .ok (.getfield 119, 3) := dk_180 0 119 (dk_at dksX0_isThing_0 3 rfl rfl)
theorem dX0_isThing_6 : decode cX0_isThing 6 = .ok (.iconst 1, 1) := dk_4 (dk_at dksX0_isThing_0 6 rfl rfl)
theorem dX0_isThing_7 : decode cX0_isThing 7 = .ok (.isub, 1) := dk_100 (dk_at dksX0_isThing_0 7 rfl rfl)
theorem dX0_isThing_8 : decode cX0_isThing 8 = .ok (.invokestatic 66, 3) := dk_184 0 66 (dk_at dksX0_isThing_0 8 rfl rfl)
theorem dX0_isThing_11 : decode cX0_isThing 11 = .ok (.ireturn, 1) := dk_172 (dk_at dksX0_isThing_0 11 rfl rfl)
abbrev cX0_clause : ByteArray := prog_1_method_42_code
def yX0_clause : MethodName := ⟨RX0, "clause", "(II)I"⟩
def dkwX0_clause_1 : List UInt8 := [4, 182, 0, 80, 167, 0, 4, 2, 172]
abbrev dktX0_clause_1 : List UInt8 := dkwX0_clause_1 ++ []
def dkwX0_clause_0 : List UInt8 := [42, 27, 182, 0, 209, 153, 0, 26, 28, 3, 7, 184, 0, 66, 153, 0, 17, 42, 42, 27, 28, 182, 0, 212]
abbrev dktX0_clause_0 : List UInt8 := dkwX0_clause_0 ++ dktX0_clause_1
theorem dksX0_clause_0 : cX0_clause.data.toList.drop 0 = dktX0_clause_0 := by decide +kernel
theorem dksX0_clause_1 : cX0_clause.data.toList.drop 24 = dktX0_clause_1 := dk_seg dksX0_clause_0 24 rfl rfl
theorem dX0_clause_0 : decode cX0_clause 0 = .ok (.aload_n 0, 1) := dk_42 (dk_at dksX0_clause_0 0 rfl rfl)
theorem dX0_clause_1 : decode cX0_clause 1 = .ok (.iload_n 1, 1) := dk_27 (dk_at dksX0_clause_0 1 rfl rfl)
theorem dX0_clause_2 : decode cX0_clause 2 = .ok (.invokevirtual 209, 3) := dk_182 0 209 (dk_at dksX0_clause_0 2 rfl rfl)
theorem dX0_clause_5 : decode cX0_clause 5 = .ok (.ifCond .eq 26, 3) := dk_153 0 26 (dk_at dksX0_clause_0 5 rfl rfl)
theorem dX0_clause_8 : decode cX0_clause 8 = .ok (.iload_n 2, 1) := dk_28 (dk_at dksX0_clause_0 8 rfl rfl)
theorem dX0_clause_9 : decode cX0_clause 9 = .ok (.iconst 0, 1) := dk_3 (dk_at dksX0_clause_0 9 rfl rfl)
theorem dX0_clause_10 : decode cX0_clause 10 = .ok (.iconst 4, 1) := dk_7 (dk_at dksX0_clause_0 10 rfl rfl)
theorem dX0_clause_11 : decode cX0_clause 11 = .ok (.invokestatic 66, 3) := dk_184 0 66 (dk_at dksX0_clause_0 11 rfl rfl)
theorem dX0_clause_14 : decode cX0_clause 14 = .ok (.ifCond .eq 17, 3) := dk_153 0 17 (dk_at dksX0_clause_0 14 rfl rfl)
theorem dX0_clause_17 : decode cX0_clause 17 = .ok (.aload_n 0, 1) := dk_42 (dk_at dksX0_clause_0 17 rfl rfl)
theorem dX0_clause_18 : decode cX0_clause 18 = .ok (.aload_n 0, 1) := dk_42 (dk_at dksX0_clause_0 18 rfl rfl)
theorem dX0_clause_19 : decode cX0_clause 19 = .ok (.iload_n 1, 1) := dk_27 (dk_at dksX0_clause_0 19 rfl rfl)
theorem dX0_clause_20 : decode cX0_clause 20 = .ok (.iload_n 2, 1) := dk_28 (dk_at dksX0_clause_0 20 rfl rfl)
theorem dX0_clause_21 : decode cX0_clause 21 = .ok (.invokevirtual 212, 3) := dk_182 0 212 (dk_at dksX0_clause_0 21 rfl rfl)
theorem dX0_clause_24 : decode cX0_clause 24 = .ok (.iconst 1, 1) := dk_4 (dk_at dksX0_clause_1 0 rfl rfl)
theorem dX0_clause_25 : decode cX0_clause 25 = .ok (.invokevirtual 80, 3) := dk_182 0 80 (dk_at dksX0_clause_1 1 rfl rfl)
theorem dX0_clause_28 : decode cX0_clause 28 = .ok (.goto 4, 3) := dk_167 0 4 (dk_at dksX0_clause_1 4 rfl rfl)
theorem dX0_clause_31 : decode cX0_clause 31 = .ok (.iconst (-1), 1) := dk_2 (dk_at dksX0_clause_1 7 rfl rfl)
theorem dX0_clause_32 : decode cX0_clause 32 = .ok (.ireturn, 1) := dk_172 (dk_at dksX0_clause_1 8 rfl rfl)
abbrev cX0_isClause : ByteArray := prog_1_method_22_code
def yX0_isClause : MethodName := ⟨RX0, "isClause", "(I)Z"⟩
def dkwX0_isClause_0 : List UInt8 := [27, 3, 42, 180, 0, 122, 4, 100, 184, 0, 66, 172]
abbrev dktX0_isClause_0 : List UInt8 := dkwX0_isClause_0 ++ []
theorem dksX0_isClause_0 : cX0_isClause.data.toList.drop 0 = dktX0_isClause_0 := by decide +kernel
theorem dX0_isClause_0 : decode cX0_isClause 0 = .ok (.iload_n 1, 1) := dk_27 (dk_at dksX0_isClause_0 0 rfl rfl)
theorem dX0_isClause_1 : decode cX0_isClause 1 = .ok (.iconst 0, 1) := dk_3 (dk_at dksX0_isClause_0 1 rfl rfl)
theorem dX0_isClause_2 : decode cX0_isClause 2 = .ok (.aload_n 0, 1) := dk_42 (dk_at dksX0_isClause_0 2 rfl rfl)
theorem dX0_isClause_3 : decode cX0_isClause 3 = .ok (.getfield 122, 3) := dk_180 0 122 (dk_at dksX0_isClause_0 3 rfl rfl)
theorem dX0_isClause_6 : decode cX0_isClause 6 = .ok (.iconst 1, 1) := dk_4 (dk_at dksX0_isClause_0 6 rfl rfl)
theorem dX0_isClause_7 : decode cX0_isClause 7 = .ok (.isub, 1) := dk_100 (dk_at dksX0_isClause_0 7 rfl rfl)
theorem dX0_isClause_8 : decode cX0_isClause 8 = .ok (.invokestatic 66, 3) := dk_184 0 66 (dk_at dksX0_isClause_0 8 rfl rfl)
theorem dX0_isClause_11 : decode cX0_isClause 11 = .ok (.ireturn, 1) := dk_172 (dk_at dksX0_isClause_0 11 rfl rfl)
abbrev cX0_clauseTells : ByteArray := prog_1_method_41_code
def yX0_clauseTells : MethodName := ⟨RX0, "clauseTells", "(II)I"⟩
def dkwX0_clauseTells_4 : List UInt8 := [180, 0, 40, 27, 50, 182, 0, 199, 184, 0, 203, 172]
abbrev dktX0_clauseTells_4 : List UInt8 := dkwX0_clauseTells_4 ++ []
def dkwX0_clauseTells_3 : List UInt8 := [185, 0, 193, 1, 0, 172, 42, 27, 182, 0, 196, 153, 0, 7, 4, 167, 0, 4, 3, 172, 42, 42]
abbrev dktX0_clauseTells_3 : List UInt8 := dkwX0_clauseTells_3 ++ dktX0_clauseTells_4
def dkwX0_clauseTells_2 : List UInt8 := [42, 180, 0, 40, 27, 50, 182, 0, 187, 172, 42, 180, 0, 40, 27, 50, 180, 0, 190, 172, 45]
abbrev dktX0_clauseTells_2 : List UInt8 := dkwX0_clauseTells_2 ++ dktX0_clauseTells_3
def dkwX0_clauseTells_1 : List UInt8 := [170, 0, 0, 0, 0, 0, 0, 73, 0, 0, 0, 0, 0, 0, 0, 3, 0, 0, 0, 32, 0, 0, 0, 42, 0, 0, 0, 52, 0, 0, 0, 59]
abbrev dktX0_clauseTells_1 : List UInt8 := dkwX0_clauseTells_1 ++ dktX0_clauseTells_2
def dkwX0_clauseTells_0 : List UInt8 := [42, 180, 0, 40, 27, 50, 78, 28]
abbrev dktX0_clauseTells_0 : List UInt8 := dkwX0_clauseTells_0 ++ dktX0_clauseTells_1
theorem dksX0_clauseTells_0 : cX0_clauseTells.data.toList.drop 0 = dktX0_clauseTells_0 := by decide +kernel
theorem dksX0_clauseTells_1 : cX0_clauseTells.data.toList.drop 8 = dktX0_clauseTells_1 := dk_seg dksX0_clauseTells_0 8 rfl rfl
theorem dksX0_clauseTells_2 : cX0_clauseTells.data.toList.drop 40 = dktX0_clauseTells_2 := dk_seg dksX0_clauseTells_1 32 rfl rfl
theorem dksX0_clauseTells_3 : cX0_clauseTells.data.toList.drop 61 = dktX0_clauseTells_3 := dk_seg dksX0_clauseTells_2 21 rfl rfl
theorem dksX0_clauseTells_4 : cX0_clauseTells.data.toList.drop 83 = dktX0_clauseTells_4 := dk_seg dksX0_clauseTells_3 22 rfl rfl
theorem dX0_clauseTells_0 : decode cX0_clauseTells 0 = .ok (.aload_n 0, 1) := dk_42 (dk_at dksX0_clauseTells_0 0 rfl rfl)
theorem dX0_clauseTells_1 : decode cX0_clauseTells 1 = .ok (.getfield 40, 3) := dk_180 0 40 (dk_at dksX0_clauseTells_0 1 rfl rfl)
theorem dX0_clauseTells_4 : decode cX0_clauseTells 4 = .ok (.iload_n 1, 1) := dk_27 (dk_at dksX0_clauseTells_0 4 rfl rfl)
theorem dX0_clauseTells_5 : decode cX0_clauseTells 5 = .ok (.aaload, 1) := dk_50 (dk_at dksX0_clauseTells_0 5 rfl rfl)
theorem dX0_clauseTells_6 : decode cX0_clauseTells 6 = .ok (.astore_n 3, 1) := dk_78 (dk_at dksX0_clauseTells_0 6 rfl rfl)
theorem dX0_clauseTells_7 : decode cX0_clauseTells 7 = .ok (.iload_n 2, 1) := dk_28 (dk_at dksX0_clauseTells_0 7 rfl rfl)
theorem dX0_clauseTells_8 : decode cX0_clauseTells 8 = .ok (.tableswitch 73 0 3 #[32, 42, 52, 59], 32) := by decide +kernel
theorem dX0_clauseTells_40 : decode cX0_clauseTells 40 = .ok (.aload_n 0, 1) := dk_42 (dk_at dksX0_clauseTells_2 0 rfl rfl)
theorem dX0_clauseTells_41 : decode cX0_clauseTells 41 = .ok (.getfield 40, 3) := dk_180 0 40 (dk_at dksX0_clauseTells_2 1 rfl rfl)
theorem dX0_clauseTells_44 : decode cX0_clauseTells 44 = .ok (.iload_n 1, 1) := dk_27 (dk_at dksX0_clauseTells_2 4 rfl rfl)
theorem dX0_clauseTells_45 : decode cX0_clauseTells 45 = .ok (.aaload, 1) := dk_50 (dk_at dksX0_clauseTells_2 5 rfl rfl)
theorem dX0_clauseTells_46 : decode cX0_clauseTells 46 = .ok (.invokevirtual 187, 3) := dk_182 0 187 (dk_at dksX0_clauseTells_2 6 rfl rfl)
theorem dX0_clauseTells_49 : decode cX0_clauseTells 49 = .ok (.ireturn, 1) := dk_172 (dk_at dksX0_clauseTells_2 9 rfl rfl)
theorem dX0_clauseTells_50 : decode cX0_clauseTells 50 = .ok (.aload_n 0, 1) := dk_42 (dk_at dksX0_clauseTells_2 10 rfl rfl)
theorem dX0_clauseTells_51 : decode cX0_clauseTells 51 = .ok (.getfield 40, 3) := dk_180 0 40 (dk_at dksX0_clauseTells_2 11 rfl rfl)
theorem dX0_clauseTells_54 : decode cX0_clauseTells 54 = .ok (.iload_n 1, 1) := dk_27 (dk_at dksX0_clauseTells_2 14 rfl rfl)
theorem dX0_clauseTells_55 : decode cX0_clauseTells 55 = .ok (.aaload, 1) := dk_50 (dk_at dksX0_clauseTells_2 15 rfl rfl)
theorem dX0_clauseTells_56 : decode cX0_clauseTells 56 = .ok (.getfield 190, 3) := dk_180 0 190 (dk_at dksX0_clauseTells_2 16 rfl rfl)
theorem dX0_clauseTells_59 : decode cX0_clauseTells 59 = .ok (.ireturn, 1) := dk_172 (dk_at dksX0_clauseTells_2 19 rfl rfl)
theorem dX0_clauseTells_60 : decode cX0_clauseTells 60 = .ok (.aload_n 3, 1) := dk_45 (dk_at dksX0_clauseTells_2 20 rfl rfl)
theorem dX0_clauseTells_61 : decode cX0_clauseTells 61 = .ok (.invokeinterface 193 1, 5) := by decide +kernel
theorem dX0_clauseTells_66 : decode cX0_clauseTells 66 = .ok (.ireturn, 1) := dk_172 (dk_at dksX0_clauseTells_3 5 rfl rfl)
theorem dX0_clauseTells_67 : decode cX0_clauseTells 67 = .ok (.aload_n 0, 1) := dk_42 (dk_at dksX0_clauseTells_3 6 rfl rfl)
theorem dX0_clauseTells_68 : decode cX0_clauseTells 68 = .ok (.iload_n 1, 1) := dk_27 (dk_at dksX0_clauseTells_3 7 rfl rfl)
theorem dX0_clauseTells_69 : decode cX0_clauseTells 69 = .ok (.invokevirtual 196, 3) := dk_182 0 196 (dk_at dksX0_clauseTells_3 8 rfl rfl)
theorem dX0_clauseTells_72 : decode cX0_clauseTells 72 = .ok (.ifCond .eq 7, 3) := dk_153 0 7 (dk_at dksX0_clauseTells_3 11 rfl rfl)
theorem dX0_clauseTells_75 : decode cX0_clauseTells 75 = .ok (.iconst 1, 1) := dk_4 (dk_at dksX0_clauseTells_3 14 rfl rfl)
theorem dX0_clauseTells_76 : decode cX0_clauseTells 76 = .ok (.goto 4, 3) := dk_167 0 4 (dk_at dksX0_clauseTells_3 15 rfl rfl)
theorem dX0_clauseTells_79 : decode cX0_clauseTells 79 = .ok (.iconst 0, 1) := dk_3 (dk_at dksX0_clauseTells_3 18 rfl rfl)
theorem dX0_clauseTells_80 : decode cX0_clauseTells 80 = .ok (.ireturn, 1) := dk_172 (dk_at dksX0_clauseTells_3 19 rfl rfl)
theorem dX0_clauseTells_81 : decode cX0_clauseTells 81 = .ok (.aload_n 0, 1) := dk_42 (dk_at dksX0_clauseTells_3 20 rfl rfl)
theorem dX0_clauseTells_82 : decode cX0_clauseTells 82 = .ok (.aload_n 0, 1) := dk_42 (dk_at dksX0_clauseTells_3 21 rfl rfl)
theorem dX0_clauseTells_83 : decode cX0_clauseTells 83 = .ok (.getfield 40, 3) := dk_180 0 40 (dk_at dksX0_clauseTells_4 0 rfl rfl)
theorem dX0_clauseTells_86 : decode cX0_clauseTells 86 = .ok (.iload_n 1, 1) := dk_27 (dk_at dksX0_clauseTells_4 3 rfl rfl)
theorem dX0_clauseTells_87 : decode cX0_clauseTells 87 = .ok (.aaload, 1) := dk_50 (dk_at dksX0_clauseTells_4 4 rfl rfl)
theorem dX0_clauseTells_88 : decode cX0_clauseTells 88 = .ok (.invokevirtual 199, 3) := dk_182 0 199 (dk_at dksX0_clauseTells_4 5 rfl rfl)
theorem dX0_clauseTells_91 : decode cX0_clauseTells 91 = .ok (.invokestatic 203, 3) := dk_184 0 203 (dk_at dksX0_clauseTells_4 8 rfl rfl)
theorem dX0_clauseTells_94 : decode cX0_clauseTells 94 = .ok (.ireturn, 1) := dk_172 (dk_at dksX0_clauseTells_4 11 rfl rfl)
abbrev cX0_isOn : ByteArray := prog_1_method_40_code
def yX0_isOn : MethodName := ⟨RX0, "isOn", "(I)Z"⟩
def dkwX0_isOn_0 : List UInt8 := [42, 180, 0, 44, 3, 46, 27, 184, 0, 129, 154, 0, 7, 4, 167, 0, 4, 3, 172]
abbrev dktX0_isOn_0 : List UInt8 := dkwX0_isOn_0 ++ []
theorem dksX0_isOn_0 : cX0_isOn.data.toList.drop 0 = dktX0_isOn_0 := by decide +kernel
theorem dX0_isOn_0 : decode cX0_isOn 0 = .ok (.aload_n 0, 1) := dk_42 (dk_at dksX0_isOn_0 0 rfl rfl)
theorem dX0_isOn_1 : decode cX0_isOn 1 = .ok (.getfield 44, 3) := dk_180 0 44 (dk_at dksX0_isOn_0 1 rfl rfl)
theorem dX0_isOn_4 : decode cX0_isOn 4 = .ok (.iconst 0, 1) := dk_3 (dk_at dksX0_isOn_0 4 rfl rfl)
theorem dX0_isOn_5 : decode cX0_isOn 5 = .ok (.iaload, 1) := dk_46 (dk_at dksX0_isOn_0 5 rfl rfl)
theorem dX0_isOn_6 : decode cX0_isOn 6 = .ok (.iload_n 1, 1) := dk_27 (dk_at dksX0_isOn_0 6 rfl rfl)
theorem dX0_isOn_7 : decode cX0_isOn 7 = .ok (.invokestatic 129, 3) := dk_184 0 129 (dk_at dksX0_isOn_0 7 rfl rfl)
theorem dX0_isOn_10 : decode cX0_isOn 10 = .ok (.ifCond .ne 7, 3) := dk_154 0 7 (dk_at dksX0_isOn_0 10 rfl rfl)
theorem dX0_isOn_13 : decode cX0_isOn 13 = .ok (.iconst 1, 1) := dk_4 (dk_at dksX0_isOn_0 13 rfl rfl)
theorem dX0_isOn_14 : decode cX0_isOn 14 = .ok (.goto 4, 3) := dk_167 0 4 (dk_at dksX0_isOn_0 14 rfl rfl)
theorem dX0_isOn_17 : decode cX0_isOn 17 = .ok (.iconst 0, 1) := dk_3 (dk_at dksX0_isOn_0 17 rfl rfl)
theorem dX0_isOn_18 : decode cX0_isOn 18 = .ok (.ireturn, 1) := dk_172 (dk_at dksX0_isOn_0 18 rfl rfl)
abbrev cX0_has : ByteArray := prog_1_method_2_code
def yX0_has : MethodName := ⟨RX0, "has", "(II)Z"⟩
def dkwX0_has_0 : List UInt8 := [26, 27, 122, 4, 126, 4, 160, 0, 7, 4, 167, 0, 4, 3, 172]
abbrev dktX0_has_0 : List UInt8 := dkwX0_has_0 ++ []
theorem dksX0_has_0 : cX0_has.data.toList.drop 0 = dktX0_has_0 := by decide +kernel
theorem dX0_has_0 : decode cX0_has 0 = .ok (.iload_n 0, 1) := dk_26 (dk_at dksX0_has_0 0 rfl rfl)
theorem dX0_has_1 : decode cX0_has 1 = .ok (.iload_n 1, 1) := dk_27 (dk_at dksX0_has_0 1 rfl rfl)
theorem dX0_has_2 : decode cX0_has 2 = .ok (.ishr, 1) := dk_122 (dk_at dksX0_has_0 2 rfl rfl)
theorem dX0_has_3 : decode cX0_has 3 = .ok (.iconst 1, 1) := dk_4 (dk_at dksX0_has_0 3 rfl rfl)
theorem dX0_has_4 : decode cX0_has 4 = .ok (.iand, 1) := dk_126 (dk_at dksX0_has_0 4 rfl rfl)
theorem dX0_has_5 : decode cX0_has 5 = .ok (.iconst 1, 1) := dk_4 (dk_at dksX0_has_0 5 rfl rfl)
theorem dX0_has_6 : decode cX0_has 6 = .ok (.if_icmp .ne 7, 3) := dk_160 0 7 (dk_at dksX0_has_0 6 rfl rfl)
theorem dX0_has_9 : decode cX0_has 9 = .ok (.iconst 1, 1) := dk_4 (dk_at dksX0_has_0 9 rfl rfl)
theorem dX0_has_10 : decode cX0_has 10 = .ok (.goto 4, 3) := dk_167 0 4 (dk_at dksX0_has_0 10 rfl rfl)
theorem dX0_has_13 : decode cX0_has 13 = .ok (.iconst 0, 1) := dk_3 (dk_at dksX0_has_0 13 rfl rfl)
theorem dX0_has_14 : decode cX0_has 14 = .ok (.ireturn, 1) := dk_172 (dk_at dksX0_has_0 14 rfl rfl)
abbrev cX0_waysOf : ByteArray := prog_1_method_39_code
def yX0_waysOf : MethodName := ⟨RX0, "waysOf", "(LNeitherBare$Clause;)J"⟩
def dkwX0_waysOf_2 : List UInt8 := [32, 173]
abbrev dktX0_waysOf_2 : List UInt8 := dkwX0_waysOf_2 ++ []
def dkwX0_waysOf_1 : List UInt8 := [185, 0, 182, 2, 0, 153, 0, 10, 10, 21, 5, 121, 167, 0, 4, 9, 129, 65, 132, 5, 1, 167, 255, 221]
abbrev dktX0_waysOf_1 : List UInt8 := dkwX0_waysOf_1 ++ dktX0_waysOf_2
def dkwX0_waysOf_0 : List UInt8 := [9, 65, 43, 58, 4, 3, 54, 5, 21, 5, 42, 182, 0, 125, 162, 0, 32, 32, 25, 4, 21, 5]
abbrev dktX0_waysOf_0 : List UInt8 := dkwX0_waysOf_0 ++ dktX0_waysOf_1
theorem dksX0_waysOf_0 : cX0_waysOf.data.toList.drop 0 = dktX0_waysOf_0 := by decide +kernel
theorem dksX0_waysOf_1 : cX0_waysOf.data.toList.drop 22 = dktX0_waysOf_1 := dk_seg dksX0_waysOf_0 22 rfl rfl
theorem dksX0_waysOf_2 : cX0_waysOf.data.toList.drop 46 = dktX0_waysOf_2 := dk_seg dksX0_waysOf_1 24 rfl rfl
theorem dX0_waysOf_0 : decode cX0_waysOf 0 = .ok (.lconst 0, 1) := dk_9 (dk_at dksX0_waysOf_0 0 rfl rfl)
theorem dX0_waysOf_1 : decode cX0_waysOf 1 = .ok (.lstore_n 2, 1) := dk_65 (dk_at dksX0_waysOf_0 1 rfl rfl)
theorem dX0_waysOf_2 : decode cX0_waysOf 2 = .ok (.aload_n 1, 1) := dk_43 (dk_at dksX0_waysOf_0 2 rfl rfl)
theorem dX0_waysOf_3 : decode cX0_waysOf 3 = .ok (.astore 4, 2) := dk_58 4 (dk_at dksX0_waysOf_0 3 rfl rfl)
theorem dX0_waysOf_5 : decode cX0_waysOf 5 = .ok (.iconst 0, 1) := dk_3 (dk_at dksX0_waysOf_0 5 rfl rfl)
theorem dX0_waysOf_6 : decode cX0_waysOf 6 = .ok (.istore 5, 2) := dk_54 5 (dk_at dksX0_waysOf_0 6 rfl rfl)
theorem dX0_waysOf_8 : decode cX0_waysOf 8 = .ok (.iload 5, 2) := dk_21 5 (dk_at dksX0_waysOf_0 8 rfl rfl)
theorem dX0_waysOf_10 : decode cX0_waysOf 10 = .ok (.aload_n 0, 1) := dk_42 (dk_at dksX0_waysOf_0 10 rfl rfl)
theorem dX0_waysOf_11 : decode cX0_waysOf 11 = .ok (.invokevirtual 125, 3) := dk_182 0 125 (dk_at dksX0_waysOf_0 11 rfl rfl)
theorem dX0_waysOf_14 : decode cX0_waysOf 14 = .ok (.if_icmp .ge 32, 3) := dk_162 0 32 (dk_at dksX0_waysOf_0 14 rfl rfl)
theorem dX0_waysOf_17 : decode cX0_waysOf 17 = .ok (.lload_n 2, 1) := dk_32 (dk_at dksX0_waysOf_0 17 rfl rfl)
theorem dX0_waysOf_18 : decode cX0_waysOf 18 = .ok (.aload 4, 2) := dk_25 4 (dk_at dksX0_waysOf_0 18 rfl rfl)
theorem dX0_waysOf_20 : decode cX0_waysOf 20 = .ok (.iload 5, 2) := dk_21 5 (dk_at dksX0_waysOf_0 20 rfl rfl)
theorem dX0_waysOf_22 : decode cX0_waysOf 22 = .ok (.invokeinterface 182 2, 5) := by decide +kernel
theorem dX0_waysOf_27 : decode cX0_waysOf 27 = .ok (.ifCond .eq 10, 3) := dk_153 0 10 (dk_at dksX0_waysOf_1 5 rfl rfl)
theorem dX0_waysOf_30 : decode cX0_waysOf 30 = .ok (.lconst 1, 1) := dk_10 (dk_at dksX0_waysOf_1 8 rfl rfl)
theorem dX0_waysOf_31 : decode cX0_waysOf 31 = .ok (.iload 5, 2) := dk_21 5 (dk_at dksX0_waysOf_1 9 rfl rfl)
theorem dX0_waysOf_33 : decode cX0_waysOf 33 = .ok (.lshl, 1) := dk_121 (dk_at dksX0_waysOf_1 11 rfl rfl)
theorem dX0_waysOf_34 : decode cX0_waysOf 34 = .ok (.goto 4, 3) := dk_167 0 4 (dk_at dksX0_waysOf_1 12 rfl rfl)
theorem dX0_waysOf_37 : decode cX0_waysOf 37 = .ok (.lconst 0, 1) := dk_9 (dk_at dksX0_waysOf_1 15 rfl rfl)
theorem dX0_waysOf_38 : decode cX0_waysOf 38 = .ok (.lor, 1) := dk_129 (dk_at dksX0_waysOf_1 16 rfl rfl)
theorem dX0_waysOf_39 : decode cX0_waysOf 39 = .ok (.lstore_n 2, 1) := dk_65 (dk_at dksX0_waysOf_1 17 rfl rfl)
theorem dX0_waysOf_40 : decode cX0_waysOf 40 = .ok (.iinc 5 1, 3) := dk_132 5 1 (dk_at dksX0_waysOf_1 18 rfl rfl)
theorem dX0_waysOf_43 : decode cX0_waysOf 43 = .ok (.goto (-35), 3) := dk_167 255 221 (dk_at dksX0_waysOf_1 21 rfl rfl)
theorem dX0_waysOf_46 : decode cX0_waysOf 46 = .ok (.lload_n 2, 1) := dk_32 (dk_at dksX0_waysOf_2 0 rfl rfl)
theorem dX0_waysOf_47 : decode cX0_waysOf 47 = .ok (.lreturn, 1) := dk_173 (dk_at dksX0_waysOf_2 1 rfl rfl)
abbrev cX0_ways : ByteArray := prog_1_method_24_code
def yX0_ways : MethodName := ⟨RX0, "ways", "()I"⟩
def dkwX0_ways_0 : List UInt8 := [4, 42, 180, 0, 119, 120, 172]
abbrev dktX0_ways_0 : List UInt8 := dkwX0_ways_0 ++ []
theorem dksX0_ways_0 : cX0_ways.data.toList.drop 0 = dktX0_ways_0 := by decide +kernel
theorem dX0_ways_0 : decode cX0_ways 0 = .ok (.iconst 1, 1) := dk_4 (dk_at dksX0_ways_0 0 rfl rfl)
theorem dX0_ways_1 : decode cX0_ways 1 = .ok (.aload_n 0, 1) := dk_42 (dk_at dksX0_ways_0 1 rfl rfl)
theorem dX0_ways_2 : decode cX0_ways 2 = .ok (.getfield 119, 3) := dk_180 0 119 (dk_at dksX0_ways_0 2 rfl rfl)
theorem dX0_ways_5 : decode cX0_ways 5 = .ok (.ishl, 1) := dk_120 (dk_at dksX0_ways_0 5 rfl rfl)
theorem dX0_ways_6 : decode cX0_ways 6 = .ok (.ireturn, 1) := dk_172 (dk_at dksX0_ways_0 6 rfl rfl)
abbrev cX0_isMuch : ByteArray := prog_1_method_27_code
def yX0_isMuch : MethodName := ⟨RX0, "isMuch", "(II)Z"⟩
def dkwX0_isMuch_0 : List UInt8 := [42, 27, 28, 182, 0, 138, 42, 180, 0, 44, 8, 28, 96, 46, 161, 0, 7, 4, 167, 0, 4, 3, 172]
abbrev dktX0_isMuch_0 : List UInt8 := dkwX0_isMuch_0 ++ []
theorem dksX0_isMuch_0 : cX0_isMuch.data.toList.drop 0 = dktX0_isMuch_0 := by decide +kernel
theorem dX0_isMuch_0 : decode cX0_isMuch 0 = .ok (.aload_n 0, 1) := dk_42 (dk_at dksX0_isMuch_0 0 rfl rfl)
theorem dX0_isMuch_1 : decode cX0_isMuch 1 = .ok (.iload_n 1, 1) := dk_27 (dk_at dksX0_isMuch_0 1 rfl rfl)
theorem dX0_isMuch_2 : decode cX0_isMuch 2 = .ok (.iload_n 2, 1) := dk_28 (dk_at dksX0_isMuch_0 2 rfl rfl)
theorem dX0_isMuch_3 : decode cX0_isMuch 3 = .ok (.invokevirtual 138, 3) := dk_182 0 138 (dk_at dksX0_isMuch_0 3 rfl rfl)
theorem dX0_isMuch_6 : decode cX0_isMuch 6 = .ok (.aload_n 0, 1) := dk_42 (dk_at dksX0_isMuch_0 6 rfl rfl)
theorem dX0_isMuch_7 : decode cX0_isMuch 7 = .ok (.getfield 44, 3) := dk_180 0 44 (dk_at dksX0_isMuch_0 7 rfl rfl)
theorem dX0_isMuch_10 : decode cX0_isMuch 10 = .ok (.iconst 5, 1) := dk_8 (dk_at dksX0_isMuch_0 10 rfl rfl)
theorem dX0_isMuch_11 : decode cX0_isMuch 11 = .ok (.iload_n 2, 1) := dk_28 (dk_at dksX0_isMuch_0 11 rfl rfl)
theorem dX0_isMuch_12 : decode cX0_isMuch 12 = .ok (.iadd, 1) := dk_96 (dk_at dksX0_isMuch_0 12 rfl rfl)
theorem dX0_isMuch_13 : decode cX0_isMuch 13 = .ok (.iaload, 1) := dk_46 (dk_at dksX0_isMuch_0 13 rfl rfl)
theorem dX0_isMuch_14 : decode cX0_isMuch 14 = .ok (.if_icmp .lt 7, 3) := dk_161 0 7 (dk_at dksX0_isMuch_0 14 rfl rfl)
theorem dX0_isMuch_17 : decode cX0_isMuch 17 = .ok (.iconst 1, 1) := dk_4 (dk_at dksX0_isMuch_0 17 rfl rfl)
theorem dX0_isMuch_18 : decode cX0_isMuch 18 = .ok (.goto 4, 3) := dk_167 0 4 (dk_at dksX0_isMuch_0 18 rfl rfl)
theorem dX0_isMuch_21 : decode cX0_isMuch 21 = .ok (.iconst 0, 1) := dk_3 (dk_at dksX0_isMuch_0 21 rfl rfl)
theorem dX0_isMuch_22 : decode cX0_isMuch 22 = .ok (.ireturn, 1) := dk_172 (dk_at dksX0_isMuch_0 22 rfl rfl)
abbrev cX0_valueOf : ByteArray := prog_1_method_26_code
def yX0_valueOf : MethodName := ⟨RX0, "valueOf", "(II)I"⟩
def dkwX0_valueOf_2 : List UInt8 := [29, 184, 0, 133, 172]
abbrev dktX0_valueOf_2 : List UInt8 := dkwX0_valueOf_2 ++ []
def dkwX0_valueOf_1 : List UInt8 := [42, 180, 0, 35, 8, 21, 4, 104, 28, 96, 46, 167, 0, 4, 3, 96, 62, 132, 4, 1, 167, 255, 217, 8]
abbrev dktX0_valueOf_1 : List UInt8 := dkwX0_valueOf_1 ++ dktX0_valueOf_2
def dkwX0_valueOf_0 : List UInt8 := [3, 62, 3, 54, 4, 21, 4, 42, 180, 0, 119, 162, 0, 36, 29, 27, 21, 4, 184, 0, 129, 153, 0, 17]
abbrev dktX0_valueOf_0 : List UInt8 := dkwX0_valueOf_0 ++ dktX0_valueOf_1
theorem dksX0_valueOf_0 : cX0_valueOf.data.toList.drop 0 = dktX0_valueOf_0 := by decide +kernel
theorem dksX0_valueOf_1 : cX0_valueOf.data.toList.drop 24 = dktX0_valueOf_1 := dk_seg dksX0_valueOf_0 24 rfl rfl
theorem dksX0_valueOf_2 : cX0_valueOf.data.toList.drop 48 = dktX0_valueOf_2 := dk_seg dksX0_valueOf_1 24 rfl rfl
theorem dX0_valueOf_0 : decode cX0_valueOf 0 = .ok (.iconst 0, 1) := dk_3 (dk_at dksX0_valueOf_0 0 rfl rfl)
theorem dX0_valueOf_1 : decode cX0_valueOf 1 = .ok (.istore_n 3, 1) := dk_62 (dk_at dksX0_valueOf_0 1 rfl rfl)
theorem dX0_valueOf_2 : decode cX0_valueOf 2 = .ok (.iconst 0, 1) := dk_3 (dk_at dksX0_valueOf_0 2 rfl rfl)
theorem dX0_valueOf_3 : decode cX0_valueOf 3 = .ok (.istore 4, 2) := dk_54 4 (dk_at dksX0_valueOf_0 3 rfl rfl)
theorem dX0_valueOf_5 : decode cX0_valueOf 5 = .ok (.iload 4, 2) := dk_21 4 (dk_at dksX0_valueOf_0 5 rfl rfl)
theorem dX0_valueOf_7 : decode cX0_valueOf 7 = .ok (.aload_n 0, 1) := dk_42 (dk_at dksX0_valueOf_0 7 rfl rfl)
theorem dX0_valueOf_8 : decode cX0_valueOf 8 = .ok (.getfield 119, 3) := dk_180 0 119 (dk_at dksX0_valueOf_0 8 rfl rfl)
theorem dX0_valueOf_11 : decode cX0_valueOf 11 = .ok (.if_icmp .ge 36, 3) := dk_162 0 36 (dk_at dksX0_valueOf_0 11 rfl rfl)
theorem dX0_valueOf_14 : decode cX0_valueOf 14 = .ok (.iload_n 3, 1) := dk_29 (dk_at dksX0_valueOf_0 14 rfl rfl)
theorem dX0_valueOf_15 : decode cX0_valueOf 15 = .ok (.iload_n 1, 1) := dk_27 (dk_at dksX0_valueOf_0 15 rfl rfl)
theorem dX0_valueOf_16 : decode cX0_valueOf 16 = .ok (.iload 4, 2) := dk_21 4 (dk_at dksX0_valueOf_0 16 rfl rfl)
theorem dX0_valueOf_18 : decode cX0_valueOf 18 = .ok (.invokestatic 129, 3) := dk_184 0 129 (dk_at dksX0_valueOf_0 18 rfl rfl)
theorem dX0_valueOf_21 : decode cX0_valueOf 21 = .ok (.ifCond .eq 17, 3) := dk_153 0 17 (dk_at dksX0_valueOf_0 21 rfl rfl)
theorem dX0_valueOf_24 : decode cX0_valueOf 24 = .ok (.aload_n 0, 1) := dk_42 (dk_at dksX0_valueOf_1 0 rfl rfl)
theorem dX0_valueOf_25 : decode cX0_valueOf 25 = .ok (.getfield 35, 3) := dk_180 0 35 (dk_at dksX0_valueOf_1 1 rfl rfl)
theorem dX0_valueOf_28 : decode cX0_valueOf 28 = .ok (.iconst 5, 1) := dk_8 (dk_at dksX0_valueOf_1 4 rfl rfl)
theorem dX0_valueOf_29 : decode cX0_valueOf 29 = .ok (.iload 4, 2) := dk_21 4 (dk_at dksX0_valueOf_1 5 rfl rfl)
theorem dX0_valueOf_31 : decode cX0_valueOf 31 = .ok (.imul, 1) := dk_104 (dk_at dksX0_valueOf_1 7 rfl rfl)
theorem dX0_valueOf_32 : decode cX0_valueOf 32 = .ok (.iload_n 2, 1) := dk_28 (dk_at dksX0_valueOf_1 8 rfl rfl)
theorem dX0_valueOf_33 : decode cX0_valueOf 33 = .ok (.iadd, 1) := dk_96 (dk_at dksX0_valueOf_1 9 rfl rfl)
theorem dX0_valueOf_34 : decode cX0_valueOf 34 = .ok (.iaload, 1) := dk_46 (dk_at dksX0_valueOf_1 10 rfl rfl)
theorem dX0_valueOf_35 : decode cX0_valueOf 35 = .ok (.goto 4, 3) := dk_167 0 4 (dk_at dksX0_valueOf_1 11 rfl rfl)
theorem dX0_valueOf_38 : decode cX0_valueOf 38 = .ok (.iconst 0, 1) := dk_3 (dk_at dksX0_valueOf_1 14 rfl rfl)
theorem dX0_valueOf_39 : decode cX0_valueOf 39 = .ok (.iadd, 1) := dk_96 (dk_at dksX0_valueOf_1 15 rfl rfl)
theorem dX0_valueOf_40 : decode cX0_valueOf 40 = .ok (.istore_n 3, 1) := dk_62 (dk_at dksX0_valueOf_1 16 rfl rfl)
theorem dX0_valueOf_41 : decode cX0_valueOf 41 = .ok (.iinc 4 1, 3) := dk_132 4 1 (dk_at dksX0_valueOf_1 17 rfl rfl)
theorem dX0_valueOf_44 : decode cX0_valueOf 44 = .ok (.goto (-39), 3) := dk_167 255 217 (dk_at dksX0_valueOf_1 20 rfl rfl)
theorem dX0_valueOf_47 : decode cX0_valueOf 47 = .ok (.iconst 5, 1) := dk_8 (dk_at dksX0_valueOf_1 23 rfl rfl)
theorem dX0_valueOf_48 : decode cX0_valueOf 48 = .ok (.iload_n 3, 1) := dk_29 (dk_at dksX0_valueOf_2 0 rfl rfl)
theorem dX0_valueOf_49 : decode cX0_valueOf 49 = .ok (.invokestatic 133, 3) := dk_184 0 133 (dk_at dksX0_valueOf_2 1 rfl rfl)
theorem dX0_valueOf_52 : decode cX0_valueOf 52 = .ok (.ireturn, 1) := dk_172 (dk_at dksX0_valueOf_2 4 rfl rfl)
abbrev cX0_isLittle : ByteArray := prog_1_method_28_code
def yX0_isLittle : MethodName := ⟨RX0, "isLittle", "(II)Z"⟩
def dkwX0_isLittle_0 : List UInt8 := [42, 27, 28, 182, 0, 138, 42, 180, 0, 44, 4, 28, 96, 46, 163, 0, 7, 4, 167, 0, 4, 3, 172]
abbrev dktX0_isLittle_0 : List UInt8 := dkwX0_isLittle_0 ++ []
theorem dksX0_isLittle_0 : cX0_isLittle.data.toList.drop 0 = dktX0_isLittle_0 := by decide +kernel
theorem dX0_isLittle_0 : decode cX0_isLittle 0 = .ok (.aload_n 0, 1) := dk_42 (dk_at dksX0_isLittle_0 0 rfl rfl)
theorem dX0_isLittle_1 : decode cX0_isLittle 1 = .ok (.iload_n 1, 1) := dk_27 (dk_at dksX0_isLittle_0 1 rfl rfl)
theorem dX0_isLittle_2 : decode cX0_isLittle 2 = .ok (.iload_n 2, 1) := dk_28 (dk_at dksX0_isLittle_0 2 rfl rfl)
theorem dX0_isLittle_3 : decode cX0_isLittle 3 = .ok (.invokevirtual 138, 3) := dk_182 0 138 (dk_at dksX0_isLittle_0 3 rfl rfl)
theorem dX0_isLittle_6 : decode cX0_isLittle 6 = .ok (.aload_n 0, 1) := dk_42 (dk_at dksX0_isLittle_0 6 rfl rfl)
theorem dX0_isLittle_7 : decode cX0_isLittle 7 = .ok (.getfield 44, 3) := dk_180 0 44 (dk_at dksX0_isLittle_0 7 rfl rfl)
theorem dX0_isLittle_10 : decode cX0_isLittle 10 = .ok (.iconst 1, 1) := dk_4 (dk_at dksX0_isLittle_0 10 rfl rfl)
theorem dX0_isLittle_11 : decode cX0_isLittle 11 = .ok (.iload_n 2, 1) := dk_28 (dk_at dksX0_isLittle_0 11 rfl rfl)
theorem dX0_isLittle_12 : decode cX0_isLittle 12 = .ok (.iadd, 1) := dk_96 (dk_at dksX0_isLittle_0 12 rfl rfl)
theorem dX0_isLittle_13 : decode cX0_isLittle 13 = .ok (.iaload, 1) := dk_46 (dk_at dksX0_isLittle_0 13 rfl rfl)
theorem dX0_isLittle_14 : decode cX0_isLittle 14 = .ok (.if_icmp .gt 7, 3) := dk_163 0 7 (dk_at dksX0_isLittle_0 14 rfl rfl)
theorem dX0_isLittle_17 : decode cX0_isLittle 17 = .ok (.iconst 1, 1) := dk_4 (dk_at dksX0_isLittle_0 17 rfl rfl)
theorem dX0_isLittle_18 : decode cX0_isLittle 18 = .ok (.goto 4, 3) := dk_167 0 4 (dk_at dksX0_isLittle_0 18 rfl rfl)
theorem dX0_isLittle_21 : decode cX0_isLittle 21 = .ok (.iconst 0, 1) := dk_3 (dk_at dksX0_isLittle_0 21 rfl rfl)
theorem dX0_isLittle_22 : decode cX0_isLittle 22 = .ok (.ireturn, 1) := dk_172 (dk_at dksX0_isLittle_0 22 rfl rfl)
abbrev cX0_mark : ByteArray := prog_1_method_43_code
def yX0_mark : MethodName := ⟨RX0, "mark", "(II)I"⟩
def dkwX0_mark_7 : List UInt8 := [25, 8, 182, 0, 227, 172, 58, 4, 42, 6, 182, 0, 76, 172]
abbrev dktX0_mark_7 : List UInt8 := dkwX0_mark_7 ++ []
def dkwX0_mark_6 : List UInt8 := [25, 6, 182, 0, 225, 172, 45, 192, 0, 113, 58, 7, 25, 7, 182, 0, 226, 172, 45, 192, 0, 116, 58, 8]
abbrev dktX0_mark_6 : List UInt8 := dkwX0_mark_6 ++ dktX0_mark_7
def dkwX0_mark_5 : List UInt8 := [25, 5, 192, 0, 116, 182, 0, 221, 167, 0, 8, 25, 5, 182, 0, 224, 172, 45, 192, 0, 110, 58, 6]
abbrev dktX0_mark_5 : List UInt8 := dkwX0_mark_5 ++ dktX0_mark_6
def dkwX0_mark_4 : List UInt8 := [167, 0, 8, 25, 4, 182, 0, 218, 172, 45, 192, 0, 105, 58, 5, 25, 5, 193, 0, 116, 153, 0, 14]
abbrev dktX0_mark_4 : List UInt8 := dkwX0_mark_4 ++ dktX0_mark_5
def dkwX0_mark_3 : List UInt8 := [45, 192, 0, 102, 58, 4, 25, 4, 193, 0, 113, 153, 0, 14, 25, 4, 192, 0, 113, 182, 0, 215]
abbrev dktX0_mark_3 : List UInt8 := dkwX0_mark_3 ++ dktX0_mark_4
def dkwX0_mark_2 : List UInt8 := [170, 0, 0, 0, 115, 0, 0, 0, 1, 0, 0, 0, 4, 0, 0, 0, 29, 0, 0, 0, 60, 0, 0, 0, 91, 0, 0, 0, 103]
abbrev dktX0_mark_2 : List UInt8 := dkwX0_mark_2 ++ dktX0_mark_3
def dkwX0_mark_1 : List UInt8 := [50, 78, 28]
abbrev dktX0_mark_1 : List UInt8 := dkwX0_mark_1 ++ dktX0_mark_2
def dkwX0_mark_0 : List UInt8 := [42, 27, 182, 0, 209, 153, 0, 12, 28, 4, 8, 184, 0, 66, 154, 0, 5, 2, 172, 42, 180, 0, 40, 27]
abbrev dktX0_mark_0 : List UInt8 := dkwX0_mark_0 ++ dktX0_mark_1
theorem dksX0_mark_0 : cX0_mark.data.toList.drop 0 = dktX0_mark_0 := by decide +kernel
theorem dksX0_mark_1 : cX0_mark.data.toList.drop 24 = dktX0_mark_1 := dk_seg dksX0_mark_0 24 rfl rfl
theorem dksX0_mark_2 : cX0_mark.data.toList.drop 27 = dktX0_mark_2 := dk_seg dksX0_mark_1 3 rfl rfl
theorem dksX0_mark_3 : cX0_mark.data.toList.drop 56 = dktX0_mark_3 := dk_seg dksX0_mark_2 29 rfl rfl
theorem dksX0_mark_4 : cX0_mark.data.toList.drop 78 = dktX0_mark_4 := dk_seg dksX0_mark_3 22 rfl rfl
theorem dksX0_mark_5 : cX0_mark.data.toList.drop 101 = dktX0_mark_5 := dk_seg dksX0_mark_4 23 rfl rfl
theorem dksX0_mark_6 : cX0_mark.data.toList.drop 124 = dktX0_mark_6 := dk_seg dksX0_mark_5 23 rfl rfl
theorem dksX0_mark_7 : cX0_mark.data.toList.drop 148 = dktX0_mark_7 := dk_seg dksX0_mark_6 24 rfl rfl
theorem dX0_mark_0 : decode cX0_mark 0 = .ok (.aload_n 0, 1) := dk_42 (dk_at dksX0_mark_0 0 rfl rfl)
theorem dX0_mark_1 : decode cX0_mark 1 = .ok (.iload_n 1, 1) := dk_27 (dk_at dksX0_mark_0 1 rfl rfl)
theorem dX0_mark_2 : decode cX0_mark 2 = .ok (.invokevirtual 209, 3) := dk_182 0 209 (dk_at dksX0_mark_0 2 rfl rfl)
theorem dX0_mark_5 : decode cX0_mark 5 = .ok (.ifCond .eq 12, 3) := dk_153 0 12 (dk_at dksX0_mark_0 5 rfl rfl)
theorem dX0_mark_8 : decode cX0_mark 8 = .ok (.iload_n 2, 1) := dk_28 (dk_at dksX0_mark_0 8 rfl rfl)
theorem dX0_mark_9 : decode cX0_mark 9 = .ok (.iconst 1, 1) := dk_4 (dk_at dksX0_mark_0 9 rfl rfl)
theorem dX0_mark_10 : decode cX0_mark 10 = .ok (.iconst 5, 1) := dk_8 (dk_at dksX0_mark_0 10 rfl rfl)
theorem dX0_mark_11 : decode cX0_mark 11 = .ok (.invokestatic 66, 3) := dk_184 0 66 (dk_at dksX0_mark_0 11 rfl rfl)
theorem dX0_mark_14 : decode cX0_mark 14 = .ok (.ifCond .ne 5, 3) := dk_154 0 5 (dk_at dksX0_mark_0 14 rfl rfl)
theorem dX0_mark_17 : decode cX0_mark 17 = .ok (.iconst (-1), 1) := dk_2 (dk_at dksX0_mark_0 17 rfl rfl)
theorem dX0_mark_18 : decode cX0_mark 18 = .ok (.ireturn, 1) := dk_172 (dk_at dksX0_mark_0 18 rfl rfl)
theorem dX0_mark_19 : decode cX0_mark 19 = .ok (.aload_n 0, 1) := dk_42 (dk_at dksX0_mark_0 19 rfl rfl)
theorem dX0_mark_20 : decode cX0_mark 20 = .ok (.getfield 40, 3) := dk_180 0 40 (dk_at dksX0_mark_0 20 rfl rfl)
theorem dX0_mark_23 : decode cX0_mark 23 = .ok (.iload_n 1, 1) := dk_27 (dk_at dksX0_mark_0 23 rfl rfl)
theorem dX0_mark_24 : decode cX0_mark 24 = .ok (.aaload, 1) := dk_50 (dk_at dksX0_mark_1 0 rfl rfl)
theorem dX0_mark_25 : decode cX0_mark 25 = .ok (.astore_n 3, 1) := dk_78 (dk_at dksX0_mark_1 1 rfl rfl)
theorem dX0_mark_26 : decode cX0_mark 26 = .ok (.iload_n 2, 1) := dk_28 (dk_at dksX0_mark_1 2 rfl rfl)
theorem dX0_mark_27 : decode cX0_mark 27 = .ok (.tableswitch 115 1 4 #[29, 60, 91, 103], 29) := by decide +kernel
theorem dX0_mark_56 : decode cX0_mark 56 = .ok (.aload_n 3, 1) := dk_45 (dk_at dksX0_mark_3 0 rfl rfl)
theorem dX0_mark_57 : decode cX0_mark 57 = .ok (.checkcast 102, 3) := dk_192 0 102 (dk_at dksX0_mark_3 1 rfl rfl)
theorem dX0_mark_60 : decode cX0_mark 60 = .ok (.astore 4, 2) := dk_58 4 (dk_at dksX0_mark_3 4 rfl rfl)
theorem dX0_mark_62 : decode cX0_mark 62 = .ok (.aload 4, 2) := dk_25 4 (dk_at dksX0_mark_3 6 rfl rfl)
theorem dX0_mark_64 : decode cX0_mark 64 = .ok (.instanceof 113, 3) := dk_193 0 113 (dk_at dksX0_mark_3 8 rfl rfl)
theorem dX0_mark_67 : decode cX0_mark 67 = .ok (.ifCond .eq 14, 3) := dk_153 0 14 (dk_at dksX0_mark_3 11 rfl rfl)
theorem dX0_mark_70 : decode cX0_mark 70 = .ok (.aload 4, 2) := dk_25 4 (dk_at dksX0_mark_3 14 rfl rfl)
theorem dX0_mark_72 : decode cX0_mark 72 = .ok (.checkcast 113, 3) := dk_192 0 113 (dk_at dksX0_mark_3 16 rfl rfl)
theorem dX0_mark_75 : decode cX0_mark 75 = .ok (.invokevirtual 215, 3) := dk_182 0 215 (dk_at dksX0_mark_3 19 rfl rfl)
theorem dX0_mark_78 : decode cX0_mark 78 = .ok (.goto 8, 3) := dk_167 0 8 (dk_at dksX0_mark_4 0 rfl rfl)
theorem dX0_mark_81 : decode cX0_mark 81 = .ok (.aload 4, 2) := dk_25 4 (dk_at dksX0_mark_4 3 rfl rfl)
theorem dX0_mark_83 : decode cX0_mark 83 = .ok (.invokevirtual 218, 3) := dk_182 0 218 (dk_at dksX0_mark_4 5 rfl rfl)
theorem dX0_mark_86 : decode cX0_mark 86 = .ok (.ireturn, 1) := dk_172 (dk_at dksX0_mark_4 8 rfl rfl)
theorem dX0_mark_87 : decode cX0_mark 87 = .ok (.aload_n 3, 1) := dk_45 (dk_at dksX0_mark_4 9 rfl rfl)
theorem dX0_mark_88 : decode cX0_mark 88 = .ok (.checkcast 105, 3) := dk_192 0 105 (dk_at dksX0_mark_4 10 rfl rfl)
theorem dX0_mark_91 : decode cX0_mark 91 = .ok (.astore 5, 2) := dk_58 5 (dk_at dksX0_mark_4 13 rfl rfl)
theorem dX0_mark_93 : decode cX0_mark 93 = .ok (.aload 5, 2) := dk_25 5 (dk_at dksX0_mark_4 15 rfl rfl)
theorem dX0_mark_95 : decode cX0_mark 95 = .ok (.instanceof 116, 3) := dk_193 0 116 (dk_at dksX0_mark_4 17 rfl rfl)
theorem dX0_mark_98 : decode cX0_mark 98 = .ok (.ifCond .eq 14, 3) := dk_153 0 14 (dk_at dksX0_mark_4 20 rfl rfl)
theorem dX0_mark_101 : decode cX0_mark 101 = .ok (.aload 5, 2) := dk_25 5 (dk_at dksX0_mark_5 0 rfl rfl)
theorem dX0_mark_103 : decode cX0_mark 103 = .ok (.checkcast 116, 3) := dk_192 0 116 (dk_at dksX0_mark_5 2 rfl rfl)
theorem dX0_mark_106 : decode cX0_mark 106 = .ok (.invokevirtual 221, 3) := dk_182 0 221 (dk_at dksX0_mark_5 5 rfl rfl)
theorem dX0_mark_109 : decode cX0_mark 109 = .ok (.goto 8, 3) := dk_167 0 8 (dk_at dksX0_mark_5 8 rfl rfl)
theorem dX0_mark_112 : decode cX0_mark 112 = .ok (.aload 5, 2) := dk_25 5 (dk_at dksX0_mark_5 11 rfl rfl)
theorem dX0_mark_114 : decode cX0_mark 114 = .ok (.invokevirtual 224, 3) := dk_182 0 224 (dk_at dksX0_mark_5 13 rfl rfl)
theorem dX0_mark_117 : decode cX0_mark 117 = .ok (.ireturn, 1) := dk_172 (dk_at dksX0_mark_5 16 rfl rfl)
theorem dX0_mark_118 : decode cX0_mark 118 = .ok (.aload_n 3, 1) := dk_45 (dk_at dksX0_mark_5 17 rfl rfl)
theorem dX0_mark_119 : decode cX0_mark 119 = .ok (.checkcast 110, 3) := dk_192 0 110 (dk_at dksX0_mark_5 18 rfl rfl)
theorem dX0_mark_122 : decode cX0_mark 122 = .ok (.astore 6, 2) := dk_58 6 (dk_at dksX0_mark_5 21 rfl rfl)
theorem dX0_mark_124 : decode cX0_mark 124 = .ok (.aload 6, 2) := dk_25 6 (dk_at dksX0_mark_6 0 rfl rfl)
theorem dX0_mark_126 : decode cX0_mark 126 = .ok (.invokevirtual 225, 3) := dk_182 0 225 (dk_at dksX0_mark_6 2 rfl rfl)
theorem dX0_mark_129 : decode cX0_mark 129 = .ok (.ireturn, 1) := dk_172 (dk_at dksX0_mark_6 5 rfl rfl)
theorem dX0_mark_130 : decode cX0_mark 130 = .ok (.aload_n 3, 1) := dk_45 (dk_at dksX0_mark_6 6 rfl rfl)
theorem dX0_mark_131 : decode cX0_mark 131 = .ok (.checkcast 113, 3) := dk_192 0 113 (dk_at dksX0_mark_6 7 rfl rfl)
theorem dX0_mark_134 : decode cX0_mark 134 = .ok (.astore 7, 2) := dk_58 7 (dk_at dksX0_mark_6 10 rfl rfl)
theorem dX0_mark_136 : decode cX0_mark 136 = .ok (.aload 7, 2) := dk_25 7 (dk_at dksX0_mark_6 12 rfl rfl)
theorem dX0_mark_138 : decode cX0_mark 138 = .ok (.invokevirtual 226, 3) := dk_182 0 226 (dk_at dksX0_mark_6 14 rfl rfl)
theorem dX0_mark_141 : decode cX0_mark 141 = .ok (.ireturn, 1) := dk_172 (dk_at dksX0_mark_6 17 rfl rfl)
theorem dX0_mark_142 : decode cX0_mark 142 = .ok (.aload_n 3, 1) := dk_45 (dk_at dksX0_mark_6 18 rfl rfl)
theorem dX0_mark_143 : decode cX0_mark 143 = .ok (.checkcast 116, 3) := dk_192 0 116 (dk_at dksX0_mark_6 19 rfl rfl)
theorem dX0_mark_146 : decode cX0_mark 146 = .ok (.astore 8, 2) := dk_58 8 (dk_at dksX0_mark_6 22 rfl rfl)
theorem dX0_mark_148 : decode cX0_mark 148 = .ok (.aload 8, 2) := dk_25 8 (dk_at dksX0_mark_7 0 rfl rfl)
theorem dX0_mark_150 : decode cX0_mark 150 = .ok (.invokevirtual 227, 3) := dk_182 0 227 (dk_at dksX0_mark_7 2 rfl rfl)
theorem dX0_mark_153 : decode cX0_mark 153 = .ok (.ireturn, 1) := dk_172 (dk_at dksX0_mark_7 5 rfl rfl)
theorem dX0_mark_154 : decode cX0_mark 154 = .ok (.astore 4, 2) := dk_58 4 (dk_at dksX0_mark_7 6 rfl rfl)
theorem dX0_mark_156 : decode cX0_mark 156 = .ok (.aload_n 0, 1) := dk_42 (dk_at dksX0_mark_7 8 rfl rfl)
theorem dX0_mark_157 : decode cX0_mark 157 = .ok (.iconst 3, 1) := dk_6 (dk_at dksX0_mark_7 9 rfl rfl)
theorem dX0_mark_158 : decode cX0_mark 158 = .ok (.invokevirtual 76, 3) := dk_182 0 76 (dk_at dksX0_mark_7 10 rfl rfl)
theorem dX0_mark_161 : decode cX0_mark 161 = .ok (.ireturn, 1) := dk_172 (dk_at dksX0_mark_7 13 rfl rfl)
abbrev cX0_border : ByteArray := prog_1_method_45_code
def yX0_border : MethodName := ⟨RX0, "border", "(II)I"⟩
def dkwX0_border_1 : List UInt8 := [184, 0, 230, 46, 167, 0, 4, 2, 172]
abbrev dktX0_border_1 : List UInt8 := dkwX0_border_1 ++ []
def dkwX0_border_0 : List UInt8 := [27, 184, 0, 160, 153, 0, 25, 28, 3, 4, 184, 0, 66, 153, 0, 16, 42, 180, 0, 44, 27, 28]
abbrev dktX0_border_0 : List UInt8 := dkwX0_border_0 ++ dktX0_border_1
theorem dksX0_border_0 : cX0_border.data.toList.drop 0 = dktX0_border_0 := by decide +kernel
theorem dksX0_border_1 : cX0_border.data.toList.drop 22 = dktX0_border_1 := dk_seg dksX0_border_0 22 rfl rfl
theorem dX0_border_0 : decode cX0_border 0 = .ok (.iload_n 1, 1) := dk_27 (dk_at dksX0_border_0 0 rfl rfl)
theorem dX0_border_1 : decode cX0_border 1 = .ok (.invokestatic 160, 3) := dk_184 0 160 (dk_at dksX0_border_0 1 rfl rfl)
theorem dX0_border_4 : decode cX0_border 4 = .ok (.ifCond .eq 25, 3) := dk_153 0 25 (dk_at dksX0_border_0 4 rfl rfl)
theorem dX0_border_7 : decode cX0_border 7 = .ok (.iload_n 2, 1) := dk_28 (dk_at dksX0_border_0 7 rfl rfl)
theorem dX0_border_8 : decode cX0_border 8 = .ok (.iconst 0, 1) := dk_3 (dk_at dksX0_border_0 8 rfl rfl)
theorem dX0_border_9 : decode cX0_border 9 = .ok (.iconst 1, 1) := dk_4 (dk_at dksX0_border_0 9 rfl rfl)
theorem dX0_border_10 : decode cX0_border 10 = .ok (.invokestatic 66, 3) := dk_184 0 66 (dk_at dksX0_border_0 10 rfl rfl)
theorem dX0_border_13 : decode cX0_border 13 = .ok (.ifCond .eq 16, 3) := dk_153 0 16 (dk_at dksX0_border_0 13 rfl rfl)
theorem dX0_border_16 : decode cX0_border 16 = .ok (.aload_n 0, 1) := dk_42 (dk_at dksX0_border_0 16 rfl rfl)
theorem dX0_border_17 : decode cX0_border 17 = .ok (.getfield 44, 3) := dk_180 0 44 (dk_at dksX0_border_0 17 rfl rfl)
theorem dX0_border_20 : decode cX0_border 20 = .ok (.iload_n 1, 1) := dk_27 (dk_at dksX0_border_0 20 rfl rfl)
theorem dX0_border_21 : decode cX0_border 21 = .ok (.iload_n 2, 1) := dk_28 (dk_at dksX0_border_0 21 rfl rfl)
theorem dX0_border_22 : decode cX0_border 22 = .ok (.invokestatic 230, 3) := dk_184 0 230 (dk_at dksX0_border_1 0 rfl rfl)
theorem dX0_border_25 : decode cX0_border 25 = .ok (.iaload, 1) := dk_46 (dk_at dksX0_border_1 3 rfl rfl)
theorem dX0_border_26 : decode cX0_border 26 = .ok (.goto 4, 3) := dk_167 0 4 (dk_at dksX0_border_1 4 rfl rfl)
theorem dX0_border_29 : decode cX0_border 29 = .ok (.iconst (-1), 1) := dk_2 (dk_at dksX0_border_1 7 rfl rfl)
theorem dX0_border_30 : decode cX0_border 30 = .ok (.ireturn, 1) := dk_172 (dk_at dksX0_border_1 8 rfl rfl)
abbrev cX0_borderAt : ByteArray := prog_1_method_44_code
def yX0_borderAt : MethodName := ⟨RX0, "borderAt", "(II)I"⟩
def dkwX0_borderAt_0 : List UInt8 := [27, 154, 0, 7, 4, 167, 0, 4, 8, 26, 96, 172]
abbrev dktX0_borderAt_0 : List UInt8 := dkwX0_borderAt_0 ++ []
theorem dksX0_borderAt_0 : cX0_borderAt.data.toList.drop 0 = dktX0_borderAt_0 := by decide +kernel
theorem dX0_borderAt_0 : decode cX0_borderAt 0 = .ok (.iload_n 1, 1) := dk_27 (dk_at dksX0_borderAt_0 0 rfl rfl)
theorem dX0_borderAt_1 : decode cX0_borderAt 1 = .ok (.ifCond .ne 7, 3) := dk_154 0 7 (dk_at dksX0_borderAt_0 1 rfl rfl)
theorem dX0_borderAt_4 : decode cX0_borderAt 4 = .ok (.iconst 1, 1) := dk_4 (dk_at dksX0_borderAt_0 4 rfl rfl)
theorem dX0_borderAt_5 : decode cX0_borderAt 5 = .ok (.goto 4, 3) := dk_167 0 4 (dk_at dksX0_borderAt_0 5 rfl rfl)
theorem dX0_borderAt_8 : decode cX0_borderAt 8 = .ok (.iconst 5, 1) := dk_8 (dk_at dksX0_borderAt_0 8 rfl rfl)
theorem dX0_borderAt_9 : decode cX0_borderAt 9 = .ok (.iload_n 0, 1) := dk_26 (dk_at dksX0_borderAt_0 9 rfl rfl)
theorem dX0_borderAt_10 : decode cX0_borderAt 10 = .ok (.iadd, 1) := dk_96 (dk_at dksX0_borderAt_0 10 rfl rfl)
theorem dX0_borderAt_11 : decode cX0_borderAt 11 = .ok (.ireturn, 1) := dk_172 (dk_at dksX0_borderAt_0 11 rfl rfl)
abbrev cX0_strike : ByteArray := prog_1_method_48_code
def yX0_strike : MethodName := ⟨RX0, "strike", "(II)I"⟩
def dkwX0_strike_3 : List UInt8 := [184, 0, 239, 172]
abbrev dktX0_strike_3 : List UInt8 := dkwX0_strike_3 ++ []
def dkwX0_strike_2 : List UInt8 := [16, 254, 172, 42, 182, 0, 233, 42, 180, 0, 44, 3, 92, 46, 4, 27, 120, 130, 79, 42, 182, 0, 236]
abbrev dktX0_strike_2 : List UInt8 := dkwX0_strike_2 ++ dktX0_strike_3
def dkwX0_strike_1 : List UInt8 := [28, 154, 0, 7, 4, 167, 0, 4, 3, 160, 0, 6, 16, 252, 172, 42, 180, 0, 176, 16, 40, 160, 0, 6]
abbrev dktX0_strike_1 : List UInt8 := dkwX0_strike_1 ++ dktX0_strike_2
def dkwX0_strike_0 : List UInt8 := [42, 27, 182, 0, 209, 153, 0, 12, 28, 3, 4, 184, 0, 66, 154, 0, 5, 2, 172, 42, 27, 182, 0, 196]
abbrev dktX0_strike_0 : List UInt8 := dkwX0_strike_0 ++ dktX0_strike_1
theorem dksX0_strike_0 : cX0_strike.data.toList.drop 0 = dktX0_strike_0 := by decide +kernel
theorem dksX0_strike_1 : cX0_strike.data.toList.drop 24 = dktX0_strike_1 := dk_seg dksX0_strike_0 24 rfl rfl
theorem dksX0_strike_2 : cX0_strike.data.toList.drop 48 = dktX0_strike_2 := dk_seg dksX0_strike_1 24 rfl rfl
theorem dksX0_strike_3 : cX0_strike.data.toList.drop 71 = dktX0_strike_3 := dk_seg dksX0_strike_2 23 rfl rfl
theorem dX0_strike_0 : decode cX0_strike 0 = .ok (.aload_n 0, 1) := dk_42 (dk_at dksX0_strike_0 0 rfl rfl)
theorem dX0_strike_1 : decode cX0_strike 1 = .ok (.iload_n 1, 1) := dk_27 (dk_at dksX0_strike_0 1 rfl rfl)
theorem dX0_strike_2 : decode cX0_strike 2 = .ok (.invokevirtual 209, 3) := dk_182 0 209 (dk_at dksX0_strike_0 2 rfl rfl)
theorem dX0_strike_5 : decode cX0_strike 5 = .ok (.ifCond .eq 12, 3) := dk_153 0 12 (dk_at dksX0_strike_0 5 rfl rfl)
theorem dX0_strike_8 : decode cX0_strike 8 = .ok (.iload_n 2, 1) := dk_28 (dk_at dksX0_strike_0 8 rfl rfl)
theorem dX0_strike_9 : decode cX0_strike 9 = .ok (.iconst 0, 1) := dk_3 (dk_at dksX0_strike_0 9 rfl rfl)
theorem dX0_strike_10 : decode cX0_strike 10 = .ok (.iconst 1, 1) := dk_4 (dk_at dksX0_strike_0 10 rfl rfl)
theorem dX0_strike_11 : decode cX0_strike 11 = .ok (.invokestatic 66, 3) := dk_184 0 66 (dk_at dksX0_strike_0 11 rfl rfl)
theorem dX0_strike_14 : decode cX0_strike 14 = .ok (.ifCond .ne 5, 3) := dk_154 0 5 (dk_at dksX0_strike_0 14 rfl rfl)
theorem dX0_strike_17 : decode cX0_strike 17 = .ok (.iconst (-1), 1) := dk_2 (dk_at dksX0_strike_0 17 rfl rfl)
theorem dX0_strike_18 : decode cX0_strike 18 = .ok (.ireturn, 1) := dk_172 (dk_at dksX0_strike_0 18 rfl rfl)
theorem dX0_strike_19 : decode cX0_strike 19 = .ok (.aload_n 0, 1) := dk_42 (dk_at dksX0_strike_0 19 rfl rfl)
theorem dX0_strike_20 : decode cX0_strike 20 = .ok (.iload_n 1, 1) := dk_27 (dk_at dksX0_strike_0 20 rfl rfl)
theorem dX0_strike_21 : decode cX0_strike 21 = .ok (.invokevirtual 196, 3) := dk_182 0 196 (dk_at dksX0_strike_0 21 rfl rfl)
theorem dX0_strike_24 : decode cX0_strike 24 = .ok (.iload_n 2, 1) := dk_28 (dk_at dksX0_strike_1 0 rfl rfl)
theorem dX0_strike_25 : decode cX0_strike 25 = .ok (.ifCond .ne 7, 3) := dk_154 0 7 (dk_at dksX0_strike_1 1 rfl rfl)
theorem dX0_strike_28 : decode cX0_strike 28 = .ok (.iconst 1, 1) := dk_4 (dk_at dksX0_strike_1 4 rfl rfl)
theorem dX0_strike_29 : decode cX0_strike 29 = .ok (.goto 4, 3) := dk_167 0 4 (dk_at dksX0_strike_1 5 rfl rfl)
theorem dX0_strike_32 : decode cX0_strike 32 = .ok (.iconst 0, 1) := dk_3 (dk_at dksX0_strike_1 8 rfl rfl)
theorem dX0_strike_33 : decode cX0_strike 33 = .ok (.if_icmp .ne 6, 3) := dk_160 0 6 (dk_at dksX0_strike_1 9 rfl rfl)
theorem dX0_strike_36 : decode cX0_strike 36 = .ok (.bipush (-4), 2) := dk_16 252 (dk_at dksX0_strike_1 12 rfl rfl)
theorem dX0_strike_38 : decode cX0_strike 38 = .ok (.ireturn, 1) := dk_172 (dk_at dksX0_strike_1 14 rfl rfl)
theorem dX0_strike_39 : decode cX0_strike 39 = .ok (.aload_n 0, 1) := dk_42 (dk_at dksX0_strike_1 15 rfl rfl)
theorem dX0_strike_40 : decode cX0_strike 40 = .ok (.getfield 176, 3) := dk_180 0 176 (dk_at dksX0_strike_1 16 rfl rfl)
theorem dX0_strike_43 : decode cX0_strike 43 = .ok (.bipush 40, 2) := dk_16 40 (dk_at dksX0_strike_1 19 rfl rfl)
theorem dX0_strike_45 : decode cX0_strike 45 = .ok (.if_icmp .ne 6, 3) := dk_160 0 6 (dk_at dksX0_strike_1 21 rfl rfl)
theorem dX0_strike_48 : decode cX0_strike 48 = .ok (.bipush (-2), 2) := dk_16 254 (dk_at dksX0_strike_2 0 rfl rfl)
theorem dX0_strike_50 : decode cX0_strike 50 = .ok (.ireturn, 1) := dk_172 (dk_at dksX0_strike_2 2 rfl rfl)
theorem dX0_strike_51 : decode cX0_strike 51 = .ok (.aload_n 0, 1) := dk_42 (dk_at dksX0_strike_2 3 rfl rfl)
theorem dX0_strike_52 : decode cX0_strike 52 = .ok (.invokevirtual 233, 3) := dk_182 0 233 (dk_at dksX0_strike_2 4 rfl rfl)
theorem dX0_strike_55 : decode cX0_strike 55 = .ok (.aload_n 0, 1) := dk_42 (dk_at dksX0_strike_2 7 rfl rfl)
theorem dX0_strike_56 : decode cX0_strike 56 = .ok (.getfield 44, 3) := dk_180 0 44 (dk_at dksX0_strike_2 8 rfl rfl)
theorem dX0_strike_59 : decode cX0_strike 59 = .ok (.iconst 0, 1) := dk_3 (dk_at dksX0_strike_2 11 rfl rfl)
theorem dX0_strike_60 : decode cX0_strike 60 = .ok (.dup2, 1) := dk_92 (dk_at dksX0_strike_2 12 rfl rfl)
theorem dX0_strike_61 : decode cX0_strike 61 = .ok (.iaload, 1) := dk_46 (dk_at dksX0_strike_2 13 rfl rfl)
theorem dX0_strike_62 : decode cX0_strike 62 = .ok (.iconst 1, 1) := dk_4 (dk_at dksX0_strike_2 14 rfl rfl)
theorem dX0_strike_63 : decode cX0_strike 63 = .ok (.iload_n 1, 1) := dk_27 (dk_at dksX0_strike_2 15 rfl rfl)
theorem dX0_strike_64 : decode cX0_strike 64 = .ok (.ishl, 1) := dk_120 (dk_at dksX0_strike_2 16 rfl rfl)
theorem dX0_strike_65 : decode cX0_strike 65 = .ok (.ixor, 1) := dk_130 (dk_at dksX0_strike_2 17 rfl rfl)
theorem dX0_strike_66 : decode cX0_strike 66 = .ok (.iastore, 1) := dk_79 (dk_at dksX0_strike_2 18 rfl rfl)
theorem dX0_strike_67 : decode cX0_strike 67 = .ok (.aload_n 0, 1) := dk_42 (dk_at dksX0_strike_2 19 rfl rfl)
theorem dX0_strike_68 : decode cX0_strike 68 = .ok (.invokevirtual 236, 3) := dk_182 0 236 (dk_at dksX0_strike_2 20 rfl rfl)
theorem dX0_strike_71 : decode cX0_strike 71 = .ok (.invokestatic 239, 3) := dk_184 0 239 (dk_at dksX0_strike_3 0 rfl rfl)
theorem dX0_strike_74 : decode cX0_strike 74 = .ok (.ireturn, 1) := dk_172 (dk_at dksX0_strike_3 3 rfl rfl)
abbrev cX0_remember : ByteArray := prog_1_method_46_code
def yX0_remember : MethodName := ⟨RX0, "remember", "()V"⟩
def dkwX0_remember_1 : List UInt8 := [180, 0, 176, 4, 96, 181, 0, 176, 177]
abbrev dktX0_remember_1 : List UInt8 := dkwX0_remember_1 ++ []
def dkwX0_remember_0 : List UInt8 := [42, 180, 0, 44, 3, 42, 180, 0, 53, 16, 9, 42, 180, 0, 176, 104, 16, 9, 184, 0, 88, 42, 89]
abbrev dktX0_remember_0 : List UInt8 := dkwX0_remember_0 ++ dktX0_remember_1
theorem dksX0_remember_0 : cX0_remember.data.toList.drop 0 = dktX0_remember_0 := by decide +kernel
theorem dksX0_remember_1 : cX0_remember.data.toList.drop 23 = dktX0_remember_1 := dk_seg dksX0_remember_0 23 rfl rfl
theorem dX0_remember_0 : decode cX0_remember 0 = .ok (.aload_n 0, 1) := dk_42 (dk_at dksX0_remember_0 0 rfl rfl)
theorem dX0_remember_1 : decode cX0_remember 1 = .ok (.getfield 44, 3) := dk_180 0 44 (dk_at dksX0_remember_0 1 rfl rfl)
theorem dX0_remember_4 : decode cX0_remember 4 = .ok (.iconst 0, 1) := dk_3 (dk_at dksX0_remember_0 4 rfl rfl)
theorem dX0_remember_5 : decode cX0_remember 5 = .ok (.aload_n 0, 1) := dk_42 (dk_at dksX0_remember_0 5 rfl rfl)
theorem dX0_remember_6 : decode cX0_remember 6 = .ok (.getfield 53, 3) := dk_180 0 53 (dk_at dksX0_remember_0 6 rfl rfl)
theorem dX0_remember_9 : decode cX0_remember 9 = .ok (.bipush 9, 2) := dk_16 9 (dk_at dksX0_remember_0 9 rfl rfl)
theorem dX0_remember_11 : decode cX0_remember 11 = .ok (.aload_n 0, 1) := dk_42 (dk_at dksX0_remember_0 11 rfl rfl)
theorem dX0_remember_12 : decode cX0_remember 12 = .ok (.getfield 176, 3) := dk_180 0 176 (dk_at dksX0_remember_0 12 rfl rfl)
theorem dX0_remember_15 : decode cX0_remember 15 = .ok (.imul, 1) := dk_104 (dk_at dksX0_remember_0 15 rfl rfl)
theorem dX0_remember_16 : decode cX0_remember 16 = .ok (.bipush 9, 2) := dk_16 9 (dk_at dksX0_remember_0 16 rfl rfl)
theorem dX0_remember_18 : decode cX0_remember 18 = .ok (.invokestatic 88, 3) := dk_184 0 88 (dk_at dksX0_remember_0 18 rfl rfl)
theorem dX0_remember_21 : decode cX0_remember 21 = .ok (.aload_n 0, 1) := dk_42 (dk_at dksX0_remember_0 21 rfl rfl)
theorem dX0_remember_22 : decode cX0_remember 22 = .ok (.dup, 1) := dk_89 (dk_at dksX0_remember_0 22 rfl rfl)
theorem dX0_remember_23 : decode cX0_remember 23 = .ok (.getfield 176, 3) := dk_180 0 176 (dk_at dksX0_remember_1 0 rfl rfl)
theorem dX0_remember_26 : decode cX0_remember 26 = .ok (.iconst 1, 1) := dk_4 (dk_at dksX0_remember_1 3 rfl rfl)
theorem dX0_remember_27 : decode cX0_remember 27 = .ok (.iadd, 1) := dk_96 (dk_at dksX0_remember_1 4 rfl rfl)
theorem dX0_remember_28 : decode cX0_remember 28 = .ok (.putfield 176, 3) := dk_181 0 176 (dk_at dksX0_remember_1 5 rfl rfl)
theorem dX0_remember_31 : decode cX0_remember 31 = .ok (.return_, 1) := dk_177 (dk_at dksX0_remember_1 8 rfl rfl)
abbrev cX0_onSet : ByteArray := prog_1_method_47_code
def yX0_onSet : MethodName := ⟨RX0, "onSet", "()I"⟩
def dkwX0_onSet_0 : List UInt8 := [4, 42, 180, 0, 122, 120, 4, 100, 42, 180, 0, 44, 3, 46, 2, 130, 126, 172]
abbrev dktX0_onSet_0 : List UInt8 := dkwX0_onSet_0 ++ []
theorem dksX0_onSet_0 : cX0_onSet.data.toList.drop 0 = dktX0_onSet_0 := by decide +kernel
theorem dX0_onSet_0 : decode cX0_onSet 0 = .ok (.iconst 1, 1) := dk_4 (dk_at dksX0_onSet_0 0 rfl rfl)
theorem dX0_onSet_1 : decode cX0_onSet 1 = .ok (.aload_n 0, 1) := dk_42 (dk_at dksX0_onSet_0 1 rfl rfl)
theorem dX0_onSet_2 : decode cX0_onSet 2 = .ok (.getfield 122, 3) := dk_180 0 122 (dk_at dksX0_onSet_0 2 rfl rfl)
theorem dX0_onSet_5 : decode cX0_onSet 5 = .ok (.ishl, 1) := dk_120 (dk_at dksX0_onSet_0 5 rfl rfl)
theorem dX0_onSet_6 : decode cX0_onSet 6 = .ok (.iconst 1, 1) := dk_4 (dk_at dksX0_onSet_0 6 rfl rfl)
theorem dX0_onSet_7 : decode cX0_onSet 7 = .ok (.isub, 1) := dk_100 (dk_at dksX0_onSet_0 7 rfl rfl)
theorem dX0_onSet_8 : decode cX0_onSet 8 = .ok (.aload_n 0, 1) := dk_42 (dk_at dksX0_onSet_0 8 rfl rfl)
theorem dX0_onSet_9 : decode cX0_onSet 9 = .ok (.getfield 44, 3) := dk_180 0 44 (dk_at dksX0_onSet_0 9 rfl rfl)
theorem dX0_onSet_12 : decode cX0_onSet 12 = .ok (.iconst 0, 1) := dk_3 (dk_at dksX0_onSet_0 12 rfl rfl)
theorem dX0_onSet_13 : decode cX0_onSet 13 = .ok (.iaload, 1) := dk_46 (dk_at dksX0_onSet_0 13 rfl rfl)
theorem dX0_onSet_14 : decode cX0_onSet 14 = .ok (.iconst (-1), 1) := dk_2 (dk_at dksX0_onSet_0 14 rfl rfl)
theorem dX0_onSet_15 : decode cX0_onSet 15 = .ok (.ixor, 1) := dk_130 (dk_at dksX0_onSet_0 15 rfl rfl)
theorem dX0_onSet_16 : decode cX0_onSet 16 = .ok (.iand, 1) := dk_126 (dk_at dksX0_onSet_0 16 rfl rfl)
theorem dX0_onSet_17 : decode cX0_onSet 17 = .ok (.ireturn, 1) := dk_172 (dk_at dksX0_onSet_0 17 rfl rfl)
abbrev cX0_move : ByteArray := prog_1_method_51_code
def yX0_move : MethodName := ⟨RX0, "move", "(III)I"⟩
def dkwX0_move_2 : List UInt8 := [160, 0, 6, 16, 254, 172, 42, 182, 0, 233, 42, 180, 0, 44, 27, 28, 184, 0, 230, 29, 79, 21, 4, 172]
abbrev dktX0_move_2 : List UInt8 := dkwX0_move_2 ++ []
def dkwX0_move_1 : List UInt8 := [27, 28, 29, 182, 0, 246, 153, 0, 9, 21, 4, 29, 160, 0, 6, 16, 252, 172, 42, 180, 0, 176, 16, 40]
abbrev dktX0_move_1 : List UInt8 := dkwX0_move_1 ++ dktX0_move_2
def dkwX0_move_0 : List UInt8 := [27, 28, 29, 184, 0, 243, 154, 0, 5, 2, 172, 42, 180, 0, 44, 27, 28, 184, 0, 230, 46, 54, 4, 42]
abbrev dktX0_move_0 : List UInt8 := dkwX0_move_0 ++ dktX0_move_1
theorem dksX0_move_0 : cX0_move.data.toList.drop 0 = dktX0_move_0 := by decide +kernel
theorem dksX0_move_1 : cX0_move.data.toList.drop 24 = dktX0_move_1 := dk_seg dksX0_move_0 24 rfl rfl
theorem dksX0_move_2 : cX0_move.data.toList.drop 48 = dktX0_move_2 := dk_seg dksX0_move_1 24 rfl rfl
theorem dX0_move_0 : decode cX0_move 0 = .ok (.iload_n 1, 1) := dk_27 (dk_at dksX0_move_0 0 rfl rfl)
theorem dX0_move_1 : decode cX0_move 1 = .ok (.iload_n 2, 1) := dk_28 (dk_at dksX0_move_0 1 rfl rfl)
theorem dX0_move_2 : decode cX0_move 2 = .ok (.iload_n 3, 1) := dk_29 (dk_at dksX0_move_0 2 rfl rfl)
theorem dX0_move_3 : decode cX0_move 3 = .ok (.invokestatic 243, 3) := dk_184 0 243 (dk_at dksX0_move_0 3 rfl rfl)
theorem dX0_move_6 : decode cX0_move 6 = .ok (.ifCond .ne 5, 3) := dk_154 0 5 (dk_at dksX0_move_0 6 rfl rfl)
theorem dX0_move_9 : decode cX0_move 9 = .ok (.iconst (-1), 1) := dk_2 (dk_at dksX0_move_0 9 rfl rfl)
theorem dX0_move_10 : decode cX0_move 10 = .ok (.ireturn, 1) := dk_172 (dk_at dksX0_move_0 10 rfl rfl)
theorem dX0_move_11 : decode cX0_move 11 = .ok (.aload_n 0, 1) := dk_42 (dk_at dksX0_move_0 11 rfl rfl)
theorem dX0_move_12 : decode cX0_move 12 = .ok (.getfield 44, 3) := dk_180 0 44 (dk_at dksX0_move_0 12 rfl rfl)
theorem dX0_move_15 : decode cX0_move 15 = .ok (.iload_n 1, 1) := dk_27 (dk_at dksX0_move_0 15 rfl rfl)
theorem dX0_move_16 : decode cX0_move 16 = .ok (.iload_n 2, 1) := dk_28 (dk_at dksX0_move_0 16 rfl rfl)
theorem dX0_move_17 : decode cX0_move 17 = .ok (.invokestatic 230, 3) := dk_184 0 230 (dk_at dksX0_move_0 17 rfl rfl)
theorem dX0_move_20 : decode cX0_move 20 = .ok (.iaload, 1) := dk_46 (dk_at dksX0_move_0 20 rfl rfl)
theorem dX0_move_21 : decode cX0_move 21 = .ok (.istore 4, 2) := dk_54 4 (dk_at dksX0_move_0 21 rfl rfl)
theorem dX0_move_23 : decode cX0_move 23 = .ok (.aload_n 0, 1) := dk_42 (dk_at dksX0_move_0 23 rfl rfl)
theorem dX0_move_24 : decode cX0_move 24 = .ok (.iload_n 1, 1) := dk_27 (dk_at dksX0_move_1 0 rfl rfl)
theorem dX0_move_25 : decode cX0_move 25 = .ok (.iload_n 2, 1) := dk_28 (dk_at dksX0_move_1 1 rfl rfl)
theorem dX0_move_26 : decode cX0_move 26 = .ok (.iload_n 3, 1) := dk_29 (dk_at dksX0_move_1 2 rfl rfl)
theorem dX0_move_27 : decode cX0_move 27 = .ok (.invokevirtual 246, 3) := dk_182 0 246 (dk_at dksX0_move_1 3 rfl rfl)
theorem dX0_move_30 : decode cX0_move 30 = .ok (.ifCond .eq 9, 3) := dk_153 0 9 (dk_at dksX0_move_1 6 rfl rfl)
theorem dX0_move_33 : decode cX0_move 33 = .ok (.iload 4, 2) := dk_21 4 (dk_at dksX0_move_1 9 rfl rfl)
theorem dX0_move_35 : decode cX0_move 35 = .ok (.iload_n 3, 1) := dk_29 (dk_at dksX0_move_1 11 rfl rfl)
theorem dX0_move_36 : decode cX0_move 36 = .ok (.if_icmp .ne 6, 3) := dk_160 0 6 (dk_at dksX0_move_1 12 rfl rfl)
theorem dX0_move_39 : decode cX0_move 39 = .ok (.bipush (-4), 2) := dk_16 252 (dk_at dksX0_move_1 15 rfl rfl)
theorem dX0_move_41 : decode cX0_move 41 = .ok (.ireturn, 1) := dk_172 (dk_at dksX0_move_1 17 rfl rfl)
theorem dX0_move_42 : decode cX0_move 42 = .ok (.aload_n 0, 1) := dk_42 (dk_at dksX0_move_1 18 rfl rfl)
theorem dX0_move_43 : decode cX0_move 43 = .ok (.getfield 176, 3) := dk_180 0 176 (dk_at dksX0_move_1 19 rfl rfl)
theorem dX0_move_46 : decode cX0_move 46 = .ok (.bipush 40, 2) := dk_16 40 (dk_at dksX0_move_1 22 rfl rfl)
theorem dX0_move_48 : decode cX0_move 48 = .ok (.if_icmp .ne 6, 3) := dk_160 0 6 (dk_at dksX0_move_2 0 rfl rfl)
theorem dX0_move_51 : decode cX0_move 51 = .ok (.bipush (-2), 2) := dk_16 254 (dk_at dksX0_move_2 3 rfl rfl)
theorem dX0_move_53 : decode cX0_move 53 = .ok (.ireturn, 1) := dk_172 (dk_at dksX0_move_2 5 rfl rfl)
theorem dX0_move_54 : decode cX0_move 54 = .ok (.aload_n 0, 1) := dk_42 (dk_at dksX0_move_2 6 rfl rfl)
theorem dX0_move_55 : decode cX0_move 55 = .ok (.invokevirtual 233, 3) := dk_182 0 233 (dk_at dksX0_move_2 7 rfl rfl)
theorem dX0_move_58 : decode cX0_move 58 = .ok (.aload_n 0, 1) := dk_42 (dk_at dksX0_move_2 10 rfl rfl)
theorem dX0_move_59 : decode cX0_move 59 = .ok (.getfield 44, 3) := dk_180 0 44 (dk_at dksX0_move_2 11 rfl rfl)
theorem dX0_move_62 : decode cX0_move 62 = .ok (.iload_n 1, 1) := dk_27 (dk_at dksX0_move_2 14 rfl rfl)
theorem dX0_move_63 : decode cX0_move 63 = .ok (.iload_n 2, 1) := dk_28 (dk_at dksX0_move_2 15 rfl rfl)
theorem dX0_move_64 : decode cX0_move 64 = .ok (.invokestatic 230, 3) := dk_184 0 230 (dk_at dksX0_move_2 16 rfl rfl)
theorem dX0_move_67 : decode cX0_move 67 = .ok (.iload_n 3, 1) := dk_29 (dk_at dksX0_move_2 19 rfl rfl)
theorem dX0_move_68 : decode cX0_move 68 = .ok (.iastore, 1) := dk_79 (dk_at dksX0_move_2 20 rfl rfl)
theorem dX0_move_69 : decode cX0_move 69 = .ok (.iload 4, 2) := dk_21 4 (dk_at dksX0_move_2 21 rfl rfl)
theorem dX0_move_71 : decode cX0_move 71 = .ok (.ireturn, 1) := dk_172 (dk_at dksX0_move_2 23 rfl rfl)
abbrev cX0_isBorder : ByteArray := prog_1_method_49_code
def yX0_isBorder : MethodName := ⟨RX0, "isBorder", "(III)Z"⟩
def dkwX0_isBorder_1 : List UInt8 := [153, 0, 7, 4, 167, 0, 4, 3, 172]
abbrev dktX0_isBorder_1 : List UInt8 := dkwX0_isBorder_1 ++ []
def dkwX0_isBorder_0 : List UInt8 := [26, 184, 0, 160, 153, 0, 27, 27, 3, 4, 184, 0, 66, 153, 0, 18, 28, 27, 7, 27, 96, 184, 0, 66]
abbrev dktX0_isBorder_0 : List UInt8 := dkwX0_isBorder_0 ++ dktX0_isBorder_1
theorem dksX0_isBorder_0 : cX0_isBorder.data.toList.drop 0 = dktX0_isBorder_0 := by decide +kernel
theorem dksX0_isBorder_1 : cX0_isBorder.data.toList.drop 24 = dktX0_isBorder_1 := dk_seg dksX0_isBorder_0 24 rfl rfl
theorem dX0_isBorder_0 : decode cX0_isBorder 0 = .ok (.iload_n 0, 1) := dk_26 (dk_at dksX0_isBorder_0 0 rfl rfl)
theorem dX0_isBorder_1 : decode cX0_isBorder 1 = .ok (.invokestatic 160, 3) := dk_184 0 160 (dk_at dksX0_isBorder_0 1 rfl rfl)
theorem dX0_isBorder_4 : decode cX0_isBorder 4 = .ok (.ifCond .eq 27, 3) := dk_153 0 27 (dk_at dksX0_isBorder_0 4 rfl rfl)
theorem dX0_isBorder_7 : decode cX0_isBorder 7 = .ok (.iload_n 1, 1) := dk_27 (dk_at dksX0_isBorder_0 7 rfl rfl)
theorem dX0_isBorder_8 : decode cX0_isBorder 8 = .ok (.iconst 0, 1) := dk_3 (dk_at dksX0_isBorder_0 8 rfl rfl)
theorem dX0_isBorder_9 : decode cX0_isBorder 9 = .ok (.iconst 1, 1) := dk_4 (dk_at dksX0_isBorder_0 9 rfl rfl)
theorem dX0_isBorder_10 : decode cX0_isBorder 10 = .ok (.invokestatic 66, 3) := dk_184 0 66 (dk_at dksX0_isBorder_0 10 rfl rfl)
theorem dX0_isBorder_13 : decode cX0_isBorder 13 = .ok (.ifCond .eq 18, 3) := dk_153 0 18 (dk_at dksX0_isBorder_0 13 rfl rfl)
theorem dX0_isBorder_16 : decode cX0_isBorder 16 = .ok (.iload_n 2, 1) := dk_28 (dk_at dksX0_isBorder_0 16 rfl rfl)
theorem dX0_isBorder_17 : decode cX0_isBorder 17 = .ok (.iload_n 1, 1) := dk_27 (dk_at dksX0_isBorder_0 17 rfl rfl)
theorem dX0_isBorder_18 : decode cX0_isBorder 18 = .ok (.iconst 4, 1) := dk_7 (dk_at dksX0_isBorder_0 18 rfl rfl)
theorem dX0_isBorder_19 : decode cX0_isBorder 19 = .ok (.iload_n 1, 1) := dk_27 (dk_at dksX0_isBorder_0 19 rfl rfl)
theorem dX0_isBorder_20 : decode cX0_isBorder 20 = .ok (.iadd, 1) := dk_96 (dk_at dksX0_isBorder_0 20 rfl rfl)
theorem dX0_isBorder_21 : decode cX0_isBorder 21 = .ok (.invokestatic 66, 3) := dk_184 0 66 (dk_at dksX0_isBorder_0 21 rfl rfl)
theorem dX0_isBorder_24 : decode cX0_isBorder 24 = .ok (.ifCond .eq 7, 3) := dk_153 0 7 (dk_at dksX0_isBorder_1 0 rfl rfl)
theorem dX0_isBorder_27 : decode cX0_isBorder 27 = .ok (.iconst 1, 1) := dk_4 (dk_at dksX0_isBorder_1 3 rfl rfl)
theorem dX0_isBorder_28 : decode cX0_isBorder 28 = .ok (.goto 4, 3) := dk_167 0 4 (dk_at dksX0_isBorder_1 4 rfl rfl)
theorem dX0_isBorder_31 : decode cX0_isBorder 31 = .ok (.iconst 0, 1) := dk_3 (dk_at dksX0_isBorder_1 7 rfl rfl)
theorem dX0_isBorder_32 : decode cX0_isBorder 32 = .ok (.ireturn, 1) := dk_172 (dk_at dksX0_isBorder_1 8 rfl rfl)
abbrev cX0_isBelow : ByteArray := prog_1_method_50_code
def yX0_isBelow : MethodName := ⟨RX0, "isBelow", "(III)Z"⟩
def dkwX0_isBelow_1 : List UInt8 := [29, 42, 180, 0, 44, 4, 27, 96, 46, 164, 0, 7, 4, 167, 0, 4, 3, 172]
abbrev dktX0_isBelow_1 : List UInt8 := dkwX0_isBelow_1 ++ []
def dkwX0_isBelow_0 : List UInt8 := [28, 154, 0, 23, 29, 42, 180, 0, 44, 8, 27, 96, 46, 162, 0, 7, 4, 167, 0, 24, 3, 167, 0, 20]
abbrev dktX0_isBelow_0 : List UInt8 := dkwX0_isBelow_0 ++ dktX0_isBelow_1
theorem dksX0_isBelow_0 : cX0_isBelow.data.toList.drop 0 = dktX0_isBelow_0 := by decide +kernel
theorem dksX0_isBelow_1 : cX0_isBelow.data.toList.drop 24 = dktX0_isBelow_1 := dk_seg dksX0_isBelow_0 24 rfl rfl
theorem dX0_isBelow_0 : decode cX0_isBelow 0 = .ok (.iload_n 2, 1) := dk_28 (dk_at dksX0_isBelow_0 0 rfl rfl)
theorem dX0_isBelow_1 : decode cX0_isBelow 1 = .ok (.ifCond .ne 23, 3) := dk_154 0 23 (dk_at dksX0_isBelow_0 1 rfl rfl)
theorem dX0_isBelow_4 : decode cX0_isBelow 4 = .ok (.iload_n 3, 1) := dk_29 (dk_at dksX0_isBelow_0 4 rfl rfl)
theorem dX0_isBelow_5 : decode cX0_isBelow 5 = .ok (.aload_n 0, 1) := dk_42 (dk_at dksX0_isBelow_0 5 rfl rfl)
theorem dX0_isBelow_6 : decode cX0_isBelow 6 = .ok (.getfield 44, 3) := dk_180 0 44 (dk_at dksX0_isBelow_0 6 rfl rfl)
theorem dX0_isBelow_9 : decode cX0_isBelow 9 = .ok (.iconst 5, 1) := dk_8 (dk_at dksX0_isBelow_0 9 rfl rfl)
theorem dX0_isBelow_10 : decode cX0_isBelow 10 = .ok (.iload_n 1, 1) := dk_27 (dk_at dksX0_isBelow_0 10 rfl rfl)
theorem dX0_isBelow_11 : decode cX0_isBelow 11 = .ok (.iadd, 1) := dk_96 (dk_at dksX0_isBelow_0 11 rfl rfl)
theorem dX0_isBelow_12 : decode cX0_isBelow 12 = .ok (.iaload, 1) := dk_46 (dk_at dksX0_isBelow_0 12 rfl rfl)
theorem dX0_isBelow_13 : decode cX0_isBelow 13 = .ok (.if_icmp .ge 7, 3) := dk_162 0 7 (dk_at dksX0_isBelow_0 13 rfl rfl)
theorem dX0_isBelow_16 : decode cX0_isBelow 16 = .ok (.iconst 1, 1) := dk_4 (dk_at dksX0_isBelow_0 16 rfl rfl)
theorem dX0_isBelow_17 : decode cX0_isBelow 17 = .ok (.goto 24, 3) := dk_167 0 24 (dk_at dksX0_isBelow_0 17 rfl rfl)
theorem dX0_isBelow_20 : decode cX0_isBelow 20 = .ok (.iconst 0, 1) := dk_3 (dk_at dksX0_isBelow_0 20 rfl rfl)
theorem dX0_isBelow_21 : decode cX0_isBelow 21 = .ok (.goto 20, 3) := dk_167 0 20 (dk_at dksX0_isBelow_0 21 rfl rfl)
theorem dX0_isBelow_24 : decode cX0_isBelow 24 = .ok (.iload_n 3, 1) := dk_29 (dk_at dksX0_isBelow_1 0 rfl rfl)
theorem dX0_isBelow_25 : decode cX0_isBelow 25 = .ok (.aload_n 0, 1) := dk_42 (dk_at dksX0_isBelow_1 1 rfl rfl)
theorem dX0_isBelow_26 : decode cX0_isBelow 26 = .ok (.getfield 44, 3) := dk_180 0 44 (dk_at dksX0_isBelow_1 2 rfl rfl)
theorem dX0_isBelow_29 : decode cX0_isBelow 29 = .ok (.iconst 1, 1) := dk_4 (dk_at dksX0_isBelow_1 5 rfl rfl)
theorem dX0_isBelow_30 : decode cX0_isBelow 30 = .ok (.iload_n 1, 1) := dk_27 (dk_at dksX0_isBelow_1 6 rfl rfl)
theorem dX0_isBelow_31 : decode cX0_isBelow 31 = .ok (.iadd, 1) := dk_96 (dk_at dksX0_isBelow_1 7 rfl rfl)
theorem dX0_isBelow_32 : decode cX0_isBelow 32 = .ok (.iaload, 1) := dk_46 (dk_at dksX0_isBelow_1 8 rfl rfl)
theorem dX0_isBelow_33 : decode cX0_isBelow 33 = .ok (.if_icmp .le 7, 3) := dk_164 0 7 (dk_at dksX0_isBelow_1 9 rfl rfl)
theorem dX0_isBelow_36 : decode cX0_isBelow 36 = .ok (.iconst 1, 1) := dk_4 (dk_at dksX0_isBelow_1 12 rfl rfl)
theorem dX0_isBelow_37 : decode cX0_isBelow 37 = .ok (.goto 4, 3) := dk_167 0 4 (dk_at dksX0_isBelow_1 13 rfl rfl)
theorem dX0_isBelow_40 : decode cX0_isBelow 40 = .ok (.iconst 0, 1) := dk_3 (dk_at dksX0_isBelow_1 16 rfl rfl)
theorem dX0_isBelow_41 : decode cX0_isBelow 41 = .ok (.ireturn, 1) := dk_172 (dk_at dksX0_isBelow_1 17 rfl rfl)
abbrev cX0_undo : ByteArray := prog_1_method_52_code
def yX0_undo : MethodName := ⟨RX0, "undo", "(I)I"⟩
def dkwX0_undo_2 : List UInt8 := [181, 0, 176, 28, 172]
abbrev dktX0_undo_2 : List UInt8 := dkwX0_undo_2 ++ []
def dkwX0_undo_1 : List UInt8 := [158, 0, 21, 42, 180, 0, 53, 16, 9, 27, 104, 42, 180, 0, 44, 3, 16, 9, 184, 0, 88, 42, 27]
abbrev dktX0_undo_1 : List UInt8 := dkwX0_undo_1 ++ dktX0_undo_2
def dkwX0_undo_0 : List UInt8 := [27, 3, 42, 180, 0, 176, 184, 0, 66, 154, 0, 5, 2, 172, 42, 180, 0, 176, 27, 100, 61, 28]
abbrev dktX0_undo_0 : List UInt8 := dkwX0_undo_0 ++ dktX0_undo_1
theorem dksX0_undo_0 : cX0_undo.data.toList.drop 0 = dktX0_undo_0 := by decide +kernel
theorem dksX0_undo_1 : cX0_undo.data.toList.drop 22 = dktX0_undo_1 := dk_seg dksX0_undo_0 22 rfl rfl
theorem dksX0_undo_2 : cX0_undo.data.toList.drop 45 = dktX0_undo_2 := dk_seg dksX0_undo_1 23 rfl rfl
theorem dX0_undo_0 : decode cX0_undo 0 = .ok (.iload_n 1, 1) := dk_27 (dk_at dksX0_undo_0 0 rfl rfl)
theorem dX0_undo_1 : decode cX0_undo 1 = .ok (.iconst 0, 1) := dk_3 (dk_at dksX0_undo_0 1 rfl rfl)
theorem dX0_undo_2 : decode cX0_undo 2 = .ok (.aload_n 0, 1) := dk_42 (dk_at dksX0_undo_0 2 rfl rfl)
theorem dX0_undo_3 : decode cX0_undo 3 = .ok (.getfield 176, 3) := dk_180 0 176 (dk_at dksX0_undo_0 3 rfl rfl)
theorem dX0_undo_6 : decode cX0_undo 6 = .ok (.invokestatic 66, 3) := dk_184 0 66 (dk_at dksX0_undo_0 6 rfl rfl)
theorem dX0_undo_9 : decode cX0_undo 9 = .ok (.ifCond .ne 5, 3) := dk_154 0 5 (dk_at dksX0_undo_0 9 rfl rfl)
theorem dX0_undo_12 : decode cX0_undo 12 = .ok (.iconst (-1), 1) := dk_2 (dk_at dksX0_undo_0 12 rfl rfl)
theorem dX0_undo_13 : decode cX0_undo 13 = .ok (.ireturn, 1) := dk_172 (dk_at dksX0_undo_0 13 rfl rfl)
theorem dX0_undo_14 : decode cX0_undo 14 = .ok (.aload_n 0, 1) := dk_42 (dk_at dksX0_undo_0 14 rfl rfl)
theorem dX0_undo_15 : decode cX0_undo 15 = .ok (.getfield 176, 3) := dk_180 0 176 (dk_at dksX0_undo_0 15 rfl rfl)
theorem dX0_undo_18 : decode cX0_undo 18 = .ok (.iload_n 1, 1) := dk_27 (dk_at dksX0_undo_0 18 rfl rfl)
theorem dX0_undo_19 : decode cX0_undo 19 = .ok (.isub, 1) := dk_100 (dk_at dksX0_undo_0 19 rfl rfl)
theorem dX0_undo_20 : decode cX0_undo 20 = .ok (.istore_n 2, 1) := dk_61 (dk_at dksX0_undo_0 20 rfl rfl)
theorem dX0_undo_21 : decode cX0_undo 21 = .ok (.iload_n 2, 1) := dk_28 (dk_at dksX0_undo_0 21 rfl rfl)
theorem dX0_undo_22 : decode cX0_undo 22 = .ok (.ifCond .le 21, 3) := dk_158 0 21 (dk_at dksX0_undo_1 0 rfl rfl)
theorem dX0_undo_25 : decode cX0_undo 25 = .ok (.aload_n 0, 1) := dk_42 (dk_at dksX0_undo_1 3 rfl rfl)
theorem dX0_undo_26 : decode cX0_undo 26 = .ok (.getfield 53, 3) := dk_180 0 53 (dk_at dksX0_undo_1 4 rfl rfl)
theorem dX0_undo_29 : decode cX0_undo 29 = .ok (.bipush 9, 2) := dk_16 9 (dk_at dksX0_undo_1 7 rfl rfl)
theorem dX0_undo_31 : decode cX0_undo 31 = .ok (.iload_n 1, 1) := dk_27 (dk_at dksX0_undo_1 9 rfl rfl)
theorem dX0_undo_32 : decode cX0_undo 32 = .ok (.imul, 1) := dk_104 (dk_at dksX0_undo_1 10 rfl rfl)
theorem dX0_undo_33 : decode cX0_undo 33 = .ok (.aload_n 0, 1) := dk_42 (dk_at dksX0_undo_1 11 rfl rfl)
theorem dX0_undo_34 : decode cX0_undo 34 = .ok (.getfield 44, 3) := dk_180 0 44 (dk_at dksX0_undo_1 12 rfl rfl)
theorem dX0_undo_37 : decode cX0_undo 37 = .ok (.iconst 0, 1) := dk_3 (dk_at dksX0_undo_1 15 rfl rfl)
theorem dX0_undo_38 : decode cX0_undo 38 = .ok (.bipush 9, 2) := dk_16 9 (dk_at dksX0_undo_1 16 rfl rfl)
theorem dX0_undo_40 : decode cX0_undo 40 = .ok (.invokestatic 88, 3) := dk_184 0 88 (dk_at dksX0_undo_1 18 rfl rfl)
theorem dX0_undo_43 : decode cX0_undo 43 = .ok (.aload_n 0, 1) := dk_42 (dk_at dksX0_undo_1 21 rfl rfl)
theorem dX0_undo_44 : decode cX0_undo 44 = .ok (.iload_n 1, 1) := dk_27 (dk_at dksX0_undo_1 22 rfl rfl)
theorem dX0_undo_45 : decode cX0_undo 45 = .ok (.putfield 176, 3) := dk_181 0 176 (dk_at dksX0_undo_2 0 rfl rfl)
theorem dX0_undo_48 : decode cX0_undo 48 = .ok (.iload_n 2, 1) := dk_28 (dk_at dksX0_undo_2 3 rfl rfl)
theorem dX0_undo_49 : decode cX0_undo 49 = .ok (.ireturn, 1) := dk_172 (dk_at dksX0_undo_2 4 rfl rfl)
abbrev cX0_keep : ByteArray := prog_1_method_53_code
def yX0_keep : MethodName := ⟨RX0, "keep", "(I)I"⟩
def dkwX0_keep_3 : List UInt8 := [42, 180, 0, 56, 27, 44, 83, 42, 180, 0, 176, 172]
abbrev dktX0_keep_3 : List UInt8 := dkwX0_keep_3 ++ []
def dkwX0_keep_2 : List UInt8 := [4, 16, 9, 184, 0, 88, 42, 180, 0, 53, 3, 44, 16, 10, 16, 9, 42, 180, 0, 176, 104, 184, 0, 88]
abbrev dktX0_keep_2 : List UInt8 := dkwX0_keep_2 ++ dktX0_keep_3
def dkwX0_keep_1 : List UInt8 := [42, 180, 0, 176, 4, 96, 104, 96, 188, 10, 77, 44, 3, 42, 180, 0, 176, 79, 42, 180, 0, 44, 3, 44]
abbrev dktX0_keep_1 : List UInt8 := dkwX0_keep_1 ++ dktX0_keep_2
def dkwX0_keep_0 : List UInt8 := [27, 3, 5, 184, 0, 66, 154, 0, 5, 2, 172, 42, 180, 0, 119, 154, 0, 6, 16, 252, 172, 4, 16, 9]
abbrev dktX0_keep_0 : List UInt8 := dkwX0_keep_0 ++ dktX0_keep_1
theorem dksX0_keep_0 : cX0_keep.data.toList.drop 0 = dktX0_keep_0 := by decide +kernel
theorem dksX0_keep_1 : cX0_keep.data.toList.drop 24 = dktX0_keep_1 := dk_seg dksX0_keep_0 24 rfl rfl
theorem dksX0_keep_2 : cX0_keep.data.toList.drop 48 = dktX0_keep_2 := dk_seg dksX0_keep_1 24 rfl rfl
theorem dksX0_keep_3 : cX0_keep.data.toList.drop 72 = dktX0_keep_3 := dk_seg dksX0_keep_2 24 rfl rfl
theorem dX0_keep_0 : decode cX0_keep 0 = .ok (.iload_n 1, 1) := dk_27 (dk_at dksX0_keep_0 0 rfl rfl)
theorem dX0_keep_1 : decode cX0_keep 1 = .ok (.iconst 0, 1) := dk_3 (dk_at dksX0_keep_0 1 rfl rfl)
theorem dX0_keep_2 : decode cX0_keep 2 = .ok (.iconst 2, 1) := dk_5 (dk_at dksX0_keep_0 2 rfl rfl)
theorem dX0_keep_3 : decode cX0_keep 3 = .ok (.invokestatic 66, 3) := dk_184 0 66 (dk_at dksX0_keep_0 3 rfl rfl)
theorem dX0_keep_6 : decode cX0_keep 6 = .ok (.ifCond .ne 5, 3) := dk_154 0 5 (dk_at dksX0_keep_0 6 rfl rfl)
theorem dX0_keep_9 : decode cX0_keep 9 = .ok (.iconst (-1), 1) := dk_2 (dk_at dksX0_keep_0 9 rfl rfl)
theorem dX0_keep_10 : decode cX0_keep 10 = .ok (.ireturn, 1) := dk_172 (dk_at dksX0_keep_0 10 rfl rfl)
theorem dX0_keep_11 : decode cX0_keep 11 = .ok (.aload_n 0, 1) := dk_42 (dk_at dksX0_keep_0 11 rfl rfl)
theorem dX0_keep_12 : decode cX0_keep 12 = .ok (.getfield 119, 3) := dk_180 0 119 (dk_at dksX0_keep_0 12 rfl rfl)
theorem dX0_keep_15 : decode cX0_keep 15 = .ok (.ifCond .ne 6, 3) := dk_154 0 6 (dk_at dksX0_keep_0 15 rfl rfl)
theorem dX0_keep_18 : decode cX0_keep 18 = .ok (.bipush (-4), 2) := dk_16 252 (dk_at dksX0_keep_0 18 rfl rfl)
theorem dX0_keep_20 : decode cX0_keep 20 = .ok (.ireturn, 1) := dk_172 (dk_at dksX0_keep_0 20 rfl rfl)
theorem dX0_keep_21 : decode cX0_keep 21 = .ok (.iconst 1, 1) := dk_4 (dk_at dksX0_keep_0 21 rfl rfl)
theorem dX0_keep_22 : decode cX0_keep 22 = .ok (.bipush 9, 2) := dk_16 9 (dk_at dksX0_keep_0 22 rfl rfl)
theorem dX0_keep_24 : decode cX0_keep 24 = .ok (.aload_n 0, 1) := dk_42 (dk_at dksX0_keep_1 0 rfl rfl)
theorem dX0_keep_25 : decode cX0_keep 25 = .ok (.getfield 176, 3) := dk_180 0 176 (dk_at dksX0_keep_1 1 rfl rfl)
theorem dX0_keep_28 : decode cX0_keep 28 = .ok (.iconst 1, 1) := dk_4 (dk_at dksX0_keep_1 4 rfl rfl)
theorem dX0_keep_29 : decode cX0_keep 29 = .ok (.iadd, 1) := dk_96 (dk_at dksX0_keep_1 5 rfl rfl)
theorem dX0_keep_30 : decode cX0_keep 30 = .ok (.imul, 1) := dk_104 (dk_at dksX0_keep_1 6 rfl rfl)
theorem dX0_keep_31 : decode cX0_keep 31 = .ok (.iadd, 1) := dk_96 (dk_at dksX0_keep_1 7 rfl rfl)
theorem dX0_keep_32 : decode cX0_keep 32 = .ok (.newarray .int, 2) := dk_188_10 (dk_at dksX0_keep_1 8 rfl rfl)
theorem dX0_keep_34 : decode cX0_keep 34 = .ok (.astore_n 2, 1) := dk_77 (dk_at dksX0_keep_1 10 rfl rfl)
theorem dX0_keep_35 : decode cX0_keep 35 = .ok (.aload_n 2, 1) := dk_44 (dk_at dksX0_keep_1 11 rfl rfl)
theorem dX0_keep_36 : decode cX0_keep 36 = .ok (.iconst 0, 1) := dk_3 (dk_at dksX0_keep_1 12 rfl rfl)
theorem dX0_keep_37 : decode cX0_keep 37 = .ok (.aload_n 0, 1) := dk_42 (dk_at dksX0_keep_1 13 rfl rfl)
theorem dX0_keep_38 : decode cX0_keep 38 = .ok (.getfield 176, 3) := dk_180 0 176 (dk_at dksX0_keep_1 14 rfl rfl)
theorem dX0_keep_41 : decode cX0_keep 41 = .ok (.iastore, 1) := dk_79 (dk_at dksX0_keep_1 17 rfl rfl)
theorem dX0_keep_42 : decode cX0_keep 42 = .ok (.aload_n 0, 1) := dk_42 (dk_at dksX0_keep_1 18 rfl rfl)
theorem dX0_keep_43 : decode cX0_keep 43 = .ok (.getfield 44, 3) := dk_180 0 44 (dk_at dksX0_keep_1 19 rfl rfl)
theorem dX0_keep_46 : decode cX0_keep 46 = .ok (.iconst 0, 1) := dk_3 (dk_at dksX0_keep_1 22 rfl rfl)
theorem dX0_keep_47 : decode cX0_keep 47 = .ok (.aload_n 2, 1) := dk_44 (dk_at dksX0_keep_1 23 rfl rfl)
theorem dX0_keep_48 : decode cX0_keep 48 = .ok (.iconst 1, 1) := dk_4 (dk_at dksX0_keep_2 0 rfl rfl)
theorem dX0_keep_49 : decode cX0_keep 49 = .ok (.bipush 9, 2) := dk_16 9 (dk_at dksX0_keep_2 1 rfl rfl)
theorem dX0_keep_51 : decode cX0_keep 51 = .ok (.invokestatic 88, 3) := dk_184 0 88 (dk_at dksX0_keep_2 3 rfl rfl)
theorem dX0_keep_54 : decode cX0_keep 54 = .ok (.aload_n 0, 1) := dk_42 (dk_at dksX0_keep_2 6 rfl rfl)
theorem dX0_keep_55 : decode cX0_keep 55 = .ok (.getfield 53, 3) := dk_180 0 53 (dk_at dksX0_keep_2 7 rfl rfl)
theorem dX0_keep_58 : decode cX0_keep 58 = .ok (.iconst 0, 1) := dk_3 (dk_at dksX0_keep_2 10 rfl rfl)
theorem dX0_keep_59 : decode cX0_keep 59 = .ok (.aload_n 2, 1) := dk_44 (dk_at dksX0_keep_2 11 rfl rfl)
theorem dX0_keep_60 : decode cX0_keep 60 = .ok (.bipush 10, 2) := dk_16 10 (dk_at dksX0_keep_2 12 rfl rfl)
theorem dX0_keep_62 : decode cX0_keep 62 = .ok (.bipush 9, 2) := dk_16 9 (dk_at dksX0_keep_2 14 rfl rfl)
theorem dX0_keep_64 : decode cX0_keep 64 = .ok (.aload_n 0, 1) := dk_42 (dk_at dksX0_keep_2 16 rfl rfl)
theorem dX0_keep_65 : decode cX0_keep 65 = .ok (.getfield 176, 3) := dk_180 0 176 (dk_at dksX0_keep_2 17 rfl rfl)
theorem dX0_keep_68 : decode cX0_keep 68 = .ok (.imul, 1) := dk_104 (dk_at dksX0_keep_2 20 rfl rfl)
theorem dX0_keep_69 : decode cX0_keep 69 = .ok (.invokestatic 88, 3) := dk_184 0 88 (dk_at dksX0_keep_2 21 rfl rfl)
theorem dX0_keep_72 : decode cX0_keep 72 = .ok (.aload_n 0, 1) := dk_42 (dk_at dksX0_keep_3 0 rfl rfl)
theorem dX0_keep_73 : decode cX0_keep 73 = .ok (.getfield 56, 3) := dk_180 0 56 (dk_at dksX0_keep_3 1 rfl rfl)
theorem dX0_keep_76 : decode cX0_keep 76 = .ok (.iload_n 1, 1) := dk_27 (dk_at dksX0_keep_3 4 rfl rfl)
theorem dX0_keep_77 : decode cX0_keep 77 = .ok (.aload_n 2, 1) := dk_44 (dk_at dksX0_keep_3 5 rfl rfl)
theorem dX0_keep_78 : decode cX0_keep 78 = .ok (.aastore, 1) := dk_83 (dk_at dksX0_keep_3 6 rfl rfl)
theorem dX0_keep_79 : decode cX0_keep 79 = .ok (.aload_n 0, 1) := dk_42 (dk_at dksX0_keep_3 7 rfl rfl)
theorem dX0_keep_80 : decode cX0_keep 80 = .ok (.getfield 176, 3) := dk_180 0 176 (dk_at dksX0_keep_3 8 rfl rfl)
theorem dX0_keep_83 : decode cX0_keep 83 = .ok (.ireturn, 1) := dk_172 (dk_at dksX0_keep_3 11 rfl rfl)
abbrev cX0_on : ByteArray := prog_1_method_54_code
def yX0_on : MethodName := ⟨RX0, "on", "(I)I"⟩
def dkwX0_on_3 : List UInt8 := [42, 180, 0, 176, 104, 184, 0, 88, 42, 180, 0, 176, 172]
abbrev dktX0_on_3 : List UInt8 := dkwX0_on_3 ++ []
def dkwX0_on_2 : List UInt8 := [180, 0, 44, 3, 16, 9, 184, 0, 88, 42, 180, 0, 56, 27, 50, 16, 10, 42, 180, 0, 53, 3, 16, 9]
abbrev dktX0_on_2 : List UInt8 := dkwX0_on_2 ++ dktX0_on_3
def dkwX0_on_1 : List UInt8 := [182, 0, 76, 172, 42, 42, 180, 0, 56, 27, 50, 3, 46, 181, 0, 176, 42, 180, 0, 56, 27, 50, 4, 42]
abbrev dktX0_on_1 : List UInt8 := dkwX0_on_1 ++ dktX0_on_2
def dkwX0_on_0 : List UInt8 := [27, 3, 5, 184, 0, 66, 154, 0, 5, 2, 172, 42, 180, 0, 56, 27, 50, 199, 0, 9, 42, 4]
abbrev dktX0_on_0 : List UInt8 := dkwX0_on_0 ++ dktX0_on_1
theorem dksX0_on_0 : cX0_on.data.toList.drop 0 = dktX0_on_0 := by decide +kernel
theorem dksX0_on_1 : cX0_on.data.toList.drop 22 = dktX0_on_1 := dk_seg dksX0_on_0 22 rfl rfl
theorem dksX0_on_2 : cX0_on.data.toList.drop 46 = dktX0_on_2 := dk_seg dksX0_on_1 24 rfl rfl
theorem dksX0_on_3 : cX0_on.data.toList.drop 70 = dktX0_on_3 := dk_seg dksX0_on_2 24 rfl rfl
theorem dX0_on_0 : decode cX0_on 0 = .ok (.iload_n 1, 1) := dk_27 (dk_at dksX0_on_0 0 rfl rfl)
theorem dX0_on_1 : decode cX0_on 1 = .ok (.iconst 0, 1) := dk_3 (dk_at dksX0_on_0 1 rfl rfl)
theorem dX0_on_2 : decode cX0_on 2 = .ok (.iconst 2, 1) := dk_5 (dk_at dksX0_on_0 2 rfl rfl)
theorem dX0_on_3 : decode cX0_on 3 = .ok (.invokestatic 66, 3) := dk_184 0 66 (dk_at dksX0_on_0 3 rfl rfl)
theorem dX0_on_6 : decode cX0_on 6 = .ok (.ifCond .ne 5, 3) := dk_154 0 5 (dk_at dksX0_on_0 6 rfl rfl)
theorem dX0_on_9 : decode cX0_on 9 = .ok (.iconst (-1), 1) := dk_2 (dk_at dksX0_on_0 9 rfl rfl)
theorem dX0_on_10 : decode cX0_on 10 = .ok (.ireturn, 1) := dk_172 (dk_at dksX0_on_0 10 rfl rfl)
theorem dX0_on_11 : decode cX0_on 11 = .ok (.aload_n 0, 1) := dk_42 (dk_at dksX0_on_0 11 rfl rfl)
theorem dX0_on_12 : decode cX0_on 12 = .ok (.getfield 56, 3) := dk_180 0 56 (dk_at dksX0_on_0 12 rfl rfl)
theorem dX0_on_15 : decode cX0_on 15 = .ok (.iload_n 1, 1) := dk_27 (dk_at dksX0_on_0 15 rfl rfl)
theorem dX0_on_16 : decode cX0_on 16 = .ok (.aaload, 1) := dk_50 (dk_at dksX0_on_0 16 rfl rfl)
theorem dX0_on_17 : decode cX0_on 17 = .ok (.ifnonnull 9, 3) := dk_199 0 9 (dk_at dksX0_on_0 17 rfl rfl)
theorem dX0_on_20 : decode cX0_on 20 = .ok (.aload_n 0, 1) := dk_42 (dk_at dksX0_on_0 20 rfl rfl)
theorem dX0_on_21 : decode cX0_on 21 = .ok (.iconst 1, 1) := dk_4 (dk_at dksX0_on_0 21 rfl rfl)
theorem dX0_on_22 : decode cX0_on 22 = .ok (.invokevirtual 76, 3) := dk_182 0 76 (dk_at dksX0_on_1 0 rfl rfl)
theorem dX0_on_25 : decode cX0_on 25 = .ok (.ireturn, 1) := dk_172 (dk_at dksX0_on_1 3 rfl rfl)
theorem dX0_on_26 : decode cX0_on 26 = .ok (.aload_n 0, 1) := dk_42 (dk_at dksX0_on_1 4 rfl rfl)
theorem dX0_on_27 : decode cX0_on 27 = .ok (.aload_n 0, 1) := dk_42 (dk_at dksX0_on_1 5 rfl rfl)
theorem dX0_on_28 : decode cX0_on 28 = .ok (.getfield 56, 3) := dk_180 0 56 (dk_at dksX0_on_1 6 rfl rfl)
theorem dX0_on_31 : decode cX0_on 31 = .ok (.iload_n 1, 1) := dk_27 (dk_at dksX0_on_1 9 rfl rfl)
theorem dX0_on_32 : decode cX0_on 32 = .ok (.aaload, 1) := dk_50 (dk_at dksX0_on_1 10 rfl rfl)
theorem dX0_on_33 : decode cX0_on 33 = .ok (.iconst 0, 1) := dk_3 (dk_at dksX0_on_1 11 rfl rfl)
theorem dX0_on_34 : decode cX0_on 34 = .ok (.iaload, 1) := dk_46 (dk_at dksX0_on_1 12 rfl rfl)
theorem dX0_on_35 : decode cX0_on 35 = .ok (.putfield 176, 3) := dk_181 0 176 (dk_at dksX0_on_1 13 rfl rfl)
theorem dX0_on_38 : decode cX0_on 38 = .ok (.aload_n 0, 1) := dk_42 (dk_at dksX0_on_1 16 rfl rfl)
theorem dX0_on_39 : decode cX0_on 39 = .ok (.getfield 56, 3) := dk_180 0 56 (dk_at dksX0_on_1 17 rfl rfl)
theorem dX0_on_42 : decode cX0_on 42 = .ok (.iload_n 1, 1) := dk_27 (dk_at dksX0_on_1 20 rfl rfl)
theorem dX0_on_43 : decode cX0_on 43 = .ok (.aaload, 1) := dk_50 (dk_at dksX0_on_1 21 rfl rfl)
theorem dX0_on_44 : decode cX0_on 44 = .ok (.iconst 1, 1) := dk_4 (dk_at dksX0_on_1 22 rfl rfl)
theorem dX0_on_45 : decode cX0_on 45 = .ok (.aload_n 0, 1) := dk_42 (dk_at dksX0_on_1 23 rfl rfl)
theorem dX0_on_46 : decode cX0_on 46 = .ok (.getfield 44, 3) := dk_180 0 44 (dk_at dksX0_on_2 0 rfl rfl)
theorem dX0_on_49 : decode cX0_on 49 = .ok (.iconst 0, 1) := dk_3 (dk_at dksX0_on_2 3 rfl rfl)
theorem dX0_on_50 : decode cX0_on 50 = .ok (.bipush 9, 2) := dk_16 9 (dk_at dksX0_on_2 4 rfl rfl)
theorem dX0_on_52 : decode cX0_on 52 = .ok (.invokestatic 88, 3) := dk_184 0 88 (dk_at dksX0_on_2 6 rfl rfl)
theorem dX0_on_55 : decode cX0_on 55 = .ok (.aload_n 0, 1) := dk_42 (dk_at dksX0_on_2 9 rfl rfl)
theorem dX0_on_56 : decode cX0_on 56 = .ok (.getfield 56, 3) := dk_180 0 56 (dk_at dksX0_on_2 10 rfl rfl)
theorem dX0_on_59 : decode cX0_on 59 = .ok (.iload_n 1, 1) := dk_27 (dk_at dksX0_on_2 13 rfl rfl)
theorem dX0_on_60 : decode cX0_on 60 = .ok (.aaload, 1) := dk_50 (dk_at dksX0_on_2 14 rfl rfl)
theorem dX0_on_61 : decode cX0_on 61 = .ok (.bipush 10, 2) := dk_16 10 (dk_at dksX0_on_2 15 rfl rfl)
theorem dX0_on_63 : decode cX0_on 63 = .ok (.aload_n 0, 1) := dk_42 (dk_at dksX0_on_2 17 rfl rfl)
theorem dX0_on_64 : decode cX0_on 64 = .ok (.getfield 53, 3) := dk_180 0 53 (dk_at dksX0_on_2 18 rfl rfl)
theorem dX0_on_67 : decode cX0_on 67 = .ok (.iconst 0, 1) := dk_3 (dk_at dksX0_on_2 21 rfl rfl)
theorem dX0_on_68 : decode cX0_on 68 = .ok (.bipush 9, 2) := dk_16 9 (dk_at dksX0_on_2 22 rfl rfl)
theorem dX0_on_70 : decode cX0_on 70 = .ok (.aload_n 0, 1) := dk_42 (dk_at dksX0_on_3 0 rfl rfl)
theorem dX0_on_71 : decode cX0_on 71 = .ok (.getfield 176, 3) := dk_180 0 176 (dk_at dksX0_on_3 1 rfl rfl)
theorem dX0_on_74 : decode cX0_on 74 = .ok (.imul, 1) := dk_104 (dk_at dksX0_on_3 4 rfl rfl)
theorem dX0_on_75 : decode cX0_on 75 = .ok (.invokestatic 88, 3) := dk_184 0 88 (dk_at dksX0_on_3 5 rfl rfl)
theorem dX0_on_78 : decode cX0_on 78 = .ok (.aload_n 0, 1) := dk_42 (dk_at dksX0_on_3 8 rfl rfl)
theorem dX0_on_79 : decode cX0_on 79 = .ok (.getfield 176, 3) := dk_180 0 176 (dk_at dksX0_on_3 9 rfl rfl)
theorem dX0_on_82 : decode cX0_on 82 = .ok (.ireturn, 1) := dk_172 (dk_at dksX0_on_3 12 rfl rfl)
abbrev cX0_value : ByteArray := prog_1_method_55_code
def yX0_value : MethodName := ⟨RX0, "value", "(II)I"⟩
def dkwX0_value_1 : List UInt8 := [2, 172]
abbrev dktX0_value_1 : List UInt8 := dkwX0_value_1 ++ []
def dkwX0_value_0 : List UInt8 := [42, 27, 182, 0, 249, 153, 0, 19, 28, 184, 0, 160, 153, 0, 12, 42, 27, 28, 182, 0, 138, 167, 0, 4]
abbrev dktX0_value_0 : List UInt8 := dkwX0_value_0 ++ dktX0_value_1
theorem dksX0_value_0 : cX0_value.data.toList.drop 0 = dktX0_value_0 := by decide +kernel
theorem dksX0_value_1 : cX0_value.data.toList.drop 24 = dktX0_value_1 := dk_seg dksX0_value_0 24 rfl rfl
theorem dX0_value_0 : decode cX0_value 0 = .ok (.aload_n 0, 1) := dk_42 (dk_at dksX0_value_0 0 rfl rfl)
theorem dX0_value_1 : decode cX0_value 1 = .ok (.iload_n 1, 1) := dk_27 (dk_at dksX0_value_0 1 rfl rfl)
theorem dX0_value_2 : decode cX0_value 2 = .ok (.invokevirtual 249, 3) := dk_182 0 249 (dk_at dksX0_value_0 2 rfl rfl)
theorem dX0_value_5 : decode cX0_value 5 = .ok (.ifCond .eq 19, 3) := dk_153 0 19 (dk_at dksX0_value_0 5 rfl rfl)
theorem dX0_value_8 : decode cX0_value 8 = .ok (.iload_n 2, 1) := dk_28 (dk_at dksX0_value_0 8 rfl rfl)
theorem dX0_value_9 : decode cX0_value 9 = .ok (.invokestatic 160, 3) := dk_184 0 160 (dk_at dksX0_value_0 9 rfl rfl)
theorem dX0_value_12 : decode cX0_value 12 = .ok (.ifCond .eq 12, 3) := dk_153 0 12 (dk_at dksX0_value_0 12 rfl rfl)
theorem dX0_value_15 : decode cX0_value 15 = .ok (.aload_n 0, 1) := dk_42 (dk_at dksX0_value_0 15 rfl rfl)
theorem dX0_value_16 : decode cX0_value 16 = .ok (.iload_n 1, 1) := dk_27 (dk_at dksX0_value_0 16 rfl rfl)
theorem dX0_value_17 : decode cX0_value 17 = .ok (.iload_n 2, 1) := dk_28 (dk_at dksX0_value_0 17 rfl rfl)
theorem dX0_value_18 : decode cX0_value 18 = .ok (.invokevirtual 138, 3) := dk_182 0 138 (dk_at dksX0_value_0 18 rfl rfl)
theorem dX0_value_21 : decode cX0_value 21 = .ok (.goto 4, 3) := dk_167 0 4 (dk_at dksX0_value_0 21 rfl rfl)
theorem dX0_value_24 : decode cX0_value 24 = .ok (.iconst (-1), 1) := dk_2 (dk_at dksX0_value_1 0 rfl rfl)
theorem dX0_value_25 : decode cX0_value 25 = .ok (.ireturn, 1) := dk_172 (dk_at dksX0_value_1 1 rfl rfl)
abbrev cX0_isWay : ByteArray := prog_1_method_25_code
def yX0_isWay : MethodName := ⟨RX0, "isWay", "(I)Z"⟩
def dkwX0_isWay_0 : List UInt8 := [27, 3, 42, 182, 0, 125, 4, 100, 184, 0, 66, 172]
abbrev dktX0_isWay_0 : List UInt8 := dkwX0_isWay_0 ++ []
theorem dksX0_isWay_0 : cX0_isWay.data.toList.drop 0 = dktX0_isWay_0 := by decide +kernel
theorem dX0_isWay_0 : decode cX0_isWay 0 = .ok (.iload_n 1, 1) := dk_27 (dk_at dksX0_isWay_0 0 rfl rfl)
theorem dX0_isWay_1 : decode cX0_isWay 1 = .ok (.iconst 0, 1) := dk_3 (dk_at dksX0_isWay_0 1 rfl rfl)
theorem dX0_isWay_2 : decode cX0_isWay 2 = .ok (.aload_n 0, 1) := dk_42 (dk_at dksX0_isWay_0 2 rfl rfl)
theorem dX0_isWay_3 : decode cX0_isWay 3 = .ok (.invokevirtual 125, 3) := dk_182 0 125 (dk_at dksX0_isWay_0 3 rfl rfl)
theorem dX0_isWay_6 : decode cX0_isWay 6 = .ok (.iconst 1, 1) := dk_4 (dk_at dksX0_isWay_0 6 rfl rfl)
theorem dX0_isWay_7 : decode cX0_isWay 7 = .ok (.isub, 1) := dk_100 (dk_at dksX0_isWay_0 7 rfl rfl)
theorem dX0_isWay_8 : decode cX0_isWay 8 = .ok (.invokestatic 66, 3) := dk_184 0 66 (dk_at dksX0_isWay_0 8 rfl rfl)
theorem dX0_isWay_11 : decode cX0_isWay 11 = .ok (.ireturn, 1) := dk_172 (dk_at dksX0_isWay_0 11 rfl rfl)
abbrev cX0_cost : ByteArray := prog_1_method_56_code
def yX0_cost : MethodName := ⟨RX0, "cost", "(I)I"⟩
def dkwX0_cost_0 : List UInt8 := [42, 27, 182, 0, 249, 153, 0, 11, 42, 27, 182, 0, 252, 167, 0, 4, 2, 172]
abbrev dktX0_cost_0 : List UInt8 := dkwX0_cost_0 ++ []
theorem dksX0_cost_0 : cX0_cost.data.toList.drop 0 = dktX0_cost_0 := by decide +kernel
theorem dX0_cost_0 : decode cX0_cost 0 = .ok (.aload_n 0, 1) := dk_42 (dk_at dksX0_cost_0 0 rfl rfl)
theorem dX0_cost_1 : decode cX0_cost 1 = .ok (.iload_n 1, 1) := dk_27 (dk_at dksX0_cost_0 1 rfl rfl)
theorem dX0_cost_2 : decode cX0_cost 2 = .ok (.invokevirtual 249, 3) := dk_182 0 249 (dk_at dksX0_cost_0 2 rfl rfl)
theorem dX0_cost_5 : decode cX0_cost 5 = .ok (.ifCond .eq 11, 3) := dk_153 0 11 (dk_at dksX0_cost_0 5 rfl rfl)
theorem dX0_cost_8 : decode cX0_cost 8 = .ok (.aload_n 0, 1) := dk_42 (dk_at dksX0_cost_0 8 rfl rfl)
theorem dX0_cost_9 : decode cX0_cost 9 = .ok (.iload_n 1, 1) := dk_27 (dk_at dksX0_cost_0 9 rfl rfl)
theorem dX0_cost_10 : decode cX0_cost 10 = .ok (.invokevirtual 252, 3) := dk_182 0 252 (dk_at dksX0_cost_0 10 rfl rfl)
theorem dX0_cost_13 : decode cX0_cost 13 = .ok (.goto 4, 3) := dk_167 0 4 (dk_at dksX0_cost_0 13 rfl rfl)
theorem dX0_cost_16 : decode cX0_cost 16 = .ok (.iconst (-1), 1) := dk_2 (dk_at dksX0_cost_0 16 rfl rfl)
theorem dX0_cost_17 : decode cX0_cost 17 = .ok (.ireturn, 1) := dk_172 (dk_at dksX0_cost_0 17 rfl rfl)
abbrev cX0_costOf : ByteArray := prog_1_method_29_code
def yX0_costOf : MethodName := ⟨RX0, "costOf", "(I)I"⟩
def dkwX0_costOf_1 : List UInt8 := [180, 0, 35, 8, 29, 104, 7, 96, 46, 167, 0, 4, 3, 96, 61, 132, 3, 1, 167, 255, 220, 28, 172]
abbrev dktX0_costOf_1 : List UInt8 := dkwX0_costOf_1 ++ []
def dkwX0_costOf_0 : List UInt8 := [3, 61, 3, 62, 29, 42, 180, 0, 119, 162, 0, 34, 28, 27, 29, 184, 0, 129, 153, 0, 16, 42]
abbrev dktX0_costOf_0 : List UInt8 := dkwX0_costOf_0 ++ dktX0_costOf_1
theorem dksX0_costOf_0 : cX0_costOf.data.toList.drop 0 = dktX0_costOf_0 := by decide +kernel
theorem dksX0_costOf_1 : cX0_costOf.data.toList.drop 22 = dktX0_costOf_1 := dk_seg dksX0_costOf_0 22 rfl rfl
theorem dX0_costOf_0 : decode cX0_costOf 0 = .ok (.iconst 0, 1) := dk_3 (dk_at dksX0_costOf_0 0 rfl rfl)
theorem dX0_costOf_1 : decode cX0_costOf 1 = .ok (.istore_n 2, 1) := dk_61 (dk_at dksX0_costOf_0 1 rfl rfl)
theorem dX0_costOf_2 : decode cX0_costOf 2 = .ok (.iconst 0, 1) := dk_3 (dk_at dksX0_costOf_0 2 rfl rfl)
theorem dX0_costOf_3 : decode cX0_costOf 3 = .ok (.istore_n 3, 1) := dk_62 (dk_at dksX0_costOf_0 3 rfl rfl)
theorem dX0_costOf_4 : decode cX0_costOf 4 = .ok (.iload_n 3, 1) := dk_29 (dk_at dksX0_costOf_0 4 rfl rfl)
theorem dX0_costOf_5 : decode cX0_costOf 5 = .ok (.aload_n 0, 1) := dk_42 (dk_at dksX0_costOf_0 5 rfl rfl)
theorem dX0_costOf_6 : decode cX0_costOf 6 = .ok (.getfield 119, 3) := dk_180 0 119 (dk_at dksX0_costOf_0 6 rfl rfl)
theorem dX0_costOf_9 : decode cX0_costOf 9 = .ok (.if_icmp .ge 34, 3) := dk_162 0 34 (dk_at dksX0_costOf_0 9 rfl rfl)
theorem dX0_costOf_12 : decode cX0_costOf 12 = .ok (.iload_n 2, 1) := dk_28 (dk_at dksX0_costOf_0 12 rfl rfl)
theorem dX0_costOf_13 : decode cX0_costOf 13 = .ok (.iload_n 1, 1) := dk_27 (dk_at dksX0_costOf_0 13 rfl rfl)
theorem dX0_costOf_14 : decode cX0_costOf 14 = .ok (.iload_n 3, 1) := dk_29 (dk_at dksX0_costOf_0 14 rfl rfl)
theorem dX0_costOf_15 : decode cX0_costOf 15 = .ok (.invokestatic 129, 3) := dk_184 0 129 (dk_at dksX0_costOf_0 15 rfl rfl)
theorem dX0_costOf_18 : decode cX0_costOf 18 = .ok (.ifCond .eq 16, 3) := dk_153 0 16 (dk_at dksX0_costOf_0 18 rfl rfl)
theorem dX0_costOf_21 : decode cX0_costOf 21 = .ok (.aload_n 0, 1) := dk_42 (dk_at dksX0_costOf_0 21 rfl rfl)
theorem dX0_costOf_22 : decode cX0_costOf 22 = .ok (.getfield 35, 3) := dk_180 0 35 (dk_at dksX0_costOf_1 0 rfl rfl)
theorem dX0_costOf_25 : decode cX0_costOf 25 = .ok (.iconst 5, 1) := dk_8 (dk_at dksX0_costOf_1 3 rfl rfl)
theorem dX0_costOf_26 : decode cX0_costOf 26 = .ok (.iload_n 3, 1) := dk_29 (dk_at dksX0_costOf_1 4 rfl rfl)
theorem dX0_costOf_27 : decode cX0_costOf 27 = .ok (.imul, 1) := dk_104 (dk_at dksX0_costOf_1 5 rfl rfl)
theorem dX0_costOf_28 : decode cX0_costOf 28 = .ok (.iconst 4, 1) := dk_7 (dk_at dksX0_costOf_1 6 rfl rfl)
theorem dX0_costOf_29 : decode cX0_costOf 29 = .ok (.iadd, 1) := dk_96 (dk_at dksX0_costOf_1 7 rfl rfl)
theorem dX0_costOf_30 : decode cX0_costOf 30 = .ok (.iaload, 1) := dk_46 (dk_at dksX0_costOf_1 8 rfl rfl)
theorem dX0_costOf_31 : decode cX0_costOf 31 = .ok (.goto 4, 3) := dk_167 0 4 (dk_at dksX0_costOf_1 9 rfl rfl)
theorem dX0_costOf_34 : decode cX0_costOf 34 = .ok (.iconst 0, 1) := dk_3 (dk_at dksX0_costOf_1 12 rfl rfl)
theorem dX0_costOf_35 : decode cX0_costOf 35 = .ok (.iadd, 1) := dk_96 (dk_at dksX0_costOf_1 13 rfl rfl)
theorem dX0_costOf_36 : decode cX0_costOf 36 = .ok (.istore_n 2, 1) := dk_61 (dk_at dksX0_costOf_1 14 rfl rfl)
theorem dX0_costOf_37 : decode cX0_costOf 37 = .ok (.iinc 3 1, 3) := dk_132 3 1 (dk_at dksX0_costOf_1 15 rfl rfl)
theorem dX0_costOf_40 : decode cX0_costOf 40 = .ok (.goto (-36), 3) := dk_167 255 220 (dk_at dksX0_costOf_1 18 rfl rfl)
theorem dX0_costOf_43 : decode cX0_costOf 43 = .ok (.iload_n 2, 1) := dk_28 (dk_at dksX0_costOf_1 21 rfl rfl)
theorem dX0_costOf_44 : decode cX0_costOf 44 = .ok (.ireturn, 1) := dk_172 (dk_at dksX0_costOf_1 22 rfl rfl)
abbrev cX0_holds : ByteArray := prog_1_method_59_code
def yX0_holds : MethodName := ⟨RX0, "holds", "(I)I"⟩
def dkwX0_holds_1 : List UInt8 := [182, 0, 255, 182, 0, 80, 167, 0, 4, 2, 172]
abbrev dktX0_holds_1 : List UInt8 := dkwX0_holds_1 ++ []
def dkwX0_holds_0 : List UInt8 := [42, 27, 182, 0, 249, 153, 0, 28, 42, 42, 27, 182, 1, 2, 153, 0, 7, 4, 167, 0, 4, 3, 42, 27]
abbrev dktX0_holds_0 : List UInt8 := dkwX0_holds_0 ++ dktX0_holds_1
theorem dksX0_holds_0 : cX0_holds.data.toList.drop 0 = dktX0_holds_0 := by decide +kernel
theorem dksX0_holds_1 : cX0_holds.data.toList.drop 24 = dktX0_holds_1 := dk_seg dksX0_holds_0 24 rfl rfl
theorem dX0_holds_0 : decode cX0_holds 0 = .ok (.aload_n 0, 1) := dk_42 (dk_at dksX0_holds_0 0 rfl rfl)
theorem dX0_holds_1 : decode cX0_holds 1 = .ok (.iload_n 1, 1) := dk_27 (dk_at dksX0_holds_0 1 rfl rfl)
theorem dX0_holds_2 : decode cX0_holds 2 = .ok (.invokevirtual 249, 3) := dk_182 0 249 (dk_at dksX0_holds_0 2 rfl rfl)
theorem dX0_holds_5 : decode cX0_holds 5 = .ok (.ifCond .eq 28, 3) := dk_153 0 28 (dk_at dksX0_holds_0 5 rfl rfl)
theorem dX0_holds_8 : decode cX0_holds 8 = .ok (.aload_n 0, 1) := dk_42 (dk_at dksX0_holds_0 8 rfl rfl)
theorem dX0_holds_9 : decode cX0_holds 9 = .ok (.aload_n 0, 1) := dk_42 (dk_at dksX0_holds_0 9 rfl rfl)
theorem dX0_holds_10 : decode cX0_holds 10 = .ok (.iload_n 1, 1) := dk_27 (dk_at dksX0_holds_0 10 rfl rfl)
theorem dX0_holds_11 : decode cX0_holds 11 = .ok (.invokevirtual 258, 3) := dk_182 1 2 (dk_at dksX0_holds_0 11 rfl rfl)
theorem dX0_holds_14 : decode cX0_holds 14 = .ok (.ifCond .eq 7, 3) := dk_153 0 7 (dk_at dksX0_holds_0 14 rfl rfl)
theorem dX0_holds_17 : decode cX0_holds 17 = .ok (.iconst 1, 1) := dk_4 (dk_at dksX0_holds_0 17 rfl rfl)
theorem dX0_holds_18 : decode cX0_holds 18 = .ok (.goto 4, 3) := dk_167 0 4 (dk_at dksX0_holds_0 18 rfl rfl)
theorem dX0_holds_21 : decode cX0_holds 21 = .ok (.iconst 0, 1) := dk_3 (dk_at dksX0_holds_0 21 rfl rfl)
theorem dX0_holds_22 : decode cX0_holds 22 = .ok (.aload_n 0, 1) := dk_42 (dk_at dksX0_holds_0 22 rfl rfl)
theorem dX0_holds_23 : decode cX0_holds 23 = .ok (.iload_n 1, 1) := dk_27 (dk_at dksX0_holds_0 23 rfl rfl)
theorem dX0_holds_24 : decode cX0_holds 24 = .ok (.invokevirtual 255, 3) := dk_182 0 255 (dk_at dksX0_holds_1 0 rfl rfl)
theorem dX0_holds_27 : decode cX0_holds 27 = .ok (.invokevirtual 80, 3) := dk_182 0 80 (dk_at dksX0_holds_1 3 rfl rfl)
theorem dX0_holds_30 : decode cX0_holds 30 = .ok (.goto 4, 3) := dk_167 0 4 (dk_at dksX0_holds_1 6 rfl rfl)
theorem dX0_holds_33 : decode cX0_holds 33 = .ok (.iconst (-1), 1) := dk_2 (dk_at dksX0_holds_1 9 rfl rfl)
theorem dX0_holds_34 : decode cX0_holds 34 = .ok (.ireturn, 1) := dk_172 (dk_at dksX0_holds_1 10 rfl rfl)
abbrev cX0_isGood : ByteArray := prog_1_method_58_code
def yX0_isGood : MethodName := ⟨RX0, "isGood", "(I)Z"⟩
def dkwX0_isGood_0 : List UInt8 := [42, 182, 0, 236, 42, 27, 182, 0, 255, 2, 130, 126, 154, 0, 7, 4, 167, 0, 4, 3, 172]
abbrev dktX0_isGood_0 : List UInt8 := dkwX0_isGood_0 ++ []
theorem dksX0_isGood_0 : cX0_isGood.data.toList.drop 0 = dktX0_isGood_0 := by decide +kernel
theorem dX0_isGood_0 : decode cX0_isGood 0 = .ok (.aload_n 0, 1) := dk_42 (dk_at dksX0_isGood_0 0 rfl rfl)
theorem dX0_isGood_1 : decode cX0_isGood 1 = .ok (.invokevirtual 236, 3) := dk_182 0 236 (dk_at dksX0_isGood_0 1 rfl rfl)
theorem dX0_isGood_4 : decode cX0_isGood 4 = .ok (.aload_n 0, 1) := dk_42 (dk_at dksX0_isGood_0 4 rfl rfl)
theorem dX0_isGood_5 : decode cX0_isGood 5 = .ok (.iload_n 1, 1) := dk_27 (dk_at dksX0_isGood_0 5 rfl rfl)
theorem dX0_isGood_6 : decode cX0_isGood 6 = .ok (.invokevirtual 255, 3) := dk_182 0 255 (dk_at dksX0_isGood_0 6 rfl rfl)
theorem dX0_isGood_9 : decode cX0_isGood 9 = .ok (.iconst (-1), 1) := dk_2 (dk_at dksX0_isGood_0 9 rfl rfl)
theorem dX0_isGood_10 : decode cX0_isGood 10 = .ok (.ixor, 1) := dk_130 (dk_at dksX0_isGood_0 10 rfl rfl)
theorem dX0_isGood_11 : decode cX0_isGood 11 = .ok (.iand, 1) := dk_126 (dk_at dksX0_isGood_0 11 rfl rfl)
theorem dX0_isGood_12 : decode cX0_isGood 12 = .ok (.ifCond .ne 7, 3) := dk_154 0 7 (dk_at dksX0_isGood_0 12 rfl rfl)
theorem dX0_isGood_15 : decode cX0_isGood 15 = .ok (.iconst 1, 1) := dk_4 (dk_at dksX0_isGood_0 15 rfl rfl)
theorem dX0_isGood_16 : decode cX0_isGood 16 = .ok (.goto 4, 3) := dk_167 0 4 (dk_at dksX0_isGood_0 16 rfl rfl)
theorem dX0_isGood_19 : decode cX0_isGood 19 = .ok (.iconst 0, 1) := dk_3 (dk_at dksX0_isGood_0 19 rfl rfl)
theorem dX0_isGood_20 : decode cX0_isGood 20 = .ok (.ireturn, 1) := dk_172 (dk_at dksX0_isGood_0 20 rfl rfl)
abbrev cX0_holdSet : ByteArray := prog_1_method_57_code
def yX0_holdSet : MethodName := ⟨RX0, "holdSet", "(I)I"⟩
def dkwX0_holdSet_2 : List UInt8 := [172]
abbrev dktX0_holdSet_2 : List UInt8 := dkwX0_holdSet_2 ++ []
def dkwX0_holdSet_1 : List UInt8 := [185, 0, 182, 2, 0, 153, 0, 9, 4, 29, 120, 167, 0, 4, 3, 128, 61, 132, 3, 1, 167, 255, 216, 28]
abbrev dktX0_holdSet_1 : List UInt8 := dkwX0_holdSet_1 ++ dktX0_holdSet_2
def dkwX0_holdSet_0 : List UInt8 := [3, 61, 3, 62, 29, 42, 180, 0, 122, 162, 0, 38, 42, 180, 0, 40, 29, 50, 58, 4, 28, 25, 4, 27]
abbrev dktX0_holdSet_0 : List UInt8 := dkwX0_holdSet_0 ++ dktX0_holdSet_1
theorem dksX0_holdSet_0 : cX0_holdSet.data.toList.drop 0 = dktX0_holdSet_0 := by decide +kernel
theorem dksX0_holdSet_1 : cX0_holdSet.data.toList.drop 24 = dktX0_holdSet_1 := dk_seg dksX0_holdSet_0 24 rfl rfl
theorem dksX0_holdSet_2 : cX0_holdSet.data.toList.drop 48 = dktX0_holdSet_2 := dk_seg dksX0_holdSet_1 24 rfl rfl
theorem dX0_holdSet_0 : decode cX0_holdSet 0 = .ok (.iconst 0, 1) := dk_3 (dk_at dksX0_holdSet_0 0 rfl rfl)
theorem dX0_holdSet_1 : decode cX0_holdSet 1 = .ok (.istore_n 2, 1) := dk_61 (dk_at dksX0_holdSet_0 1 rfl rfl)
theorem dX0_holdSet_2 : decode cX0_holdSet 2 = .ok (.iconst 0, 1) := dk_3 (dk_at dksX0_holdSet_0 2 rfl rfl)
theorem dX0_holdSet_3 : decode cX0_holdSet 3 = .ok (.istore_n 3, 1) := dk_62 (dk_at dksX0_holdSet_0 3 rfl rfl)
theorem dX0_holdSet_4 : decode cX0_holdSet 4 = .ok (.iload_n 3, 1) := dk_29 (dk_at dksX0_holdSet_0 4 rfl rfl)
theorem dX0_holdSet_5 : decode cX0_holdSet 5 = .ok (.aload_n 0, 1) := dk_42 (dk_at dksX0_holdSet_0 5 rfl rfl)
theorem dX0_holdSet_6 : decode cX0_holdSet 6 = .ok (.getfield 122, 3) := dk_180 0 122 (dk_at dksX0_holdSet_0 6 rfl rfl)
theorem dX0_holdSet_9 : decode cX0_holdSet 9 = .ok (.if_icmp .ge 38, 3) := dk_162 0 38 (dk_at dksX0_holdSet_0 9 rfl rfl)
theorem dX0_holdSet_12 : decode cX0_holdSet 12 = .ok (.aload_n 0, 1) := dk_42 (dk_at dksX0_holdSet_0 12 rfl rfl)
theorem dX0_holdSet_13 : decode cX0_holdSet 13 = .ok (.getfield 40, 3) := dk_180 0 40 (dk_at dksX0_holdSet_0 13 rfl rfl)
theorem dX0_holdSet_16 : decode cX0_holdSet 16 = .ok (.iload_n 3, 1) := dk_29 (dk_at dksX0_holdSet_0 16 rfl rfl)
theorem dX0_holdSet_17 : decode cX0_holdSet 17 = .ok (.aaload, 1) := dk_50 (dk_at dksX0_holdSet_0 17 rfl rfl)
theorem dX0_holdSet_18 : decode cX0_holdSet 18 = .ok (.astore 4, 2) := dk_58 4 (dk_at dksX0_holdSet_0 18 rfl rfl)
theorem dX0_holdSet_20 : decode cX0_holdSet 20 = .ok (.iload_n 2, 1) := dk_28 (dk_at dksX0_holdSet_0 20 rfl rfl)
theorem dX0_holdSet_21 : decode cX0_holdSet 21 = .ok (.aload 4, 2) := dk_25 4 (dk_at dksX0_holdSet_0 21 rfl rfl)
theorem dX0_holdSet_23 : decode cX0_holdSet 23 = .ok (.iload_n 1, 1) := dk_27 (dk_at dksX0_holdSet_0 23 rfl rfl)
theorem dX0_holdSet_24 : decode cX0_holdSet 24 = .ok (.invokeinterface 182 2, 5) := by decide +kernel
theorem dX0_holdSet_29 : decode cX0_holdSet 29 = .ok (.ifCond .eq 9, 3) := dk_153 0 9 (dk_at dksX0_holdSet_1 5 rfl rfl)
theorem dX0_holdSet_32 : decode cX0_holdSet 32 = .ok (.iconst 1, 1) := dk_4 (dk_at dksX0_holdSet_1 8 rfl rfl)
theorem dX0_holdSet_33 : decode cX0_holdSet 33 = .ok (.iload_n 3, 1) := dk_29 (dk_at dksX0_holdSet_1 9 rfl rfl)
theorem dX0_holdSet_34 : decode cX0_holdSet 34 = .ok (.ishl, 1) := dk_120 (dk_at dksX0_holdSet_1 10 rfl rfl)
theorem dX0_holdSet_35 : decode cX0_holdSet 35 = .ok (.goto 4, 3) := dk_167 0 4 (dk_at dksX0_holdSet_1 11 rfl rfl)
theorem dX0_holdSet_38 : decode cX0_holdSet 38 = .ok (.iconst 0, 1) := dk_3 (dk_at dksX0_holdSet_1 14 rfl rfl)
theorem dX0_holdSet_39 : decode cX0_holdSet 39 = .ok (.ior, 1) := dk_128 (dk_at dksX0_holdSet_1 15 rfl rfl)
theorem dX0_holdSet_40 : decode cX0_holdSet 40 = .ok (.istore_n 2, 1) := dk_61 (dk_at dksX0_holdSet_1 16 rfl rfl)
theorem dX0_holdSet_41 : decode cX0_holdSet 41 = .ok (.iinc 3 1, 3) := dk_132 3 1 (dk_at dksX0_holdSet_1 17 rfl rfl)
theorem dX0_holdSet_44 : decode cX0_holdSet 44 = .ok (.goto (-40), 3) := dk_167 255 216 (dk_at dksX0_holdSet_1 20 rfl rfl)
theorem dX0_holdSet_47 : decode cX0_holdSet 47 = .ok (.iload_n 2, 1) := dk_28 (dk_at dksX0_holdSet_1 23 rfl rfl)
theorem dX0_holdSet_48 : decode cX0_holdSet 48 = .ok (.ireturn, 1) := dk_172 (dk_at dksX0_holdSet_2 0 rfl rfl)
abbrev cX0_good : ByteArray := prog_1_method_65_code
def yX0_good : MethodName := ⟨RX0, "good", "()I"⟩
def dkwX0_good_1 : List UInt8 := [167, 0, 7, 31, 184, 1, 21, 31, 184, 0, 203, 182, 0, 80, 172]
abbrev dktX0_good_1 : List UInt8 := dkwX0_good_1 ++ []
def dkwX0_good_0 : List UInt8 := [42, 180, 0, 119, 154, 0, 6, 16, 252, 172, 42, 182, 1, 18, 64, 42, 31, 9, 148, 154, 0, 8, 16, 247]
abbrev dktX0_good_0 : List UInt8 := dkwX0_good_0 ++ dktX0_good_1
theorem dksX0_good_0 : cX0_good.data.toList.drop 0 = dktX0_good_0 := by decide +kernel
theorem dksX0_good_1 : cX0_good.data.toList.drop 24 = dktX0_good_1 := dk_seg dksX0_good_0 24 rfl rfl
theorem dX0_good_0 : decode cX0_good 0 = .ok (.aload_n 0, 1) := dk_42 (dk_at dksX0_good_0 0 rfl rfl)
theorem dX0_good_1 : decode cX0_good 1 = .ok (.getfield 119, 3) := dk_180 0 119 (dk_at dksX0_good_0 1 rfl rfl)
theorem dX0_good_4 : decode cX0_good 4 = .ok (.ifCond .ne 6, 3) := dk_154 0 6 (dk_at dksX0_good_0 4 rfl rfl)
theorem dX0_good_7 : decode cX0_good 7 = .ok (.bipush (-4), 2) := dk_16 252 (dk_at dksX0_good_0 7 rfl rfl)
theorem dX0_good_9 : decode cX0_good 9 = .ok (.ireturn, 1) := dk_172 (dk_at dksX0_good_0 9 rfl rfl)
theorem dX0_good_10 : decode cX0_good 10 = .ok (.aload_n 0, 1) := dk_42 (dk_at dksX0_good_0 10 rfl rfl)
theorem dX0_good_11 : decode cX0_good 11 = .ok (.invokevirtual 274, 3) := dk_182 1 18 (dk_at dksX0_good_0 11 rfl rfl)
theorem dX0_good_14 : decode cX0_good 14 = .ok (.lstore_n 1, 1) := dk_64 (dk_at dksX0_good_0 14 rfl rfl)
theorem dX0_good_15 : decode cX0_good 15 = .ok (.aload_n 0, 1) := dk_42 (dk_at dksX0_good_0 15 rfl rfl)
theorem dX0_good_16 : decode cX0_good 16 = .ok (.lload_n 1, 1) := dk_31 (dk_at dksX0_good_0 16 rfl rfl)
theorem dX0_good_17 : decode cX0_good 17 = .ok (.lconst 0, 1) := dk_9 (dk_at dksX0_good_0 17 rfl rfl)
theorem dX0_good_18 : decode cX0_good 18 = .ok (.lcmp, 1) := dk_148 (dk_at dksX0_good_0 18 rfl rfl)
theorem dX0_good_19 : decode cX0_good 19 = .ok (.ifCond .ne 8, 3) := dk_154 0 8 (dk_at dksX0_good_0 19 rfl rfl)
theorem dX0_good_22 : decode cX0_good 22 = .ok (.bipush (-9), 2) := dk_16 247 (dk_at dksX0_good_0 22 rfl rfl)
theorem dX0_good_24 : decode cX0_good 24 = .ok (.goto 7, 3) := dk_167 0 7 (dk_at dksX0_good_1 0 rfl rfl)
theorem dX0_good_27 : decode cX0_good 27 = .ok (.lload_n 1, 1) := dk_31 (dk_at dksX0_good_1 3 rfl rfl)
theorem dX0_good_28 : decode cX0_good 28 = .ok (.invokestatic 277, 3) := dk_184 1 21 (dk_at dksX0_good_1 4 rfl rfl)
theorem dX0_good_31 : decode cX0_good 31 = .ok (.lload_n 1, 1) := dk_31 (dk_at dksX0_good_1 7 rfl rfl)
theorem dX0_good_32 : decode cX0_good 32 = .ok (.invokestatic 203, 3) := dk_184 0 203 (dk_at dksX0_good_1 8 rfl rfl)
theorem dX0_good_35 : decode cX0_good 35 = .ok (.invokevirtual 80, 3) := dk_182 0 80 (dk_at dksX0_good_1 11 rfl rfl)
theorem dX0_good_38 : decode cX0_good 38 = .ok (.ireturn, 1) := dk_172 (dk_at dksX0_good_1 14 rfl rfl)
abbrev cX0_goodWays : ByteArray := prog_1_method_63_code
def yX0_goodWays : MethodName := ⟨RX0, "goodWays", "()J"⟩
def dkwX0_goodWays_0 : List UInt8 := [42, 182, 1, 11, 42, 42, 182, 0, 236, 182, 1, 14, 173]
abbrev dktX0_goodWays_0 : List UInt8 := dkwX0_goodWays_0 ++ []
theorem dksX0_goodWays_0 : cX0_goodWays.data.toList.drop 0 = dktX0_goodWays_0 := by decide +kernel
theorem dX0_goodWays_0 : decode cX0_goodWays 0 = .ok (.aload_n 0, 1) := dk_42 (dk_at dksX0_goodWays_0 0 rfl rfl)
theorem dX0_goodWays_1 : decode cX0_goodWays 1 = .ok (.invokevirtual 267, 3) := dk_182 1 11 (dk_at dksX0_goodWays_0 1 rfl rfl)
theorem dX0_goodWays_4 : decode cX0_goodWays 4 = .ok (.aload_n 0, 1) := dk_42 (dk_at dksX0_goodWays_0 4 rfl rfl)
theorem dX0_goodWays_5 : decode cX0_goodWays 5 = .ok (.aload_n 0, 1) := dk_42 (dk_at dksX0_goodWays_0 5 rfl rfl)
theorem dX0_goodWays_6 : decode cX0_goodWays 6 = .ok (.invokevirtual 236, 3) := dk_182 0 236 (dk_at dksX0_goodWays_0 6 rfl rfl)
theorem dX0_goodWays_9 : decode cX0_goodWays 9 = .ok (.invokevirtual 270, 3) := dk_182 1 14 (dk_at dksX0_goodWays_0 9 rfl rfl)
theorem dX0_goodWays_12 : decode cX0_goodWays 12 = .ok (.lreturn, 1) := dk_173 (dk_at dksX0_goodWays_0 12 rfl rfl)
abbrev cX0_laySets : ByteArray := prog_1_method_61_code
def yX0_laySets : MethodName := ⟨RX0, "laySets", "()V"⟩
def dkwX0_laySets_1 : List UInt8 := [182, 0, 199, 80, 132, 1, 1, 167, 255, 229, 177]
abbrev dktX0_laySets_1 : List UInt8 := dkwX0_laySets_1 ++ []
def dkwX0_laySets_0 : List UInt8 := [3, 60, 27, 42, 180, 0, 122, 162, 0, 25, 42, 180, 0, 59, 27, 42, 42, 180, 0, 40, 27, 50]
abbrev dktX0_laySets_0 : List UInt8 := dkwX0_laySets_0 ++ dktX0_laySets_1
theorem dksX0_laySets_0 : cX0_laySets.data.toList.drop 0 = dktX0_laySets_0 := by decide +kernel
theorem dksX0_laySets_1 : cX0_laySets.data.toList.drop 22 = dktX0_laySets_1 := dk_seg dksX0_laySets_0 22 rfl rfl
theorem dX0_laySets_0 : decode cX0_laySets 0 = .ok (.iconst 0, 1) := dk_3 (dk_at dksX0_laySets_0 0 rfl rfl)
theorem dX0_laySets_1 : decode cX0_laySets 1 = .ok (.istore_n 1, 1) := dk_60 (dk_at dksX0_laySets_0 1 rfl rfl)
theorem dX0_laySets_2 : decode cX0_laySets 2 = .ok (.iload_n 1, 1) := dk_27 (dk_at dksX0_laySets_0 2 rfl rfl)
theorem dX0_laySets_3 : decode cX0_laySets 3 = .ok (.aload_n 0, 1) := dk_42 (dk_at dksX0_laySets_0 3 rfl rfl)
theorem dX0_laySets_4 : decode cX0_laySets 4 = .ok (.getfield 122, 3) := dk_180 0 122 (dk_at dksX0_laySets_0 4 rfl rfl)
theorem dX0_laySets_7 : decode cX0_laySets 7 = .ok (.if_icmp .ge 25, 3) := dk_162 0 25 (dk_at dksX0_laySets_0 7 rfl rfl)
theorem dX0_laySets_10 : decode cX0_laySets 10 = .ok (.aload_n 0, 1) := dk_42 (dk_at dksX0_laySets_0 10 rfl rfl)
theorem dX0_laySets_11 : decode cX0_laySets 11 = .ok (.getfield 59, 3) := dk_180 0 59 (dk_at dksX0_laySets_0 11 rfl rfl)
theorem dX0_laySets_14 : decode cX0_laySets 14 = .ok (.iload_n 1, 1) := dk_27 (dk_at dksX0_laySets_0 14 rfl rfl)
theorem dX0_laySets_15 : decode cX0_laySets 15 = .ok (.aload_n 0, 1) := dk_42 (dk_at dksX0_laySets_0 15 rfl rfl)
theorem dX0_laySets_16 : decode cX0_laySets 16 = .ok (.aload_n 0, 1) := dk_42 (dk_at dksX0_laySets_0 16 rfl rfl)
theorem dX0_laySets_17 : decode cX0_laySets 17 = .ok (.getfield 40, 3) := dk_180 0 40 (dk_at dksX0_laySets_0 17 rfl rfl)
theorem dX0_laySets_20 : decode cX0_laySets 20 = .ok (.iload_n 1, 1) := dk_27 (dk_at dksX0_laySets_0 20 rfl rfl)
theorem dX0_laySets_21 : decode cX0_laySets 21 = .ok (.aaload, 1) := dk_50 (dk_at dksX0_laySets_0 21 rfl rfl)
theorem dX0_laySets_22 : decode cX0_laySets 22 = .ok (.invokevirtual 199, 3) := dk_182 0 199 (dk_at dksX0_laySets_1 0 rfl rfl)
theorem dX0_laySets_25 : decode cX0_laySets 25 = .ok (.lastore, 1) := dk_80 (dk_at dksX0_laySets_1 3 rfl rfl)
theorem dX0_laySets_26 : decode cX0_laySets 26 = .ok (.iinc 1 1, 3) := dk_132 1 1 (dk_at dksX0_laySets_1 4 rfl rfl)
theorem dX0_laySets_29 : decode cX0_laySets 29 = .ok (.goto (-27), 3) := dk_167 255 229 (dk_at dksX0_laySets_1 7 rfl rfl)
theorem dX0_laySets_32 : decode cX0_laySets 32 = .ok (.return_, 1) := dk_177 (dk_at dksX0_laySets_1 10 rfl rfl)
abbrev cX0_common : ByteArray := prog_1_method_62_code
def yX0_common : MethodName := ⟨RX0, "common", "(I)J"⟩
def dkwX0_common_2 : List UInt8 := [32, 173]
abbrev dktX0_common_2 : List UInt8 := dkwX0_common_2 ++ []
def dkwX0_common_1 : List UInt8 := [153, 0, 13, 42, 180, 0, 59, 21, 4, 47, 167, 0, 6, 20, 1, 5, 127, 65, 132, 4, 1, 167, 255, 219]
abbrev dktX0_common_1 : List UInt8 := dkwX0_common_1 ++ dktX0_common_2
def dkwX0_common_0 : List UInt8 := [42, 182, 1, 7, 65, 3, 54, 4, 21, 4, 42, 180, 0, 122, 162, 0, 34, 32, 27, 21, 4, 184, 0, 129]
abbrev dktX0_common_0 : List UInt8 := dkwX0_common_0 ++ dktX0_common_1
theorem dksX0_common_0 : cX0_common.data.toList.drop 0 = dktX0_common_0 := by decide +kernel
theorem dksX0_common_1 : cX0_common.data.toList.drop 24 = dktX0_common_1 := dk_seg dksX0_common_0 24 rfl rfl
theorem dksX0_common_2 : cX0_common.data.toList.drop 48 = dktX0_common_2 := dk_seg dksX0_common_1 24 rfl rfl
theorem dX0_common_0 : decode cX0_common 0 = .ok (.aload_n 0, 1) := dk_42 (dk_at dksX0_common_0 0 rfl rfl)
theorem dX0_common_1 : decode cX0_common 1 = .ok (.invokevirtual 263, 3) := dk_182 1 7 (dk_at dksX0_common_0 1 rfl rfl)
theorem dX0_common_4 : decode cX0_common 4 = .ok (.lstore_n 2, 1) := dk_65 (dk_at dksX0_common_0 4 rfl rfl)
theorem dX0_common_5 : decode cX0_common 5 = .ok (.iconst 0, 1) := dk_3 (dk_at dksX0_common_0 5 rfl rfl)
theorem dX0_common_6 : decode cX0_common 6 = .ok (.istore 4, 2) := dk_54 4 (dk_at dksX0_common_0 6 rfl rfl)
theorem dX0_common_8 : decode cX0_common 8 = .ok (.iload 4, 2) := dk_21 4 (dk_at dksX0_common_0 8 rfl rfl)
theorem dX0_common_10 : decode cX0_common 10 = .ok (.aload_n 0, 1) := dk_42 (dk_at dksX0_common_0 10 rfl rfl)
theorem dX0_common_11 : decode cX0_common 11 = .ok (.getfield 122, 3) := dk_180 0 122 (dk_at dksX0_common_0 11 rfl rfl)
theorem dX0_common_14 : decode cX0_common 14 = .ok (.if_icmp .ge 34, 3) := dk_162 0 34 (dk_at dksX0_common_0 14 rfl rfl)
theorem dX0_common_17 : decode cX0_common 17 = .ok (.lload_n 2, 1) := dk_32 (dk_at dksX0_common_0 17 rfl rfl)
theorem dX0_common_18 : decode cX0_common 18 = .ok (.iload_n 1, 1) := dk_27 (dk_at dksX0_common_0 18 rfl rfl)
theorem dX0_common_19 : decode cX0_common 19 = .ok (.iload 4, 2) := dk_21 4 (dk_at dksX0_common_0 19 rfl rfl)
theorem dX0_common_21 : decode cX0_common 21 = .ok (.invokestatic 129, 3) := dk_184 0 129 (dk_at dksX0_common_0 21 rfl rfl)
theorem dX0_common_24 : decode cX0_common 24 = .ok (.ifCond .eq 13, 3) := dk_153 0 13 (dk_at dksX0_common_1 0 rfl rfl)
theorem dX0_common_27 : decode cX0_common 27 = .ok (.aload_n 0, 1) := dk_42 (dk_at dksX0_common_1 3 rfl rfl)
theorem dX0_common_28 : decode cX0_common 28 = .ok (.getfield 59, 3) := dk_180 0 59 (dk_at dksX0_common_1 4 rfl rfl)
theorem dX0_common_31 : decode cX0_common 31 = .ok (.iload 4, 2) := dk_21 4 (dk_at dksX0_common_1 7 rfl rfl)
theorem dX0_common_33 : decode cX0_common 33 = .ok (.laload, 1) := dk_47 (dk_at dksX0_common_1 9 rfl rfl)
theorem dX0_common_34 : decode cX0_common 34 = .ok (.goto 6, 3) := dk_167 0 6 (dk_at dksX0_common_1 10 rfl rfl)
theorem dX0_common_37 : decode cX0_common 37 = .ok (.ldc2_w 261, 3) := dk_20 1 5 (dk_at dksX0_common_1 13 rfl rfl)
theorem dX0_common_40 : decode cX0_common 40 = .ok (.land, 1) := dk_127 (dk_at dksX0_common_1 16 rfl rfl)
theorem dX0_common_41 : decode cX0_common 41 = .ok (.lstore_n 2, 1) := dk_65 (dk_at dksX0_common_1 17 rfl rfl)
theorem dX0_common_42 : decode cX0_common 42 = .ok (.iinc 4 1, 3) := dk_132 4 1 (dk_at dksX0_common_1 18 rfl rfl)
theorem dX0_common_45 : decode cX0_common 45 = .ok (.goto (-37), 3) := dk_167 255 219 (dk_at dksX0_common_1 21 rfl rfl)
theorem dX0_common_48 : decode cX0_common 48 = .ok (.lload_n 2, 1) := dk_32 (dk_at dksX0_common_2 0 rfl rfl)
theorem dX0_common_49 : decode cX0_common 49 = .ok (.lreturn, 1) := dk_173 (dk_at dksX0_common_2 1 rfl rfl)
abbrev cX0_allWays : ByteArray := prog_1_method_60_code
def yX0_allWays : MethodName := ⟨RX0, "allWays", "()J"⟩
def dkwX0_allWays_0 : List UInt8 := [42, 180, 0, 119, 16, 6, 160, 0, 9, 20, 1, 5, 167, 0, 11, 10, 42, 182, 0, 125, 121, 10, 101, 173]
abbrev dktX0_allWays_0 : List UInt8 := dkwX0_allWays_0 ++ []
theorem dksX0_allWays_0 : cX0_allWays.data.toList.drop 0 = dktX0_allWays_0 := by decide +kernel
theorem dX0_allWays_0 : decode cX0_allWays 0 = .ok (.aload_n 0, 1) := dk_42 (dk_at dksX0_allWays_0 0 rfl rfl)
theorem dX0_allWays_1 : decode cX0_allWays 1 = .ok (.getfield 119, 3) := dk_180 0 119 (dk_at dksX0_allWays_0 1 rfl rfl)
theorem dX0_allWays_4 : decode cX0_allWays 4 = .ok (.bipush 6, 2) := dk_16 6 (dk_at dksX0_allWays_0 4 rfl rfl)
theorem dX0_allWays_6 : decode cX0_allWays 6 = .ok (.if_icmp .ne 9, 3) := dk_160 0 9 (dk_at dksX0_allWays_0 6 rfl rfl)
theorem dX0_allWays_9 : decode cX0_allWays 9 = .ok (.ldc2_w 261, 3) := dk_20 1 5 (dk_at dksX0_allWays_0 9 rfl rfl)
theorem dX0_allWays_12 : decode cX0_allWays 12 = .ok (.goto 11, 3) := dk_167 0 11 (dk_at dksX0_allWays_0 12 rfl rfl)
theorem dX0_allWays_15 : decode cX0_allWays 15 = .ok (.lconst 1, 1) := dk_10 (dk_at dksX0_allWays_0 15 rfl rfl)
theorem dX0_allWays_16 : decode cX0_allWays 16 = .ok (.aload_n 0, 1) := dk_42 (dk_at dksX0_allWays_0 16 rfl rfl)
theorem dX0_allWays_17 : decode cX0_allWays 17 = .ok (.invokevirtual 125, 3) := dk_182 0 125 (dk_at dksX0_allWays_0 17 rfl rfl)
theorem dX0_allWays_20 : decode cX0_allWays 20 = .ok (.lshl, 1) := dk_121 (dk_at dksX0_allWays_0 20 rfl rfl)
theorem dX0_allWays_21 : decode cX0_allWays 21 = .ok (.lconst 1, 1) := dk_10 (dk_at dksX0_allWays_0 21 rfl rfl)
theorem dX0_allWays_22 : decode cX0_allWays 22 = .ok (.lsub, 1) := dk_101 (dk_at dksX0_allWays_0 22 rfl rfl)
theorem dX0_allWays_23 : decode cX0_allWays 23 = .ok (.lreturn, 1) := dk_173 (dk_at dksX0_allWays_0 23 rfl rfl)
abbrev cX0_cheapest : ByteArray := prog_1_method_67_code
def yX0_cheapest : MethodName := ⟨RX0, "cheapest", "()I"⟩
def dkwX0_cheapest_1 : List UInt8 := [160, 0, 8, 16, 247, 167, 0, 13, 42, 42, 27, 182, 0, 252, 27, 182, 0, 80, 172]
abbrev dktX0_cheapest_1 : List UInt8 := dkwX0_cheapest_1 ++ []
def dkwX0_cheapest_0 : List UInt8 := [42, 180, 0, 119, 154, 0, 6, 16, 252, 172, 42, 42, 182, 1, 18, 4, 182, 1, 29, 60, 27, 16, 247]
abbrev dktX0_cheapest_0 : List UInt8 := dkwX0_cheapest_0 ++ dktX0_cheapest_1
theorem dksX0_cheapest_0 : cX0_cheapest.data.toList.drop 0 = dktX0_cheapest_0 := by decide +kernel
theorem dksX0_cheapest_1 : cX0_cheapest.data.toList.drop 23 = dktX0_cheapest_1 := dk_seg dksX0_cheapest_0 23 rfl rfl
theorem dX0_cheapest_0 : decode cX0_cheapest 0 = .ok (.aload_n 0, 1) := dk_42 (dk_at dksX0_cheapest_0 0 rfl rfl)
theorem dX0_cheapest_1 : decode cX0_cheapest 1 = .ok (.getfield 119, 3) := dk_180 0 119 (dk_at dksX0_cheapest_0 1 rfl rfl)
theorem dX0_cheapest_4 : decode cX0_cheapest 4 = .ok (.ifCond .ne 6, 3) := dk_154 0 6 (dk_at dksX0_cheapest_0 4 rfl rfl)
theorem dX0_cheapest_7 : decode cX0_cheapest 7 = .ok (.bipush (-4), 2) := dk_16 252 (dk_at dksX0_cheapest_0 7 rfl rfl)
theorem dX0_cheapest_9 : decode cX0_cheapest 9 = .ok (.ireturn, 1) := dk_172 (dk_at dksX0_cheapest_0 9 rfl rfl)
theorem dX0_cheapest_10 : decode cX0_cheapest 10 = .ok (.aload_n 0, 1) := dk_42 (dk_at dksX0_cheapest_0 10 rfl rfl)
theorem dX0_cheapest_11 : decode cX0_cheapest 11 = .ok (.aload_n 0, 1) := dk_42 (dk_at dksX0_cheapest_0 11 rfl rfl)
theorem dX0_cheapest_12 : decode cX0_cheapest 12 = .ok (.invokevirtual 274, 3) := dk_182 1 18 (dk_at dksX0_cheapest_0 12 rfl rfl)
theorem dX0_cheapest_15 : decode cX0_cheapest 15 = .ok (.iconst 1, 1) := dk_4 (dk_at dksX0_cheapest_0 15 rfl rfl)
theorem dX0_cheapest_16 : decode cX0_cheapest 16 = .ok (.invokevirtual 285, 3) := dk_182 1 29 (dk_at dksX0_cheapest_0 16 rfl rfl)
theorem dX0_cheapest_19 : decode cX0_cheapest 19 = .ok (.istore_n 1, 1) := dk_60 (dk_at dksX0_cheapest_0 19 rfl rfl)
theorem dX0_cheapest_20 : decode cX0_cheapest 20 = .ok (.iload_n 1, 1) := dk_27 (dk_at dksX0_cheapest_0 20 rfl rfl)
theorem dX0_cheapest_21 : decode cX0_cheapest 21 = .ok (.bipush (-9), 2) := dk_16 247 (dk_at dksX0_cheapest_0 21 rfl rfl)
theorem dX0_cheapest_23 : decode cX0_cheapest 23 = .ok (.if_icmp .ne 8, 3) := dk_160 0 8 (dk_at dksX0_cheapest_1 0 rfl rfl)
theorem dX0_cheapest_26 : decode cX0_cheapest 26 = .ok (.bipush (-9), 2) := dk_16 247 (dk_at dksX0_cheapest_1 3 rfl rfl)
theorem dX0_cheapest_28 : decode cX0_cheapest 28 = .ok (.goto 13, 3) := dk_167 0 13 (dk_at dksX0_cheapest_1 5 rfl rfl)
theorem dX0_cheapest_31 : decode cX0_cheapest 31 = .ok (.aload_n 0, 1) := dk_42 (dk_at dksX0_cheapest_1 8 rfl rfl)
theorem dX0_cheapest_32 : decode cX0_cheapest 32 = .ok (.aload_n 0, 1) := dk_42 (dk_at dksX0_cheapest_1 9 rfl rfl)
theorem dX0_cheapest_33 : decode cX0_cheapest 33 = .ok (.iload_n 1, 1) := dk_27 (dk_at dksX0_cheapest_1 10 rfl rfl)
theorem dX0_cheapest_34 : decode cX0_cheapest 34 = .ok (.invokevirtual 252, 3) := dk_182 0 252 (dk_at dksX0_cheapest_1 11 rfl rfl)
theorem dX0_cheapest_37 : decode cX0_cheapest 37 = .ok (.iload_n 1, 1) := dk_27 (dk_at dksX0_cheapest_1 14 rfl rfl)
theorem dX0_cheapest_38 : decode cX0_cheapest 38 = .ok (.invokevirtual 80, 3) := dk_182 0 80 (dk_at dksX0_cheapest_1 15 rfl rfl)
theorem dX0_cheapest_41 : decode cX0_cheapest 41 = .ok (.ireturn, 1) := dk_172 (dk_at dksX0_cheapest_1 18 rfl rfl)
abbrev cX0_bestOf : ByteArray := prog_1_method_66_code
def yX0_bestOf : MethodName := ⟨RX0, "bestOf", "(JZ)I"⟩
def dkwX0_bestOf_3 : List UInt8 := [167, 255, 200, 21, 4, 172]
abbrev dktX0_bestOf_3 : List UInt8 := dkwX0_bestOf_3 ++ []
def dkwX0_bestOf_2 : List UInt8 := [184, 1, 25, 153, 0, 18, 21, 7, 21, 5, 162, 0, 11, 21, 6, 54, 4, 21, 7, 54, 5, 132, 6, 1]
abbrev dktX0_bestOf_2 : List UInt8 := dkwX0_bestOf_2 ++ dktX0_bestOf_3
def dkwX0_bestOf_1 : List UInt8 := [153, 0, 12, 42, 21, 6, 182, 0, 252, 167, 0, 8, 21, 6, 184, 0, 239, 54, 7, 31, 21, 6]
abbrev dktX0_bestOf_1 : List UInt8 := dkwX0_bestOf_1 ++ dktX0_bestOf_2
def dkwX0_bestOf_0 : List UInt8 := [16, 247, 54, 4, 19, 1, 24, 54, 5, 3, 54, 6, 21, 6, 42, 182, 0, 125, 162, 0, 53, 29]
abbrev dktX0_bestOf_0 : List UInt8 := dkwX0_bestOf_0 ++ dktX0_bestOf_1
theorem dksX0_bestOf_0 : cX0_bestOf.data.toList.drop 0 = dktX0_bestOf_0 := by decide +kernel
theorem dksX0_bestOf_1 : cX0_bestOf.data.toList.drop 22 = dktX0_bestOf_1 := dk_seg dksX0_bestOf_0 22 rfl rfl
theorem dksX0_bestOf_2 : cX0_bestOf.data.toList.drop 44 = dktX0_bestOf_2 := dk_seg dksX0_bestOf_1 22 rfl rfl
theorem dksX0_bestOf_3 : cX0_bestOf.data.toList.drop 68 = dktX0_bestOf_3 := dk_seg dksX0_bestOf_2 24 rfl rfl
theorem dX0_bestOf_0 : decode cX0_bestOf 0 = .ok (.bipush (-9), 2) := dk_16 247 (dk_at dksX0_bestOf_0 0 rfl rfl)
theorem dX0_bestOf_2 : decode cX0_bestOf 2 = .ok (.istore 4, 2) := dk_54 4 (dk_at dksX0_bestOf_0 2 rfl rfl)
theorem dX0_bestOf_4 : decode cX0_bestOf 4 = .ok (.ldc_w 280, 3) := dk_19 1 24 (dk_at dksX0_bestOf_0 4 rfl rfl)
theorem dX0_bestOf_7 : decode cX0_bestOf 7 = .ok (.istore 5, 2) := dk_54 5 (dk_at dksX0_bestOf_0 7 rfl rfl)
theorem dX0_bestOf_9 : decode cX0_bestOf 9 = .ok (.iconst 0, 1) := dk_3 (dk_at dksX0_bestOf_0 9 rfl rfl)
theorem dX0_bestOf_10 : decode cX0_bestOf 10 = .ok (.istore 6, 2) := dk_54 6 (dk_at dksX0_bestOf_0 10 rfl rfl)
theorem dX0_bestOf_12 : decode cX0_bestOf 12 = .ok (.iload 6, 2) := dk_21 6 (dk_at dksX0_bestOf_0 12 rfl rfl)
theorem dX0_bestOf_14 : decode cX0_bestOf 14 = .ok (.aload_n 0, 1) := dk_42 (dk_at dksX0_bestOf_0 14 rfl rfl)
theorem dX0_bestOf_15 : decode cX0_bestOf 15 = .ok (.invokevirtual 125, 3) := dk_182 0 125 (dk_at dksX0_bestOf_0 15 rfl rfl)
theorem dX0_bestOf_18 : decode cX0_bestOf 18 = .ok (.if_icmp .ge 53, 3) := dk_162 0 53 (dk_at dksX0_bestOf_0 18 rfl rfl)
theorem dX0_bestOf_21 : decode cX0_bestOf 21 = .ok (.iload_n 3, 1) := dk_29 (dk_at dksX0_bestOf_0 21 rfl rfl)
theorem dX0_bestOf_22 : decode cX0_bestOf 22 = .ok (.ifCond .eq 12, 3) := dk_153 0 12 (dk_at dksX0_bestOf_1 0 rfl rfl)
theorem dX0_bestOf_25 : decode cX0_bestOf 25 = .ok (.aload_n 0, 1) := dk_42 (dk_at dksX0_bestOf_1 3 rfl rfl)
theorem dX0_bestOf_26 : decode cX0_bestOf 26 = .ok (.iload 6, 2) := dk_21 6 (dk_at dksX0_bestOf_1 4 rfl rfl)
theorem dX0_bestOf_28 : decode cX0_bestOf 28 = .ok (.invokevirtual 252, 3) := dk_182 0 252 (dk_at dksX0_bestOf_1 6 rfl rfl)
theorem dX0_bestOf_31 : decode cX0_bestOf 31 = .ok (.goto 8, 3) := dk_167 0 8 (dk_at dksX0_bestOf_1 9 rfl rfl)
theorem dX0_bestOf_34 : decode cX0_bestOf 34 = .ok (.iload 6, 2) := dk_21 6 (dk_at dksX0_bestOf_1 12 rfl rfl)
theorem dX0_bestOf_36 : decode cX0_bestOf 36 = .ok (.invokestatic 239, 3) := dk_184 0 239 (dk_at dksX0_bestOf_1 14 rfl rfl)
theorem dX0_bestOf_39 : decode cX0_bestOf 39 = .ok (.istore 7, 2) := dk_54 7 (dk_at dksX0_bestOf_1 17 rfl rfl)
theorem dX0_bestOf_41 : decode cX0_bestOf 41 = .ok (.lload_n 1, 1) := dk_31 (dk_at dksX0_bestOf_1 19 rfl rfl)
theorem dX0_bestOf_42 : decode cX0_bestOf 42 = .ok (.iload 6, 2) := dk_21 6 (dk_at dksX0_bestOf_1 20 rfl rfl)
theorem dX0_bestOf_44 : decode cX0_bestOf 44 = .ok (.invokestatic 281, 3) := dk_184 1 25 (dk_at dksX0_bestOf_2 0 rfl rfl)
theorem dX0_bestOf_47 : decode cX0_bestOf 47 = .ok (.ifCond .eq 18, 3) := dk_153 0 18 (dk_at dksX0_bestOf_2 3 rfl rfl)
theorem dX0_bestOf_50 : decode cX0_bestOf 50 = .ok (.iload 7, 2) := dk_21 7 (dk_at dksX0_bestOf_2 6 rfl rfl)
theorem dX0_bestOf_52 : decode cX0_bestOf 52 = .ok (.iload 5, 2) := dk_21 5 (dk_at dksX0_bestOf_2 8 rfl rfl)
theorem dX0_bestOf_54 : decode cX0_bestOf 54 = .ok (.if_icmp .ge 11, 3) := dk_162 0 11 (dk_at dksX0_bestOf_2 10 rfl rfl)
theorem dX0_bestOf_57 : decode cX0_bestOf 57 = .ok (.iload 6, 2) := dk_21 6 (dk_at dksX0_bestOf_2 13 rfl rfl)
theorem dX0_bestOf_59 : decode cX0_bestOf 59 = .ok (.istore 4, 2) := dk_54 4 (dk_at dksX0_bestOf_2 15 rfl rfl)
theorem dX0_bestOf_61 : decode cX0_bestOf 61 = .ok (.iload 7, 2) := dk_21 7 (dk_at dksX0_bestOf_2 17 rfl rfl)
theorem dX0_bestOf_63 : decode cX0_bestOf 63 = .ok (.istore 5, 2) := dk_54 5 (dk_at dksX0_bestOf_2 19 rfl rfl)
theorem dX0_bestOf_65 : decode cX0_bestOf 65 = .ok (.iinc 6 1, 3) := dk_132 6 1 (dk_at dksX0_bestOf_2 21 rfl rfl)
theorem dX0_bestOf_68 : decode cX0_bestOf 68 = .ok (.goto (-56), 3) := dk_167 255 200 (dk_at dksX0_bestOf_3 0 rfl rfl)
theorem dX0_bestOf_71 : decode cX0_bestOf 71 = .ok (.iload 4, 2) := dk_21 4 (dk_at dksX0_bestOf_3 3 rfl rfl)
theorem dX0_bestOf_73 : decode cX0_bestOf 73 = .ok (.ireturn, 1) := dk_172 (dk_at dksX0_bestOf_3 5 rfl rfl)
abbrev cX0_isIn : ByteArray := prog_1_method_64_code
def yX0_isIn : MethodName := ⟨RX0, "isIn", "(JI)Z"⟩
def dkwX0_isIn_0 : List UInt8 := [30, 28, 125, 10, 127, 10, 148, 154, 0, 7, 4, 167, 0, 4, 3, 172]
abbrev dktX0_isIn_0 : List UInt8 := dkwX0_isIn_0 ++ []
theorem dksX0_isIn_0 : cX0_isIn.data.toList.drop 0 = dktX0_isIn_0 := by decide +kernel
theorem dX0_isIn_0 : decode cX0_isIn 0 = .ok (.lload_n 0, 1) := dk_30 (dk_at dksX0_isIn_0 0 rfl rfl)
theorem dX0_isIn_1 : decode cX0_isIn 1 = .ok (.iload_n 2, 1) := dk_28 (dk_at dksX0_isIn_0 1 rfl rfl)
theorem dX0_isIn_2 : decode cX0_isIn 2 = .ok (.lushr, 1) := dk_125 (dk_at dksX0_isIn_0 2 rfl rfl)
theorem dX0_isIn_3 : decode cX0_isIn 3 = .ok (.lconst 1, 1) := dk_10 (dk_at dksX0_isIn_0 3 rfl rfl)
theorem dX0_isIn_4 : decode cX0_isIn 4 = .ok (.land, 1) := dk_127 (dk_at dksX0_isIn_0 4 rfl rfl)
theorem dX0_isIn_5 : decode cX0_isIn 5 = .ok (.lconst 1, 1) := dk_10 (dk_at dksX0_isIn_0 5 rfl rfl)
theorem dX0_isIn_6 : decode cX0_isIn 6 = .ok (.lcmp, 1) := dk_148 (dk_at dksX0_isIn_0 6 rfl rfl)
theorem dX0_isIn_7 : decode cX0_isIn 7 = .ok (.ifCond .ne 7, 3) := dk_154 0 7 (dk_at dksX0_isIn_0 7 rfl rfl)
theorem dX0_isIn_10 : decode cX0_isIn 10 = .ok (.iconst 1, 1) := dk_4 (dk_at dksX0_isIn_0 10 rfl rfl)
theorem dX0_isIn_11 : decode cX0_isIn 11 = .ok (.goto 4, 3) := dk_167 0 4 (dk_at dksX0_isIn_0 11 rfl rfl)
theorem dX0_isIn_14 : decode cX0_isIn 14 = .ok (.iconst 0, 1) := dk_3 (dk_at dksX0_isIn_0 14 rfl rfl)
theorem dX0_isIn_15 : decode cX0_isIn 15 = .ok (.ireturn, 1) := dk_172 (dk_at dksX0_isIn_0 15 rfl rfl)
abbrev cX0_fewest : ByteArray := prog_1_method_68_code
def yX0_fewest : MethodName := ⟨RX0, "fewest", "()I"⟩
def dkwX0_fewest_1 : List UInt8 := [160, 0, 8, 16, 247, 167, 0, 12, 42, 27, 184, 0, 239, 27, 182, 0, 80, 172]
abbrev dktX0_fewest_1 : List UInt8 := dkwX0_fewest_1 ++ []
def dkwX0_fewest_0 : List UInt8 := [42, 180, 0, 119, 154, 0, 6, 16, 252, 172, 42, 42, 182, 1, 18, 3, 182, 1, 29, 60, 27, 16, 247]
abbrev dktX0_fewest_0 : List UInt8 := dkwX0_fewest_0 ++ dktX0_fewest_1
theorem dksX0_fewest_0 : cX0_fewest.data.toList.drop 0 = dktX0_fewest_0 := by decide +kernel
theorem dksX0_fewest_1 : cX0_fewest.data.toList.drop 23 = dktX0_fewest_1 := dk_seg dksX0_fewest_0 23 rfl rfl
theorem dX0_fewest_0 : decode cX0_fewest 0 = .ok (.aload_n 0, 1) := dk_42 (dk_at dksX0_fewest_0 0 rfl rfl)
theorem dX0_fewest_1 : decode cX0_fewest 1 = .ok (.getfield 119, 3) := dk_180 0 119 (dk_at dksX0_fewest_0 1 rfl rfl)
theorem dX0_fewest_4 : decode cX0_fewest 4 = .ok (.ifCond .ne 6, 3) := dk_154 0 6 (dk_at dksX0_fewest_0 4 rfl rfl)
theorem dX0_fewest_7 : decode cX0_fewest 7 = .ok (.bipush (-4), 2) := dk_16 252 (dk_at dksX0_fewest_0 7 rfl rfl)
theorem dX0_fewest_9 : decode cX0_fewest 9 = .ok (.ireturn, 1) := dk_172 (dk_at dksX0_fewest_0 9 rfl rfl)
theorem dX0_fewest_10 : decode cX0_fewest 10 = .ok (.aload_n 0, 1) := dk_42 (dk_at dksX0_fewest_0 10 rfl rfl)
theorem dX0_fewest_11 : decode cX0_fewest 11 = .ok (.aload_n 0, 1) := dk_42 (dk_at dksX0_fewest_0 11 rfl rfl)
theorem dX0_fewest_12 : decode cX0_fewest 12 = .ok (.invokevirtual 274, 3) := dk_182 1 18 (dk_at dksX0_fewest_0 12 rfl rfl)
theorem dX0_fewest_15 : decode cX0_fewest 15 = .ok (.iconst 0, 1) := dk_3 (dk_at dksX0_fewest_0 15 rfl rfl)
theorem dX0_fewest_16 : decode cX0_fewest 16 = .ok (.invokevirtual 285, 3) := dk_182 1 29 (dk_at dksX0_fewest_0 16 rfl rfl)
theorem dX0_fewest_19 : decode cX0_fewest 19 = .ok (.istore_n 1, 1) := dk_60 (dk_at dksX0_fewest_0 19 rfl rfl)
theorem dX0_fewest_20 : decode cX0_fewest 20 = .ok (.iload_n 1, 1) := dk_27 (dk_at dksX0_fewest_0 20 rfl rfl)
theorem dX0_fewest_21 : decode cX0_fewest 21 = .ok (.bipush (-9), 2) := dk_16 247 (dk_at dksX0_fewest_0 21 rfl rfl)
theorem dX0_fewest_23 : decode cX0_fewest 23 = .ok (.if_icmp .ne 8, 3) := dk_160 0 8 (dk_at dksX0_fewest_1 0 rfl rfl)
theorem dX0_fewest_26 : decode cX0_fewest 26 = .ok (.bipush (-9), 2) := dk_16 247 (dk_at dksX0_fewest_1 3 rfl rfl)
theorem dX0_fewest_28 : decode cX0_fewest 28 = .ok (.goto 12, 3) := dk_167 0 12 (dk_at dksX0_fewest_1 5 rfl rfl)
theorem dX0_fewest_31 : decode cX0_fewest 31 = .ok (.aload_n 0, 1) := dk_42 (dk_at dksX0_fewest_1 8 rfl rfl)
theorem dX0_fewest_32 : decode cX0_fewest 32 = .ok (.iload_n 1, 1) := dk_27 (dk_at dksX0_fewest_1 9 rfl rfl)
theorem dX0_fewest_33 : decode cX0_fewest 33 = .ok (.invokestatic 239, 3) := dk_184 0 239 (dk_at dksX0_fewest_1 10 rfl rfl)
theorem dX0_fewest_36 : decode cX0_fewest 36 = .ok (.iload_n 1, 1) := dk_27 (dk_at dksX0_fewest_1 13 rfl rfl)
theorem dX0_fewest_37 : decode cX0_fewest 37 = .ok (.invokevirtual 80, 3) := dk_182 0 80 (dk_at dksX0_fewest_1 14 rfl rfl)
theorem dX0_fewest_40 : decode cX0_fewest 40 = .ok (.ireturn, 1) := dk_172 (dk_at dksX0_fewest_1 17 rfl rfl)
abbrev cX0_nearest : ByteArray := prog_1_method_69_code
def yX0_nearest : MethodName := ⟨RX0, "nearest", "()I"⟩
def dkwX0_nearest_3 : List UInt8 := [172]
abbrev dktX0_nearest_3 : List UInt8 := dkwX0_nearest_3 ++ []
def dkwX0_nearest_2 : List UInt8 := [167, 0, 4, 27, 60, 28, 21, 4, 184, 1, 33, 61, 132, 3, 1, 167, 255, 211, 42, 28, 27, 182, 0, 80]
abbrev dktX0_nearest_2 : List UInt8 := dkwX0_nearest_2 ++ dktX0_nearest_3
def dkwX0_nearest_1 : List UInt8 := [42, 29, 182, 0, 255, 42, 182, 0, 236, 126, 184, 0, 239, 54, 4, 21, 4, 28, 164, 0, 7, 29]
abbrev dktX0_nearest_1 : List UInt8 := dkwX0_nearest_1 ++ dktX0_nearest_2
def dkwX0_nearest_0 : List UInt8 := [42, 180, 0, 119, 154, 0, 6, 16, 252, 172, 3, 60, 2, 61, 3, 62, 29, 42, 182, 0, 125, 162, 0, 43]
abbrev dktX0_nearest_0 : List UInt8 := dkwX0_nearest_0 ++ dktX0_nearest_1
theorem dksX0_nearest_0 : cX0_nearest.data.toList.drop 0 = dktX0_nearest_0 := by decide +kernel
theorem dksX0_nearest_1 : cX0_nearest.data.toList.drop 24 = dktX0_nearest_1 := dk_seg dksX0_nearest_0 24 rfl rfl
theorem dksX0_nearest_2 : cX0_nearest.data.toList.drop 46 = dktX0_nearest_2 := dk_seg dksX0_nearest_1 22 rfl rfl
theorem dksX0_nearest_3 : cX0_nearest.data.toList.drop 70 = dktX0_nearest_3 := dk_seg dksX0_nearest_2 24 rfl rfl
theorem dX0_nearest_0 : decode cX0_nearest 0 = .ok (.aload_n 0, 1) := dk_42 (dk_at dksX0_nearest_0 0 rfl rfl)
theorem dX0_nearest_1 : decode cX0_nearest 1 = .ok (.getfield 119, 3) := dk_180 0 119 (dk_at dksX0_nearest_0 1 rfl rfl)
theorem dX0_nearest_4 : decode cX0_nearest 4 = .ok (.ifCond .ne 6, 3) := dk_154 0 6 (dk_at dksX0_nearest_0 4 rfl rfl)
theorem dX0_nearest_7 : decode cX0_nearest 7 = .ok (.bipush (-4), 2) := dk_16 252 (dk_at dksX0_nearest_0 7 rfl rfl)
theorem dX0_nearest_9 : decode cX0_nearest 9 = .ok (.ireturn, 1) := dk_172 (dk_at dksX0_nearest_0 9 rfl rfl)
theorem dX0_nearest_10 : decode cX0_nearest 10 = .ok (.iconst 0, 1) := dk_3 (dk_at dksX0_nearest_0 10 rfl rfl)
theorem dX0_nearest_11 : decode cX0_nearest 11 = .ok (.istore_n 1, 1) := dk_60 (dk_at dksX0_nearest_0 11 rfl rfl)
theorem dX0_nearest_12 : decode cX0_nearest 12 = .ok (.iconst (-1), 1) := dk_2 (dk_at dksX0_nearest_0 12 rfl rfl)
theorem dX0_nearest_13 : decode cX0_nearest 13 = .ok (.istore_n 2, 1) := dk_61 (dk_at dksX0_nearest_0 13 rfl rfl)
theorem dX0_nearest_14 : decode cX0_nearest 14 = .ok (.iconst 0, 1) := dk_3 (dk_at dksX0_nearest_0 14 rfl rfl)
theorem dX0_nearest_15 : decode cX0_nearest 15 = .ok (.istore_n 3, 1) := dk_62 (dk_at dksX0_nearest_0 15 rfl rfl)
theorem dX0_nearest_16 : decode cX0_nearest 16 = .ok (.iload_n 3, 1) := dk_29 (dk_at dksX0_nearest_0 16 rfl rfl)
theorem dX0_nearest_17 : decode cX0_nearest 17 = .ok (.aload_n 0, 1) := dk_42 (dk_at dksX0_nearest_0 17 rfl rfl)
theorem dX0_nearest_18 : decode cX0_nearest 18 = .ok (.invokevirtual 125, 3) := dk_182 0 125 (dk_at dksX0_nearest_0 18 rfl rfl)
theorem dX0_nearest_21 : decode cX0_nearest 21 = .ok (.if_icmp .ge 43, 3) := dk_162 0 43 (dk_at dksX0_nearest_0 21 rfl rfl)
theorem dX0_nearest_24 : decode cX0_nearest 24 = .ok (.aload_n 0, 1) := dk_42 (dk_at dksX0_nearest_1 0 rfl rfl)
theorem dX0_nearest_25 : decode cX0_nearest 25 = .ok (.iload_n 3, 1) := dk_29 (dk_at dksX0_nearest_1 1 rfl rfl)
theorem dX0_nearest_26 : decode cX0_nearest 26 = .ok (.invokevirtual 255, 3) := dk_182 0 255 (dk_at dksX0_nearest_1 2 rfl rfl)
theorem dX0_nearest_29 : decode cX0_nearest 29 = .ok (.aload_n 0, 1) := dk_42 (dk_at dksX0_nearest_1 5 rfl rfl)
theorem dX0_nearest_30 : decode cX0_nearest 30 = .ok (.invokevirtual 236, 3) := dk_182 0 236 (dk_at dksX0_nearest_1 6 rfl rfl)
theorem dX0_nearest_33 : decode cX0_nearest 33 = .ok (.iand, 1) := dk_126 (dk_at dksX0_nearest_1 9 rfl rfl)
theorem dX0_nearest_34 : decode cX0_nearest 34 = .ok (.invokestatic 239, 3) := dk_184 0 239 (dk_at dksX0_nearest_1 10 rfl rfl)
theorem dX0_nearest_37 : decode cX0_nearest 37 = .ok (.istore 4, 2) := dk_54 4 (dk_at dksX0_nearest_1 13 rfl rfl)
theorem dX0_nearest_39 : decode cX0_nearest 39 = .ok (.iload 4, 2) := dk_21 4 (dk_at dksX0_nearest_1 15 rfl rfl)
theorem dX0_nearest_41 : decode cX0_nearest 41 = .ok (.iload_n 2, 1) := dk_28 (dk_at dksX0_nearest_1 17 rfl rfl)
theorem dX0_nearest_42 : decode cX0_nearest 42 = .ok (.if_icmp .le 7, 3) := dk_164 0 7 (dk_at dksX0_nearest_1 18 rfl rfl)
theorem dX0_nearest_45 : decode cX0_nearest 45 = .ok (.iload_n 3, 1) := dk_29 (dk_at dksX0_nearest_1 21 rfl rfl)
theorem dX0_nearest_46 : decode cX0_nearest 46 = .ok (.goto 4, 3) := dk_167 0 4 (dk_at dksX0_nearest_2 0 rfl rfl)
theorem dX0_nearest_49 : decode cX0_nearest 49 = .ok (.iload_n 1, 1) := dk_27 (dk_at dksX0_nearest_2 3 rfl rfl)
theorem dX0_nearest_50 : decode cX0_nearest 50 = .ok (.istore_n 1, 1) := dk_60 (dk_at dksX0_nearest_2 4 rfl rfl)
theorem dX0_nearest_51 : decode cX0_nearest 51 = .ok (.iload_n 2, 1) := dk_28 (dk_at dksX0_nearest_2 5 rfl rfl)
theorem dX0_nearest_52 : decode cX0_nearest 52 = .ok (.iload 4, 2) := dk_21 4 (dk_at dksX0_nearest_2 6 rfl rfl)
theorem dX0_nearest_54 : decode cX0_nearest 54 = .ok (.invokestatic 289, 3) := dk_184 1 33 (dk_at dksX0_nearest_2 8 rfl rfl)
theorem dX0_nearest_57 : decode cX0_nearest 57 = .ok (.istore_n 2, 1) := dk_61 (dk_at dksX0_nearest_2 11 rfl rfl)
theorem dX0_nearest_58 : decode cX0_nearest 58 = .ok (.iinc 3 1, 3) := dk_132 3 1 (dk_at dksX0_nearest_2 12 rfl rfl)
theorem dX0_nearest_61 : decode cX0_nearest 61 = .ok (.goto (-45), 3) := dk_167 255 211 (dk_at dksX0_nearest_2 15 rfl rfl)
theorem dX0_nearest_64 : decode cX0_nearest 64 = .ok (.aload_n 0, 1) := dk_42 (dk_at dksX0_nearest_2 18 rfl rfl)
theorem dX0_nearest_65 : decode cX0_nearest 65 = .ok (.iload_n 2, 1) := dk_28 (dk_at dksX0_nearest_2 19 rfl rfl)
theorem dX0_nearest_66 : decode cX0_nearest 66 = .ok (.iload_n 1, 1) := dk_27 (dk_at dksX0_nearest_2 20 rfl rfl)
theorem dX0_nearest_67 : decode cX0_nearest 67 = .ok (.invokevirtual 80, 3) := dk_182 0 80 (dk_at dksX0_nearest_2 21 rfl rfl)
theorem dX0_nearest_70 : decode cX0_nearest 70 = .ok (.ireturn, 1) := dk_172 (dk_at dksX0_nearest_3 0 rfl rfl)
abbrev cX0_tight : ByteArray := prog_1_method_70_code
def yX0_tight : MethodName := ⟨RX0, "tight", "(I)I"⟩
def dkwX0_tight_3 : List UInt8 := [3, 172]
abbrev dktX0_tight_3 : List UInt8 := dkwX0_tight_3 ++ []
def dkwX0_tight_2 : List UInt8 := [154, 0, 7, 4, 167, 0, 4, 3, 126, 61, 132, 3, 1, 167, 255, 215, 28, 153, 0, 7, 4, 167, 0, 4]
abbrev dktX0_tight_2 : List UInt8 := dkwX0_tight_2 ++ dktX0_tight_3
def dkwX0_tight_1 : List UInt8 := [162, 0, 39, 28, 27, 29, 184, 0, 129, 153, 0, 17, 42, 27, 4, 29, 120, 2, 130, 126, 182, 1, 2]
abbrev dktX0_tight_1 : List UInt8 := dkwX0_tight_1 ++ dktX0_tight_2
def dkwX0_tight_0 : List UInt8 := [42, 27, 182, 0, 249, 154, 0, 5, 2, 172, 42, 27, 182, 1, 2, 61, 3, 62, 29, 42, 180, 0, 119]
abbrev dktX0_tight_0 : List UInt8 := dkwX0_tight_0 ++ dktX0_tight_1
theorem dksX0_tight_0 : cX0_tight.data.toList.drop 0 = dktX0_tight_0 := by decide +kernel
theorem dksX0_tight_1 : cX0_tight.data.toList.drop 23 = dktX0_tight_1 := dk_seg dksX0_tight_0 23 rfl rfl
theorem dksX0_tight_2 : cX0_tight.data.toList.drop 46 = dktX0_tight_2 := dk_seg dksX0_tight_1 23 rfl rfl
theorem dksX0_tight_3 : cX0_tight.data.toList.drop 70 = dktX0_tight_3 := dk_seg dksX0_tight_2 24 rfl rfl
theorem dX0_tight_0 : decode cX0_tight 0 = .ok (.aload_n 0, 1) := dk_42 (dk_at dksX0_tight_0 0 rfl rfl)
theorem dX0_tight_1 : decode cX0_tight 1 = .ok (.iload_n 1, 1) := dk_27 (dk_at dksX0_tight_0 1 rfl rfl)
theorem dX0_tight_2 : decode cX0_tight 2 = .ok (.invokevirtual 249, 3) := dk_182 0 249 (dk_at dksX0_tight_0 2 rfl rfl)
theorem dX0_tight_5 : decode cX0_tight 5 = .ok (.ifCond .ne 5, 3) := dk_154 0 5 (dk_at dksX0_tight_0 5 rfl rfl)
theorem dX0_tight_8 : decode cX0_tight 8 = .ok (.iconst (-1), 1) := dk_2 (dk_at dksX0_tight_0 8 rfl rfl)
theorem dX0_tight_9 : decode cX0_tight 9 = .ok (.ireturn, 1) := dk_172 (dk_at dksX0_tight_0 9 rfl rfl)
theorem dX0_tight_10 : decode cX0_tight 10 = .ok (.aload_n 0, 1) := dk_42 (dk_at dksX0_tight_0 10 rfl rfl)
theorem dX0_tight_11 : decode cX0_tight 11 = .ok (.iload_n 1, 1) := dk_27 (dk_at dksX0_tight_0 11 rfl rfl)
theorem dX0_tight_12 : decode cX0_tight 12 = .ok (.invokevirtual 258, 3) := dk_182 1 2 (dk_at dksX0_tight_0 12 rfl rfl)
theorem dX0_tight_15 : decode cX0_tight 15 = .ok (.istore_n 2, 1) := dk_61 (dk_at dksX0_tight_0 15 rfl rfl)
theorem dX0_tight_16 : decode cX0_tight 16 = .ok (.iconst 0, 1) := dk_3 (dk_at dksX0_tight_0 16 rfl rfl)
theorem dX0_tight_17 : decode cX0_tight 17 = .ok (.istore_n 3, 1) := dk_62 (dk_at dksX0_tight_0 17 rfl rfl)
theorem dX0_tight_18 : decode cX0_tight 18 = .ok (.iload_n 3, 1) := dk_29 (dk_at dksX0_tight_0 18 rfl rfl)
theorem dX0_tight_19 : decode cX0_tight 19 = .ok (.aload_n 0, 1) := dk_42 (dk_at dksX0_tight_0 19 rfl rfl)
theorem dX0_tight_20 : decode cX0_tight 20 = .ok (.getfield 119, 3) := dk_180 0 119 (dk_at dksX0_tight_0 20 rfl rfl)
theorem dX0_tight_23 : decode cX0_tight 23 = .ok (.if_icmp .ge 39, 3) := dk_162 0 39 (dk_at dksX0_tight_1 0 rfl rfl)
theorem dX0_tight_26 : decode cX0_tight 26 = .ok (.iload_n 2, 1) := dk_28 (dk_at dksX0_tight_1 3 rfl rfl)
theorem dX0_tight_27 : decode cX0_tight 27 = .ok (.iload_n 1, 1) := dk_27 (dk_at dksX0_tight_1 4 rfl rfl)
theorem dX0_tight_28 : decode cX0_tight 28 = .ok (.iload_n 3, 1) := dk_29 (dk_at dksX0_tight_1 5 rfl rfl)
theorem dX0_tight_29 : decode cX0_tight 29 = .ok (.invokestatic 129, 3) := dk_184 0 129 (dk_at dksX0_tight_1 6 rfl rfl)
theorem dX0_tight_32 : decode cX0_tight 32 = .ok (.ifCond .eq 17, 3) := dk_153 0 17 (dk_at dksX0_tight_1 9 rfl rfl)
theorem dX0_tight_35 : decode cX0_tight 35 = .ok (.aload_n 0, 1) := dk_42 (dk_at dksX0_tight_1 12 rfl rfl)
theorem dX0_tight_36 : decode cX0_tight 36 = .ok (.iload_n 1, 1) := dk_27 (dk_at dksX0_tight_1 13 rfl rfl)
theorem dX0_tight_37 : decode cX0_tight 37 = .ok (.iconst 1, 1) := dk_4 (dk_at dksX0_tight_1 14 rfl rfl)
theorem dX0_tight_38 : decode cX0_tight 38 = .ok (.iload_n 3, 1) := dk_29 (dk_at dksX0_tight_1 15 rfl rfl)
theorem dX0_tight_39 : decode cX0_tight 39 = .ok (.ishl, 1) := dk_120 (dk_at dksX0_tight_1 16 rfl rfl)
theorem dX0_tight_40 : decode cX0_tight 40 = .ok (.iconst (-1), 1) := dk_2 (dk_at dksX0_tight_1 17 rfl rfl)
theorem dX0_tight_41 : decode cX0_tight 41 = .ok (.ixor, 1) := dk_130 (dk_at dksX0_tight_1 18 rfl rfl)
theorem dX0_tight_42 : decode cX0_tight 42 = .ok (.iand, 1) := dk_126 (dk_at dksX0_tight_1 19 rfl rfl)
theorem dX0_tight_43 : decode cX0_tight 43 = .ok (.invokevirtual 258, 3) := dk_182 1 2 (dk_at dksX0_tight_1 20 rfl rfl)
theorem dX0_tight_46 : decode cX0_tight 46 = .ok (.ifCond .ne 7, 3) := dk_154 0 7 (dk_at dksX0_tight_2 0 rfl rfl)
theorem dX0_tight_49 : decode cX0_tight 49 = .ok (.iconst 1, 1) := dk_4 (dk_at dksX0_tight_2 3 rfl rfl)
theorem dX0_tight_50 : decode cX0_tight 50 = .ok (.goto 4, 3) := dk_167 0 4 (dk_at dksX0_tight_2 4 rfl rfl)
theorem dX0_tight_53 : decode cX0_tight 53 = .ok (.iconst 0, 1) := dk_3 (dk_at dksX0_tight_2 7 rfl rfl)
theorem dX0_tight_54 : decode cX0_tight 54 = .ok (.iand, 1) := dk_126 (dk_at dksX0_tight_2 8 rfl rfl)
theorem dX0_tight_55 : decode cX0_tight 55 = .ok (.istore_n 2, 1) := dk_61 (dk_at dksX0_tight_2 9 rfl rfl)
theorem dX0_tight_56 : decode cX0_tight 56 = .ok (.iinc 3 1, 3) := dk_132 3 1 (dk_at dksX0_tight_2 10 rfl rfl)
theorem dX0_tight_59 : decode cX0_tight 59 = .ok (.goto (-41), 3) := dk_167 255 215 (dk_at dksX0_tight_2 13 rfl rfl)
theorem dX0_tight_62 : decode cX0_tight 62 = .ok (.iload_n 2, 1) := dk_28 (dk_at dksX0_tight_2 16 rfl rfl)
theorem dX0_tight_63 : decode cX0_tight 63 = .ok (.ifCond .eq 7, 3) := dk_153 0 7 (dk_at dksX0_tight_2 17 rfl rfl)
theorem dX0_tight_66 : decode cX0_tight 66 = .ok (.iconst 1, 1) := dk_4 (dk_at dksX0_tight_2 20 rfl rfl)
theorem dX0_tight_67 : decode cX0_tight 67 = .ok (.goto 4, 3) := dk_167 0 4 (dk_at dksX0_tight_2 21 rfl rfl)
theorem dX0_tight_70 : decode cX0_tight 70 = .ok (.iconst 0, 1) := dk_3 (dk_at dksX0_tight_3 0 rfl rfl)
theorem dX0_tight_71 : decode cX0_tight 71 = .ok (.ireturn, 1) := dk_172 (dk_at dksX0_tight_3 1 rfl rfl)
abbrev cX0_clash : ByteArray := prog_1_method_71_code
def yX0_clash : MethodName := ⟨RX0, "clash", "(I)I"⟩
def dkwX0_clash_2 : List UInt8 := [3, 172]
abbrev dktX0_clash_2 : List UInt8 := dkwX0_clash_2 ++ []
def dkwX0_clash_1 : List UInt8 := [154, 0, 6, 16, 252, 172, 42, 182, 1, 11, 42, 27, 182, 1, 14, 9, 148, 154, 0, 7, 4, 167, 0, 4]
abbrev dktX0_clash_1 : List UInt8 := dkwX0_clash_1 ++ dktX0_clash_2
def dkwX0_clash_0 : List UInt8 := [27, 3, 4, 42, 180, 0, 122, 120, 4, 100, 184, 0, 66, 154, 0, 5, 2, 172, 42, 180, 0, 119]
abbrev dktX0_clash_0 : List UInt8 := dkwX0_clash_0 ++ dktX0_clash_1
theorem dksX0_clash_0 : cX0_clash.data.toList.drop 0 = dktX0_clash_0 := by decide +kernel
theorem dksX0_clash_1 : cX0_clash.data.toList.drop 22 = dktX0_clash_1 := dk_seg dksX0_clash_0 22 rfl rfl
theorem dksX0_clash_2 : cX0_clash.data.toList.drop 46 = dktX0_clash_2 := dk_seg dksX0_clash_1 24 rfl rfl
theorem dX0_clash_0 : decode cX0_clash 0 = .ok (.iload_n 1, 1) := dk_27 (dk_at dksX0_clash_0 0 rfl rfl)
theorem dX0_clash_1 : decode cX0_clash 1 = .ok (.iconst 0, 1) := dk_3 (dk_at dksX0_clash_0 1 rfl rfl)
theorem dX0_clash_2 : decode cX0_clash 2 = .ok (.iconst 1, 1) := dk_4 (dk_at dksX0_clash_0 2 rfl rfl)
theorem dX0_clash_3 : decode cX0_clash 3 = .ok (.aload_n 0, 1) := dk_42 (dk_at dksX0_clash_0 3 rfl rfl)
theorem dX0_clash_4 : decode cX0_clash 4 = .ok (.getfield 122, 3) := dk_180 0 122 (dk_at dksX0_clash_0 4 rfl rfl)
theorem dX0_clash_7 : decode cX0_clash 7 = .ok (.ishl, 1) := dk_120 (dk_at dksX0_clash_0 7 rfl rfl)
theorem dX0_clash_8 : decode cX0_clash 8 = .ok (.iconst 1, 1) := dk_4 (dk_at dksX0_clash_0 8 rfl rfl)
theorem dX0_clash_9 : decode cX0_clash 9 = .ok (.isub, 1) := dk_100 (dk_at dksX0_clash_0 9 rfl rfl)
theorem dX0_clash_10 : decode cX0_clash 10 = .ok (.invokestatic 66, 3) := dk_184 0 66 (dk_at dksX0_clash_0 10 rfl rfl)
theorem dX0_clash_13 : decode cX0_clash 13 = .ok (.ifCond .ne 5, 3) := dk_154 0 5 (dk_at dksX0_clash_0 13 rfl rfl)
theorem dX0_clash_16 : decode cX0_clash 16 = .ok (.iconst (-1), 1) := dk_2 (dk_at dksX0_clash_0 16 rfl rfl)
theorem dX0_clash_17 : decode cX0_clash 17 = .ok (.ireturn, 1) := dk_172 (dk_at dksX0_clash_0 17 rfl rfl)
theorem dX0_clash_18 : decode cX0_clash 18 = .ok (.aload_n 0, 1) := dk_42 (dk_at dksX0_clash_0 18 rfl rfl)
theorem dX0_clash_19 : decode cX0_clash 19 = .ok (.getfield 119, 3) := dk_180 0 119 (dk_at dksX0_clash_0 19 rfl rfl)
theorem dX0_clash_22 : decode cX0_clash 22 = .ok (.ifCond .ne 6, 3) := dk_154 0 6 (dk_at dksX0_clash_1 0 rfl rfl)
theorem dX0_clash_25 : decode cX0_clash 25 = .ok (.bipush (-4), 2) := dk_16 252 (dk_at dksX0_clash_1 3 rfl rfl)
theorem dX0_clash_27 : decode cX0_clash 27 = .ok (.ireturn, 1) := dk_172 (dk_at dksX0_clash_1 5 rfl rfl)
theorem dX0_clash_28 : decode cX0_clash 28 = .ok (.aload_n 0, 1) := dk_42 (dk_at dksX0_clash_1 6 rfl rfl)
theorem dX0_clash_29 : decode cX0_clash 29 = .ok (.invokevirtual 267, 3) := dk_182 1 11 (dk_at dksX0_clash_1 7 rfl rfl)
theorem dX0_clash_32 : decode cX0_clash 32 = .ok (.aload_n 0, 1) := dk_42 (dk_at dksX0_clash_1 10 rfl rfl)
theorem dX0_clash_33 : decode cX0_clash 33 = .ok (.iload_n 1, 1) := dk_27 (dk_at dksX0_clash_1 11 rfl rfl)
theorem dX0_clash_34 : decode cX0_clash 34 = .ok (.invokevirtual 270, 3) := dk_182 1 14 (dk_at dksX0_clash_1 12 rfl rfl)
theorem dX0_clash_37 : decode cX0_clash 37 = .ok (.lconst 0, 1) := dk_9 (dk_at dksX0_clash_1 15 rfl rfl)
theorem dX0_clash_38 : decode cX0_clash 38 = .ok (.lcmp, 1) := dk_148 (dk_at dksX0_clash_1 16 rfl rfl)
theorem dX0_clash_39 : decode cX0_clash 39 = .ok (.ifCond .ne 7, 3) := dk_154 0 7 (dk_at dksX0_clash_1 17 rfl rfl)
theorem dX0_clash_42 : decode cX0_clash 42 = .ok (.iconst 1, 1) := dk_4 (dk_at dksX0_clash_1 20 rfl rfl)
theorem dX0_clash_43 : decode cX0_clash 43 = .ok (.goto 4, 3) := dk_167 0 4 (dk_at dksX0_clash_1 21 rfl rfl)
theorem dX0_clash_46 : decode cX0_clash 46 = .ok (.iconst 0, 1) := dk_3 (dk_at dksX0_clash_2 0 rfl rfl)
theorem dX0_clash_47 : decode cX0_clash 47 = .ok (.ireturn, 1) := dk_172 (dk_at dksX0_clash_2 1 rfl rfl)
abbrev cX0_two : ByteArray := prog_1_method_72_code
def yX0_two : MethodName := ⟨RX0, "two", "()I"⟩
def dkwX0_two_3 : List UInt8 := [27, 182, 0, 80, 172]
abbrev dktX0_two_3 : List UInt8 := dkwX0_two_3 ++ []
def dkwX0_two_2 : List UInt8 := [154, 0, 16, 28, 154, 0, 7, 29, 167, 0, 4, 27, 60, 132, 2, 1, 132, 3, 1, 167, 255, 212, 42, 28]
abbrev dktX0_two_2 : List UInt8 := dkwX0_two_2 ++ dktX0_two_3
def dkwX0_two_1 : List UInt8 := [180, 0, 122, 120, 162, 0, 40, 29, 184, 0, 239, 6, 162, 0, 26, 42, 29, 182, 1, 14, 9, 148]
abbrev dktX0_two_1 : List UInt8 := dkwX0_two_1 ++ dktX0_two_2
def dkwX0_two_0 : List UInt8 := [42, 180, 0, 119, 154, 0, 6, 16, 252, 172, 42, 182, 1, 11, 16, 247, 60, 3, 61, 4, 62, 29, 4, 42]
abbrev dktX0_two_0 : List UInt8 := dkwX0_two_0 ++ dktX0_two_1
theorem dksX0_two_0 : cX0_two.data.toList.drop 0 = dktX0_two_0 := by decide +kernel
theorem dksX0_two_1 : cX0_two.data.toList.drop 24 = dktX0_two_1 := dk_seg dksX0_two_0 24 rfl rfl
theorem dksX0_two_2 : cX0_two.data.toList.drop 46 = dktX0_two_2 := dk_seg dksX0_two_1 22 rfl rfl
theorem dksX0_two_3 : cX0_two.data.toList.drop 70 = dktX0_two_3 := dk_seg dksX0_two_2 24 rfl rfl
theorem dX0_two_0 : decode cX0_two 0 = .ok (.aload_n 0, 1) := dk_42 (dk_at dksX0_two_0 0 rfl rfl)
theorem dX0_two_1 : decode cX0_two 1 = .ok (.getfield 119, 3) := dk_180 0 119 (dk_at dksX0_two_0 1 rfl rfl)
theorem dX0_two_4 : decode cX0_two 4 = .ok (.ifCond .ne 6, 3) := dk_154 0 6 (dk_at dksX0_two_0 4 rfl rfl)
theorem dX0_two_7 : decode cX0_two 7 = .ok (.bipush (-4), 2) := dk_16 252 (dk_at dksX0_two_0 7 rfl rfl)
theorem dX0_two_9 : decode cX0_two 9 = .ok (.ireturn, 1) := dk_172 (dk_at dksX0_two_0 9 rfl rfl)
theorem dX0_two_10 : decode cX0_two 10 = .ok (.aload_n 0, 1) := dk_42 (dk_at dksX0_two_0 10 rfl rfl)
theorem dX0_two_11 : decode cX0_two 11 = .ok (.invokevirtual 267, 3) := dk_182 1 11 (dk_at dksX0_two_0 11 rfl rfl)
theorem dX0_two_14 : decode cX0_two 14 = .ok (.bipush (-9), 2) := dk_16 247 (dk_at dksX0_two_0 14 rfl rfl)
theorem dX0_two_16 : decode cX0_two 16 = .ok (.istore_n 1, 1) := dk_60 (dk_at dksX0_two_0 16 rfl rfl)
theorem dX0_two_17 : decode cX0_two 17 = .ok (.iconst 0, 1) := dk_3 (dk_at dksX0_two_0 17 rfl rfl)
theorem dX0_two_18 : decode cX0_two 18 = .ok (.istore_n 2, 1) := dk_61 (dk_at dksX0_two_0 18 rfl rfl)
theorem dX0_two_19 : decode cX0_two 19 = .ok (.iconst 1, 1) := dk_4 (dk_at dksX0_two_0 19 rfl rfl)
theorem dX0_two_20 : decode cX0_two 20 = .ok (.istore_n 3, 1) := dk_62 (dk_at dksX0_two_0 20 rfl rfl)
theorem dX0_two_21 : decode cX0_two 21 = .ok (.iload_n 3, 1) := dk_29 (dk_at dksX0_two_0 21 rfl rfl)
theorem dX0_two_22 : decode cX0_two 22 = .ok (.iconst 1, 1) := dk_4 (dk_at dksX0_two_0 22 rfl rfl)
theorem dX0_two_23 : decode cX0_two 23 = .ok (.aload_n 0, 1) := dk_42 (dk_at dksX0_two_0 23 rfl rfl)
theorem dX0_two_24 : decode cX0_two 24 = .ok (.getfield 122, 3) := dk_180 0 122 (dk_at dksX0_two_1 0 rfl rfl)
theorem dX0_two_27 : decode cX0_two 27 = .ok (.ishl, 1) := dk_120 (dk_at dksX0_two_1 3 rfl rfl)
theorem dX0_two_28 : decode cX0_two 28 = .ok (.if_icmp .ge 40, 3) := dk_162 0 40 (dk_at dksX0_two_1 4 rfl rfl)
theorem dX0_two_31 : decode cX0_two 31 = .ok (.iload_n 3, 1) := dk_29 (dk_at dksX0_two_1 7 rfl rfl)
theorem dX0_two_32 : decode cX0_two 32 = .ok (.invokestatic 239, 3) := dk_184 0 239 (dk_at dksX0_two_1 8 rfl rfl)
theorem dX0_two_35 : decode cX0_two 35 = .ok (.iconst 3, 1) := dk_6 (dk_at dksX0_two_1 11 rfl rfl)
theorem dX0_two_36 : decode cX0_two 36 = .ok (.if_icmp .ge 26, 3) := dk_162 0 26 (dk_at dksX0_two_1 12 rfl rfl)
theorem dX0_two_39 : decode cX0_two 39 = .ok (.aload_n 0, 1) := dk_42 (dk_at dksX0_two_1 15 rfl rfl)
theorem dX0_two_40 : decode cX0_two 40 = .ok (.iload_n 3, 1) := dk_29 (dk_at dksX0_two_1 16 rfl rfl)
theorem dX0_two_41 : decode cX0_two 41 = .ok (.invokevirtual 270, 3) := dk_182 1 14 (dk_at dksX0_two_1 17 rfl rfl)
theorem dX0_two_44 : decode cX0_two 44 = .ok (.lconst 0, 1) := dk_9 (dk_at dksX0_two_1 20 rfl rfl)
theorem dX0_two_45 : decode cX0_two 45 = .ok (.lcmp, 1) := dk_148 (dk_at dksX0_two_1 21 rfl rfl)
theorem dX0_two_46 : decode cX0_two 46 = .ok (.ifCond .ne 16, 3) := dk_154 0 16 (dk_at dksX0_two_2 0 rfl rfl)
theorem dX0_two_49 : decode cX0_two 49 = .ok (.iload_n 2, 1) := dk_28 (dk_at dksX0_two_2 3 rfl rfl)
theorem dX0_two_50 : decode cX0_two 50 = .ok (.ifCond .ne 7, 3) := dk_154 0 7 (dk_at dksX0_two_2 4 rfl rfl)
theorem dX0_two_53 : decode cX0_two 53 = .ok (.iload_n 3, 1) := dk_29 (dk_at dksX0_two_2 7 rfl rfl)
theorem dX0_two_54 : decode cX0_two 54 = .ok (.goto 4, 3) := dk_167 0 4 (dk_at dksX0_two_2 8 rfl rfl)
theorem dX0_two_57 : decode cX0_two 57 = .ok (.iload_n 1, 1) := dk_27 (dk_at dksX0_two_2 11 rfl rfl)
theorem dX0_two_58 : decode cX0_two 58 = .ok (.istore_n 1, 1) := dk_60 (dk_at dksX0_two_2 12 rfl rfl)
theorem dX0_two_59 : decode cX0_two 59 = .ok (.iinc 2 1, 3) := dk_132 2 1 (dk_at dksX0_two_2 13 rfl rfl)
theorem dX0_two_62 : decode cX0_two 62 = .ok (.iinc 3 1, 3) := dk_132 3 1 (dk_at dksX0_two_2 16 rfl rfl)
theorem dX0_two_65 : decode cX0_two 65 = .ok (.goto (-44), 3) := dk_167 255 212 (dk_at dksX0_two_2 19 rfl rfl)
theorem dX0_two_68 : decode cX0_two 68 = .ok (.aload_n 0, 1) := dk_42 (dk_at dksX0_two_2 22 rfl rfl)
theorem dX0_two_69 : decode cX0_two 69 = .ok (.iload_n 2, 1) := dk_28 (dk_at dksX0_two_2 23 rfl rfl)
theorem dX0_two_70 : decode cX0_two 70 = .ok (.iload_n 1, 1) := dk_27 (dk_at dksX0_two_3 0 rfl rfl)
theorem dX0_two_71 : decode cX0_two 71 = .ok (.invokevirtual 80, 3) := dk_182 0 80 (dk_at dksX0_two_3 1 rfl rfl)
theorem dX0_two_74 : decode cX0_two 74 = .ok (.ireturn, 1) := dk_172 (dk_at dksX0_two_3 4 rfl rfl)
abbrev cX0_least : ByteArray := prog_1_method_73_code
def yX0_least : MethodName := ⟨RX0, "least", "()I"⟩
def dkwX0_least_4 : List UInt8 := [184, 0, 239, 182, 0, 80, 172]
abbrev dktX0_least_4 : List UInt8 := dkwX0_least_4 ++ []
def dkwX0_least_3 : List UInt8 := [27, 60, 132, 2, 1, 167, 255, 200, 27, 16, 247, 160, 0, 8, 16, 247, 167, 0, 12, 42, 27, 27]
abbrev dktX0_least_3 : List UInt8 := dkwX0_least_3 ++ dktX0_least_4
def dkwX0_least_2 : List UInt8 := [4, 167, 0, 4, 3, 62, 29, 153, 0, 17, 42, 28, 182, 1, 14, 9, 148, 154, 0, 7, 28, 167, 0, 4]
abbrev dktX0_least_2 : List UInt8 := dkwX0_least_2 ++ dktX0_least_3
def dkwX0_least_1 : List UInt8 := [180, 0, 122, 120, 162, 0, 52, 27, 16, 247, 159, 0, 14, 28, 184, 0, 239, 27, 184, 0, 239, 162, 0, 7]
abbrev dktX0_least_1 : List UInt8 := dkwX0_least_1 ++ dktX0_least_2
def dkwX0_least_0 : List UInt8 := [42, 180, 0, 119, 154, 0, 6, 16, 252, 172, 42, 182, 1, 11, 16, 247, 60, 4, 61, 28, 4, 42]
abbrev dktX0_least_0 : List UInt8 := dkwX0_least_0 ++ dktX0_least_1
theorem dksX0_least_0 : cX0_least.data.toList.drop 0 = dktX0_least_0 := by decide +kernel
theorem dksX0_least_1 : cX0_least.data.toList.drop 22 = dktX0_least_1 := dk_seg dksX0_least_0 22 rfl rfl
theorem dksX0_least_2 : cX0_least.data.toList.drop 46 = dktX0_least_2 := dk_seg dksX0_least_1 24 rfl rfl
theorem dksX0_least_3 : cX0_least.data.toList.drop 70 = dktX0_least_3 := dk_seg dksX0_least_2 24 rfl rfl
theorem dksX0_least_4 : cX0_least.data.toList.drop 92 = dktX0_least_4 := dk_seg dksX0_least_3 22 rfl rfl
theorem dX0_least_0 : decode cX0_least 0 = .ok (.aload_n 0, 1) := dk_42 (dk_at dksX0_least_0 0 rfl rfl)
theorem dX0_least_1 : decode cX0_least 1 = .ok (.getfield 119, 3) := dk_180 0 119 (dk_at dksX0_least_0 1 rfl rfl)
theorem dX0_least_4 : decode cX0_least 4 = .ok (.ifCond .ne 6, 3) := dk_154 0 6 (dk_at dksX0_least_0 4 rfl rfl)
theorem dX0_least_7 : decode cX0_least 7 = .ok (.bipush (-4), 2) := dk_16 252 (dk_at dksX0_least_0 7 rfl rfl)
theorem dX0_least_9 : decode cX0_least 9 = .ok (.ireturn, 1) := dk_172 (dk_at dksX0_least_0 9 rfl rfl)
theorem dX0_least_10 : decode cX0_least 10 = .ok (.aload_n 0, 1) := dk_42 (dk_at dksX0_least_0 10 rfl rfl)
theorem dX0_least_11 : decode cX0_least 11 = .ok (.invokevirtual 267, 3) := dk_182 1 11 (dk_at dksX0_least_0 11 rfl rfl)
theorem dX0_least_14 : decode cX0_least 14 = .ok (.bipush (-9), 2) := dk_16 247 (dk_at dksX0_least_0 14 rfl rfl)
theorem dX0_least_16 : decode cX0_least 16 = .ok (.istore_n 1, 1) := dk_60 (dk_at dksX0_least_0 16 rfl rfl)
theorem dX0_least_17 : decode cX0_least 17 = .ok (.iconst 1, 1) := dk_4 (dk_at dksX0_least_0 17 rfl rfl)
theorem dX0_least_18 : decode cX0_least 18 = .ok (.istore_n 2, 1) := dk_61 (dk_at dksX0_least_0 18 rfl rfl)
theorem dX0_least_19 : decode cX0_least 19 = .ok (.iload_n 2, 1) := dk_28 (dk_at dksX0_least_0 19 rfl rfl)
theorem dX0_least_20 : decode cX0_least 20 = .ok (.iconst 1, 1) := dk_4 (dk_at dksX0_least_0 20 rfl rfl)
theorem dX0_least_21 : decode cX0_least 21 = .ok (.aload_n 0, 1) := dk_42 (dk_at dksX0_least_0 21 rfl rfl)
theorem dX0_least_22 : decode cX0_least 22 = .ok (.getfield 122, 3) := dk_180 0 122 (dk_at dksX0_least_1 0 rfl rfl)
theorem dX0_least_25 : decode cX0_least 25 = .ok (.ishl, 1) := dk_120 (dk_at dksX0_least_1 3 rfl rfl)
theorem dX0_least_26 : decode cX0_least 26 = .ok (.if_icmp .ge 52, 3) := dk_162 0 52 (dk_at dksX0_least_1 4 rfl rfl)
theorem dX0_least_29 : decode cX0_least 29 = .ok (.iload_n 1, 1) := dk_27 (dk_at dksX0_least_1 7 rfl rfl)
theorem dX0_least_30 : decode cX0_least 30 = .ok (.bipush (-9), 2) := dk_16 247 (dk_at dksX0_least_1 8 rfl rfl)
theorem dX0_least_32 : decode cX0_least 32 = .ok (.if_icmp .eq 14, 3) := dk_159 0 14 (dk_at dksX0_least_1 10 rfl rfl)
theorem dX0_least_35 : decode cX0_least 35 = .ok (.iload_n 2, 1) := dk_28 (dk_at dksX0_least_1 13 rfl rfl)
theorem dX0_least_36 : decode cX0_least 36 = .ok (.invokestatic 239, 3) := dk_184 0 239 (dk_at dksX0_least_1 14 rfl rfl)
theorem dX0_least_39 : decode cX0_least 39 = .ok (.iload_n 1, 1) := dk_27 (dk_at dksX0_least_1 17 rfl rfl)
theorem dX0_least_40 : decode cX0_least 40 = .ok (.invokestatic 239, 3) := dk_184 0 239 (dk_at dksX0_least_1 18 rfl rfl)
theorem dX0_least_43 : decode cX0_least 43 = .ok (.if_icmp .ge 7, 3) := dk_162 0 7 (dk_at dksX0_least_1 21 rfl rfl)
theorem dX0_least_46 : decode cX0_least 46 = .ok (.iconst 1, 1) := dk_4 (dk_at dksX0_least_2 0 rfl rfl)
theorem dX0_least_47 : decode cX0_least 47 = .ok (.goto 4, 3) := dk_167 0 4 (dk_at dksX0_least_2 1 rfl rfl)
theorem dX0_least_50 : decode cX0_least 50 = .ok (.iconst 0, 1) := dk_3 (dk_at dksX0_least_2 4 rfl rfl)
theorem dX0_least_51 : decode cX0_least 51 = .ok (.istore_n 3, 1) := dk_62 (dk_at dksX0_least_2 5 rfl rfl)
theorem dX0_least_52 : decode cX0_least 52 = .ok (.iload_n 3, 1) := dk_29 (dk_at dksX0_least_2 6 rfl rfl)
theorem dX0_least_53 : decode cX0_least 53 = .ok (.ifCond .eq 17, 3) := dk_153 0 17 (dk_at dksX0_least_2 7 rfl rfl)
theorem dX0_least_56 : decode cX0_least 56 = .ok (.aload_n 0, 1) := dk_42 (dk_at dksX0_least_2 10 rfl rfl)
theorem dX0_least_57 : decode cX0_least 57 = .ok (.iload_n 2, 1) := dk_28 (dk_at dksX0_least_2 11 rfl rfl)
theorem dX0_least_58 : decode cX0_least 58 = .ok (.invokevirtual 270, 3) := dk_182 1 14 (dk_at dksX0_least_2 12 rfl rfl)
theorem dX0_least_61 : decode cX0_least 61 = .ok (.lconst 0, 1) := dk_9 (dk_at dksX0_least_2 15 rfl rfl)
theorem dX0_least_62 : decode cX0_least 62 = .ok (.lcmp, 1) := dk_148 (dk_at dksX0_least_2 16 rfl rfl)
theorem dX0_least_63 : decode cX0_least 63 = .ok (.ifCond .ne 7, 3) := dk_154 0 7 (dk_at dksX0_least_2 17 rfl rfl)
theorem dX0_least_66 : decode cX0_least 66 = .ok (.iload_n 2, 1) := dk_28 (dk_at dksX0_least_2 20 rfl rfl)
theorem dX0_least_67 : decode cX0_least 67 = .ok (.goto 4, 3) := dk_167 0 4 (dk_at dksX0_least_2 21 rfl rfl)
theorem dX0_least_70 : decode cX0_least 70 = .ok (.iload_n 1, 1) := dk_27 (dk_at dksX0_least_3 0 rfl rfl)
theorem dX0_least_71 : decode cX0_least 71 = .ok (.istore_n 1, 1) := dk_60 (dk_at dksX0_least_3 1 rfl rfl)
theorem dX0_least_72 : decode cX0_least 72 = .ok (.iinc 2 1, 3) := dk_132 2 1 (dk_at dksX0_least_3 2 rfl rfl)
theorem dX0_least_75 : decode cX0_least 75 = .ok (.goto (-56), 3) := dk_167 255 200 (dk_at dksX0_least_3 5 rfl rfl)
theorem dX0_least_78 : decode cX0_least 78 = .ok (.iload_n 1, 1) := dk_27 (dk_at dksX0_least_3 8 rfl rfl)
theorem dX0_least_79 : decode cX0_least 79 = .ok (.bipush (-9), 2) := dk_16 247 (dk_at dksX0_least_3 9 rfl rfl)
theorem dX0_least_81 : decode cX0_least 81 = .ok (.if_icmp .ne 8, 3) := dk_160 0 8 (dk_at dksX0_least_3 11 rfl rfl)
theorem dX0_least_84 : decode cX0_least 84 = .ok (.bipush (-9), 2) := dk_16 247 (dk_at dksX0_least_3 14 rfl rfl)
theorem dX0_least_86 : decode cX0_least 86 = .ok (.goto 12, 3) := dk_167 0 12 (dk_at dksX0_least_3 16 rfl rfl)
theorem dX0_least_89 : decode cX0_least 89 = .ok (.aload_n 0, 1) := dk_42 (dk_at dksX0_least_3 19 rfl rfl)
theorem dX0_least_90 : decode cX0_least 90 = .ok (.iload_n 1, 1) := dk_27 (dk_at dksX0_least_3 20 rfl rfl)
theorem dX0_least_91 : decode cX0_least 91 = .ok (.iload_n 1, 1) := dk_27 (dk_at dksX0_least_3 21 rfl rfl)
theorem dX0_least_92 : decode cX0_least 92 = .ok (.invokestatic 239, 3) := dk_184 0 239 (dk_at dksX0_least_4 0 rfl rfl)
theorem dX0_least_95 : decode cX0_least 95 = .ok (.invokevirtual 80, 3) := dk_182 0 80 (dk_at dksX0_least_4 3 rfl rfl)
theorem dX0_least_98 : decode cX0_least 98 = .ok (.ireturn, 1) := dk_172 (dk_at dksX0_least_4 6 rfl rfl)
abbrev cX0_relent : ByteArray := prog_1_method_74_code
def yX0_relent : MethodName := ⟨RX0, "relent", "()I"⟩
def dkwX0_relent_4 : List UInt8 := [172]
abbrev dktX0_relent_4 : List UInt8 := dkwX0_relent_4 ++ []
def dkwX0_relent_3 : List UInt8 := [153, 0, 7, 29, 167, 0, 4, 28, 61, 132, 3, 255, 167, 255, 198, 42, 28, 28, 184, 0, 239, 182, 0, 80]
abbrev dktX0_relent_3 : List UInt8 := dkwX0_relent_3 ++ dktX0_relent_4
def dkwX0_relent_2 : List UInt8 := [167, 0, 4, 3, 54, 4, 21, 4, 153, 0, 21, 42, 27, 29, 2, 130, 126, 182, 1, 14, 9, 148]
abbrev dktX0_relent_2 : List UInt8 := dkwX0_relent_2 ++ dktX0_relent_3
def dkwX0_relent_1 : List UInt8 := [155, 0, 60, 29, 27, 2, 130, 126, 154, 0, 18, 29, 184, 0, 239, 28, 184, 0, 239, 163, 0, 7, 4]
abbrev dktX0_relent_1 : List UInt8 := dkwX0_relent_1 ++ dktX0_relent_2
def dkwX0_relent_0 : List UInt8 := [42, 180, 0, 119, 154, 0, 6, 16, 252, 172, 42, 182, 1, 11, 42, 182, 0, 236, 60, 27, 61, 27, 62, 29]
abbrev dktX0_relent_0 : List UInt8 := dkwX0_relent_0 ++ dktX0_relent_1
theorem dksX0_relent_0 : cX0_relent.data.toList.drop 0 = dktX0_relent_0 := by decide +kernel
theorem dksX0_relent_1 : cX0_relent.data.toList.drop 24 = dktX0_relent_1 := dk_seg dksX0_relent_0 24 rfl rfl
theorem dksX0_relent_2 : cX0_relent.data.toList.drop 47 = dktX0_relent_2 := dk_seg dksX0_relent_1 23 rfl rfl
theorem dksX0_relent_3 : cX0_relent.data.toList.drop 69 = dktX0_relent_3 := dk_seg dksX0_relent_2 22 rfl rfl
theorem dksX0_relent_4 : cX0_relent.data.toList.drop 93 = dktX0_relent_4 := dk_seg dksX0_relent_3 24 rfl rfl
theorem dX0_relent_0 : decode cX0_relent 0 = .ok (.aload_n 0, 1) := dk_42 (dk_at dksX0_relent_0 0 rfl rfl)
theorem dX0_relent_1 : decode cX0_relent 1 = .ok (.getfield 119, 3) := dk_180 0 119 (dk_at dksX0_relent_0 1 rfl rfl)
theorem dX0_relent_4 : decode cX0_relent 4 = .ok (.ifCond .ne 6, 3) := dk_154 0 6 (dk_at dksX0_relent_0 4 rfl rfl)
theorem dX0_relent_7 : decode cX0_relent 7 = .ok (.bipush (-4), 2) := dk_16 252 (dk_at dksX0_relent_0 7 rfl rfl)
theorem dX0_relent_9 : decode cX0_relent 9 = .ok (.ireturn, 1) := dk_172 (dk_at dksX0_relent_0 9 rfl rfl)
theorem dX0_relent_10 : decode cX0_relent 10 = .ok (.aload_n 0, 1) := dk_42 (dk_at dksX0_relent_0 10 rfl rfl)
theorem dX0_relent_11 : decode cX0_relent 11 = .ok (.invokevirtual 267, 3) := dk_182 1 11 (dk_at dksX0_relent_0 11 rfl rfl)
theorem dX0_relent_14 : decode cX0_relent 14 = .ok (.aload_n 0, 1) := dk_42 (dk_at dksX0_relent_0 14 rfl rfl)
theorem dX0_relent_15 : decode cX0_relent 15 = .ok (.invokevirtual 236, 3) := dk_182 0 236 (dk_at dksX0_relent_0 15 rfl rfl)
theorem dX0_relent_18 : decode cX0_relent 18 = .ok (.istore_n 1, 1) := dk_60 (dk_at dksX0_relent_0 18 rfl rfl)
theorem dX0_relent_19 : decode cX0_relent 19 = .ok (.iload_n 1, 1) := dk_27 (dk_at dksX0_relent_0 19 rfl rfl)
theorem dX0_relent_20 : decode cX0_relent 20 = .ok (.istore_n 2, 1) := dk_61 (dk_at dksX0_relent_0 20 rfl rfl)
theorem dX0_relent_21 : decode cX0_relent 21 = .ok (.iload_n 1, 1) := dk_27 (dk_at dksX0_relent_0 21 rfl rfl)
theorem dX0_relent_22 : decode cX0_relent 22 = .ok (.istore_n 3, 1) := dk_62 (dk_at dksX0_relent_0 22 rfl rfl)
theorem dX0_relent_23 : decode cX0_relent 23 = .ok (.iload_n 3, 1) := dk_29 (dk_at dksX0_relent_0 23 rfl rfl)
theorem dX0_relent_24 : decode cX0_relent 24 = .ok (.ifCond .lt 60, 3) := dk_155 0 60 (dk_at dksX0_relent_1 0 rfl rfl)
theorem dX0_relent_27 : decode cX0_relent 27 = .ok (.iload_n 3, 1) := dk_29 (dk_at dksX0_relent_1 3 rfl rfl)
theorem dX0_relent_28 : decode cX0_relent 28 = .ok (.iload_n 1, 1) := dk_27 (dk_at dksX0_relent_1 4 rfl rfl)
theorem dX0_relent_29 : decode cX0_relent 29 = .ok (.iconst (-1), 1) := dk_2 (dk_at dksX0_relent_1 5 rfl rfl)
theorem dX0_relent_30 : decode cX0_relent 30 = .ok (.ixor, 1) := dk_130 (dk_at dksX0_relent_1 6 rfl rfl)
theorem dX0_relent_31 : decode cX0_relent 31 = .ok (.iand, 1) := dk_126 (dk_at dksX0_relent_1 7 rfl rfl)
theorem dX0_relent_32 : decode cX0_relent 32 = .ok (.ifCond .ne 18, 3) := dk_154 0 18 (dk_at dksX0_relent_1 8 rfl rfl)
theorem dX0_relent_35 : decode cX0_relent 35 = .ok (.iload_n 3, 1) := dk_29 (dk_at dksX0_relent_1 11 rfl rfl)
theorem dX0_relent_36 : decode cX0_relent 36 = .ok (.invokestatic 239, 3) := dk_184 0 239 (dk_at dksX0_relent_1 12 rfl rfl)
theorem dX0_relent_39 : decode cX0_relent 39 = .ok (.iload_n 2, 1) := dk_28 (dk_at dksX0_relent_1 15 rfl rfl)
theorem dX0_relent_40 : decode cX0_relent 40 = .ok (.invokestatic 239, 3) := dk_184 0 239 (dk_at dksX0_relent_1 16 rfl rfl)
theorem dX0_relent_43 : decode cX0_relent 43 = .ok (.if_icmp .gt 7, 3) := dk_163 0 7 (dk_at dksX0_relent_1 19 rfl rfl)
theorem dX0_relent_46 : decode cX0_relent 46 = .ok (.iconst 1, 1) := dk_4 (dk_at dksX0_relent_1 22 rfl rfl)
theorem dX0_relent_47 : decode cX0_relent 47 = .ok (.goto 4, 3) := dk_167 0 4 (dk_at dksX0_relent_2 0 rfl rfl)
theorem dX0_relent_50 : decode cX0_relent 50 = .ok (.iconst 0, 1) := dk_3 (dk_at dksX0_relent_2 3 rfl rfl)
theorem dX0_relent_51 : decode cX0_relent 51 = .ok (.istore 4, 2) := dk_54 4 (dk_at dksX0_relent_2 4 rfl rfl)
theorem dX0_relent_53 : decode cX0_relent 53 = .ok (.iload 4, 2) := dk_21 4 (dk_at dksX0_relent_2 6 rfl rfl)
theorem dX0_relent_55 : decode cX0_relent 55 = .ok (.ifCond .eq 21, 3) := dk_153 0 21 (dk_at dksX0_relent_2 8 rfl rfl)
theorem dX0_relent_58 : decode cX0_relent 58 = .ok (.aload_n 0, 1) := dk_42 (dk_at dksX0_relent_2 11 rfl rfl)
theorem dX0_relent_59 : decode cX0_relent 59 = .ok (.iload_n 1, 1) := dk_27 (dk_at dksX0_relent_2 12 rfl rfl)
theorem dX0_relent_60 : decode cX0_relent 60 = .ok (.iload_n 3, 1) := dk_29 (dk_at dksX0_relent_2 13 rfl rfl)
theorem dX0_relent_61 : decode cX0_relent 61 = .ok (.iconst (-1), 1) := dk_2 (dk_at dksX0_relent_2 14 rfl rfl)
theorem dX0_relent_62 : decode cX0_relent 62 = .ok (.ixor, 1) := dk_130 (dk_at dksX0_relent_2 15 rfl rfl)
theorem dX0_relent_63 : decode cX0_relent 63 = .ok (.iand, 1) := dk_126 (dk_at dksX0_relent_2 16 rfl rfl)
theorem dX0_relent_64 : decode cX0_relent 64 = .ok (.invokevirtual 270, 3) := dk_182 1 14 (dk_at dksX0_relent_2 17 rfl rfl)
theorem dX0_relent_67 : decode cX0_relent 67 = .ok (.lconst 0, 1) := dk_9 (dk_at dksX0_relent_2 20 rfl rfl)
theorem dX0_relent_68 : decode cX0_relent 68 = .ok (.lcmp, 1) := dk_148 (dk_at dksX0_relent_2 21 rfl rfl)
theorem dX0_relent_69 : decode cX0_relent 69 = .ok (.ifCond .eq 7, 3) := dk_153 0 7 (dk_at dksX0_relent_3 0 rfl rfl)
theorem dX0_relent_72 : decode cX0_relent 72 = .ok (.iload_n 3, 1) := dk_29 (dk_at dksX0_relent_3 3 rfl rfl)
theorem dX0_relent_73 : decode cX0_relent 73 = .ok (.goto 4, 3) := dk_167 0 4 (dk_at dksX0_relent_3 4 rfl rfl)
theorem dX0_relent_76 : decode cX0_relent 76 = .ok (.iload_n 2, 1) := dk_28 (dk_at dksX0_relent_3 7 rfl rfl)
theorem dX0_relent_77 : decode cX0_relent 77 = .ok (.istore_n 2, 1) := dk_61 (dk_at dksX0_relent_3 8 rfl rfl)
theorem dX0_relent_78 : decode cX0_relent 78 = .ok (.iinc 3 (-1), 3) := dk_132 3 255 (dk_at dksX0_relent_3 9 rfl rfl)
theorem dX0_relent_81 : decode cX0_relent 81 = .ok (.goto (-58), 3) := dk_167 255 198 (dk_at dksX0_relent_3 12 rfl rfl)
theorem dX0_relent_84 : decode cX0_relent 84 = .ok (.aload_n 0, 1) := dk_42 (dk_at dksX0_relent_3 15 rfl rfl)
theorem dX0_relent_85 : decode cX0_relent 85 = .ok (.iload_n 2, 1) := dk_28 (dk_at dksX0_relent_3 16 rfl rfl)
theorem dX0_relent_86 : decode cX0_relent 86 = .ok (.iload_n 2, 1) := dk_28 (dk_at dksX0_relent_3 17 rfl rfl)
theorem dX0_relent_87 : decode cX0_relent 87 = .ok (.invokestatic 239, 3) := dk_184 0 239 (dk_at dksX0_relent_3 18 rfl rfl)
theorem dX0_relent_90 : decode cX0_relent 90 = .ok (.invokevirtual 80, 3) := dk_182 0 80 (dk_at dksX0_relent_3 21 rfl rfl)
theorem dX0_relent_93 : decode cX0_relent 93 = .ok (.ireturn, 1) := dk_172 (dk_at dksX0_relent_4 0 rfl rfl)
abbrev cX0_game : ByteArray := prog_1_method_78_code
def yX0_game : MethodName := ⟨RX0, "game", "(I)I"⟩
def dkwX0_game_1 : List UInt8 := [153, 0, 7, 4, 167, 0, 4, 3, 172]
abbrev dktX0_game_1 : List UInt8 := dkwX0_game_1 ++ []
def dkwX0_game_0 : List UInt8 := [42, 27, 3, 182, 1, 45, 61, 28, 156, 0, 5, 28, 172, 42, 182, 1, 11, 42, 3, 3, 27, 182, 1, 42]
abbrev dktX0_game_0 : List UInt8 := dkwX0_game_0 ++ dktX0_game_1
theorem dksX0_game_0 : cX0_game.data.toList.drop 0 = dktX0_game_0 := by decide +kernel
theorem dksX0_game_1 : cX0_game.data.toList.drop 24 = dktX0_game_1 := dk_seg dksX0_game_0 24 rfl rfl
theorem dX0_game_0 : decode cX0_game 0 = .ok (.aload_n 0, 1) := dk_42 (dk_at dksX0_game_0 0 rfl rfl)
theorem dX0_game_1 : decode cX0_game 1 = .ok (.iload_n 1, 1) := dk_27 (dk_at dksX0_game_0 1 rfl rfl)
theorem dX0_game_2 : decode cX0_game 2 = .ok (.iconst 0, 1) := dk_3 (dk_at dksX0_game_0 2 rfl rfl)
theorem dX0_game_3 : decode cX0_game 3 = .ok (.invokevirtual 301, 3) := dk_182 1 45 (dk_at dksX0_game_0 3 rfl rfl)
theorem dX0_game_6 : decode cX0_game 6 = .ok (.istore_n 2, 1) := dk_61 (dk_at dksX0_game_0 6 rfl rfl)
theorem dX0_game_7 : decode cX0_game 7 = .ok (.iload_n 2, 1) := dk_28 (dk_at dksX0_game_0 7 rfl rfl)
theorem dX0_game_8 : decode cX0_game 8 = .ok (.ifCond .ge 5, 3) := dk_156 0 5 (dk_at dksX0_game_0 8 rfl rfl)
theorem dX0_game_11 : decode cX0_game 11 = .ok (.iload_n 2, 1) := dk_28 (dk_at dksX0_game_0 11 rfl rfl)
theorem dX0_game_12 : decode cX0_game 12 = .ok (.ireturn, 1) := dk_172 (dk_at dksX0_game_0 12 rfl rfl)
theorem dX0_game_13 : decode cX0_game 13 = .ok (.aload_n 0, 1) := dk_42 (dk_at dksX0_game_0 13 rfl rfl)
theorem dX0_game_14 : decode cX0_game 14 = .ok (.invokevirtual 267, 3) := dk_182 1 11 (dk_at dksX0_game_0 14 rfl rfl)
theorem dX0_game_17 : decode cX0_game 17 = .ok (.aload_n 0, 1) := dk_42 (dk_at dksX0_game_0 17 rfl rfl)
theorem dX0_game_18 : decode cX0_game 18 = .ok (.iconst 0, 1) := dk_3 (dk_at dksX0_game_0 18 rfl rfl)
theorem dX0_game_19 : decode cX0_game 19 = .ok (.iconst 0, 1) := dk_3 (dk_at dksX0_game_0 19 rfl rfl)
theorem dX0_game_20 : decode cX0_game 20 = .ok (.iload_n 1, 1) := dk_27 (dk_at dksX0_game_0 20 rfl rfl)
theorem dX0_game_21 : decode cX0_game 21 = .ok (.invokevirtual 298, 3) := dk_182 1 42 (dk_at dksX0_game_0 21 rfl rfl)
theorem dX0_game_24 : decode cX0_game 24 = .ok (.ifCond .eq 7, 3) := dk_153 0 7 (dk_at dksX0_game_1 0 rfl rfl)
theorem dX0_game_27 : decode cX0_game 27 = .ok (.iconst 1, 1) := dk_4 (dk_at dksX0_game_1 3 rfl rfl)
theorem dX0_game_28 : decode cX0_game 28 = .ok (.goto 4, 3) := dk_167 0 4 (dk_at dksX0_game_1 4 rfl rfl)
theorem dX0_game_31 : decode cX0_game 31 = .ok (.iconst 0, 1) := dk_3 (dk_at dksX0_game_1 7 rfl rfl)
theorem dX0_game_32 : decode cX0_game 32 = .ok (.ireturn, 1) := dk_172 (dk_at dksX0_game_1 8 rfl rfl)
abbrev cX0_needGame : ByteArray := prog_1_method_77_code
def yX0_needGame : MethodName := ⟨RX0, "needGame", "(II)I"⟩
def dkwX0_needGame_1 : List UInt8 := [167, 0, 4, 3, 172]
abbrev dktX0_needGame_1 : List UInt8 := dkwX0_needGame_1 ++ []
def dkwX0_needGame_0 : List UInt8 := [27, 28, 6, 184, 0, 66, 154, 0, 7, 2, 167, 0, 16, 42, 180, 0, 119, 154, 0, 8, 16, 252]
abbrev dktX0_needGame_0 : List UInt8 := dkwX0_needGame_0 ++ dktX0_needGame_1
theorem dksX0_needGame_0 : cX0_needGame.data.toList.drop 0 = dktX0_needGame_0 := by decide +kernel
theorem dksX0_needGame_1 : cX0_needGame.data.toList.drop 22 = dktX0_needGame_1 := dk_seg dksX0_needGame_0 22 rfl rfl
theorem dX0_needGame_0 : decode cX0_needGame 0 = .ok (.iload_n 1, 1) := dk_27 (dk_at dksX0_needGame_0 0 rfl rfl)
theorem dX0_needGame_1 : decode cX0_needGame 1 = .ok (.iload_n 2, 1) := dk_28 (dk_at dksX0_needGame_0 1 rfl rfl)
theorem dX0_needGame_2 : decode cX0_needGame 2 = .ok (.iconst 3, 1) := dk_6 (dk_at dksX0_needGame_0 2 rfl rfl)
theorem dX0_needGame_3 : decode cX0_needGame 3 = .ok (.invokestatic 66, 3) := dk_184 0 66 (dk_at dksX0_needGame_0 3 rfl rfl)
theorem dX0_needGame_6 : decode cX0_needGame 6 = .ok (.ifCond .ne 7, 3) := dk_154 0 7 (dk_at dksX0_needGame_0 6 rfl rfl)
theorem dX0_needGame_9 : decode cX0_needGame 9 = .ok (.iconst (-1), 1) := dk_2 (dk_at dksX0_needGame_0 9 rfl rfl)
theorem dX0_needGame_10 : decode cX0_needGame 10 = .ok (.goto 16, 3) := dk_167 0 16 (dk_at dksX0_needGame_0 10 rfl rfl)
theorem dX0_needGame_13 : decode cX0_needGame 13 = .ok (.aload_n 0, 1) := dk_42 (dk_at dksX0_needGame_0 13 rfl rfl)
theorem dX0_needGame_14 : decode cX0_needGame 14 = .ok (.getfield 119, 3) := dk_180 0 119 (dk_at dksX0_needGame_0 14 rfl rfl)
theorem dX0_needGame_17 : decode cX0_needGame 17 = .ok (.ifCond .ne 8, 3) := dk_154 0 8 (dk_at dksX0_needGame_0 17 rfl rfl)
theorem dX0_needGame_20 : decode cX0_needGame 20 = .ok (.bipush (-4), 2) := dk_16 252 (dk_at dksX0_needGame_0 20 rfl rfl)
theorem dX0_needGame_22 : decode cX0_needGame 22 = .ok (.goto 4, 3) := dk_167 0 4 (dk_at dksX0_needGame_1 0 rfl rfl)
theorem dX0_needGame_25 : decode cX0_needGame 25 = .ok (.iconst 0, 1) := dk_3 (dk_at dksX0_needGame_1 3 rfl rfl)
theorem dX0_needGame_26 : decode cX0_needGame 26 = .ok (.ireturn, 1) := dk_172 (dk_at dksX0_needGame_1 4 rfl rfl)
abbrev cX0_winsShe : ByteArray := prog_1_method_75_code
def yX0_winsShe : MethodName := ⟨RX0, "winsShe", "(III)Z"⟩
def dkwX0_winsShe_5 : List UInt8 := [182, 1, 36, 54, 6, 42, 21, 4, 181, 1, 39, 21, 6, 172]
abbrev dktX0_winsShe_5 : List UInt8 := dkwX0_winsShe_5 ++ []
def dkwX0_winsShe_4 : List UInt8 := [153, 0, 18, 21, 4, 16, 247, 160, 0, 7, 4, 167, 0, 14, 3, 167, 0, 10, 42, 27, 28, 29]
abbrev dktX0_winsShe_4 : List UInt8 := dkwX0_winsShe_4 ++ dktX0_winsShe_5
def dkwX0_winsShe_3 : List UInt8 := [182, 1, 36, 153, 0, 8, 16, 247, 167, 0, 5, 21, 6, 54, 4, 132, 6, 1, 167, 255, 192, 21, 5]
abbrev dktX0_winsShe_3 : List UInt8 := dkwX0_winsShe_3 ++ dktX0_winsShe_4
def dkwX0_winsShe_2 : List UInt8 := [153, 0, 39, 27, 21, 6, 184, 0, 129, 154, 0, 30, 4, 54, 5, 42, 27, 4, 21, 6, 120, 128, 28, 29]
abbrev dktX0_winsShe_2 : List UInt8 := dkwX0_winsShe_2 ++ dktX0_winsShe_3
def dkwX0_winsShe_1 : List UInt8 := [21, 6, 42, 180, 0, 122, 162, 0, 61, 21, 4, 16, 247, 160, 0, 54, 42, 21, 6, 182, 0, 196]
abbrev dktX0_winsShe_1 : List UInt8 := dkwX0_winsShe_1 ++ dktX0_winsShe_2
def dkwX0_winsShe_0 : List UInt8 := [29, 154, 0, 13, 42, 27, 182, 1, 14, 28, 184, 1, 25, 172, 16, 247, 54, 4, 3, 54, 5, 3, 54, 6]
abbrev dktX0_winsShe_0 : List UInt8 := dkwX0_winsShe_0 ++ dktX0_winsShe_1
theorem dksX0_winsShe_0 : cX0_winsShe.data.toList.drop 0 = dktX0_winsShe_0 := by decide +kernel
theorem dksX0_winsShe_1 : cX0_winsShe.data.toList.drop 24 = dktX0_winsShe_1 := dk_seg dksX0_winsShe_0 24 rfl rfl
theorem dksX0_winsShe_2 : cX0_winsShe.data.toList.drop 46 = dktX0_winsShe_2 := dk_seg dksX0_winsShe_1 22 rfl rfl
theorem dksX0_winsShe_3 : cX0_winsShe.data.toList.drop 70 = dktX0_winsShe_3 := dk_seg dksX0_winsShe_2 24 rfl rfl
theorem dksX0_winsShe_4 : cX0_winsShe.data.toList.drop 93 = dktX0_winsShe_4 := dk_seg dksX0_winsShe_3 23 rfl rfl
theorem dksX0_winsShe_5 : cX0_winsShe.data.toList.drop 115 = dktX0_winsShe_5 := dk_seg dksX0_winsShe_4 22 rfl rfl
theorem dX0_winsShe_0 : decode cX0_winsShe 0 = .ok (.iload_n 3, 1) := dk_29 (dk_at dksX0_winsShe_0 0 rfl rfl)
theorem dX0_winsShe_1 : decode cX0_winsShe 1 = .ok (.ifCond .ne 13, 3) := dk_154 0 13 (dk_at dksX0_winsShe_0 1 rfl rfl)
theorem dX0_winsShe_4 : decode cX0_winsShe 4 = .ok (.aload_n 0, 1) := dk_42 (dk_at dksX0_winsShe_0 4 rfl rfl)
theorem dX0_winsShe_5 : decode cX0_winsShe 5 = .ok (.iload_n 1, 1) := dk_27 (dk_at dksX0_winsShe_0 5 rfl rfl)
theorem dX0_winsShe_6 : decode cX0_winsShe 6 = .ok (.invokevirtual 270, 3) := dk_182 1 14 (dk_at dksX0_winsShe_0 6 rfl rfl)
theorem dX0_winsShe_9 : decode cX0_winsShe 9 = .ok (.iload_n 2, 1) := dk_28 (dk_at dksX0_winsShe_0 9 rfl rfl)
theorem dX0_winsShe_10 : decode cX0_winsShe 10 = .ok (.invokestatic 281, 3) := dk_184 1 25 (dk_at dksX0_winsShe_0 10 rfl rfl)
theorem dX0_winsShe_13 : decode cX0_winsShe 13 = .ok (.ireturn, 1) := dk_172 (dk_at dksX0_winsShe_0 13 rfl rfl)
theorem dX0_winsShe_14 : decode cX0_winsShe 14 = .ok (.bipush (-9), 2) := dk_16 247 (dk_at dksX0_winsShe_0 14 rfl rfl)
theorem dX0_winsShe_16 : decode cX0_winsShe 16 = .ok (.istore 4, 2) := dk_54 4 (dk_at dksX0_winsShe_0 16 rfl rfl)
theorem dX0_winsShe_18 : decode cX0_winsShe 18 = .ok (.iconst 0, 1) := dk_3 (dk_at dksX0_winsShe_0 18 rfl rfl)
theorem dX0_winsShe_19 : decode cX0_winsShe 19 = .ok (.istore 5, 2) := dk_54 5 (dk_at dksX0_winsShe_0 19 rfl rfl)
theorem dX0_winsShe_21 : decode cX0_winsShe 21 = .ok (.iconst 0, 1) := dk_3 (dk_at dksX0_winsShe_0 21 rfl rfl)
theorem dX0_winsShe_22 : decode cX0_winsShe 22 = .ok (.istore 6, 2) := dk_54 6 (dk_at dksX0_winsShe_0 22 rfl rfl)
theorem dX0_winsShe_24 : decode cX0_winsShe 24 = .ok (.iload 6, 2) := dk_21 6 (dk_at dksX0_winsShe_1 0 rfl rfl)
theorem dX0_winsShe_26 : decode cX0_winsShe 26 = .ok (.aload_n 0, 1) := dk_42 (dk_at dksX0_winsShe_1 2 rfl rfl)
theorem dX0_winsShe_27 : decode cX0_winsShe 27 = .ok (.getfield 122, 3) := dk_180 0 122 (dk_at dksX0_winsShe_1 3 rfl rfl)
theorem dX0_winsShe_30 : decode cX0_winsShe 30 = .ok (.if_icmp .ge 61, 3) := dk_162 0 61 (dk_at dksX0_winsShe_1 6 rfl rfl)
theorem dX0_winsShe_33 : decode cX0_winsShe 33 = .ok (.iload 4, 2) := dk_21 4 (dk_at dksX0_winsShe_1 9 rfl rfl)
theorem dX0_winsShe_35 : decode cX0_winsShe 35 = .ok (.bipush (-9), 2) := dk_16 247 (dk_at dksX0_winsShe_1 11 rfl rfl)
theorem dX0_winsShe_37 : decode cX0_winsShe 37 = .ok (.if_icmp .ne 54, 3) := dk_160 0 54 (dk_at dksX0_winsShe_1 13 rfl rfl)
theorem dX0_winsShe_40 : decode cX0_winsShe 40 = .ok (.aload_n 0, 1) := dk_42 (dk_at dksX0_winsShe_1 16 rfl rfl)
theorem dX0_winsShe_41 : decode cX0_winsShe 41 = .ok (.iload 6, 2) := dk_21 6 (dk_at dksX0_winsShe_1 17 rfl rfl)
theorem dX0_winsShe_43 : decode cX0_winsShe 43 = .ok (.invokevirtual 196, 3) := dk_182 0 196 (dk_at dksX0_winsShe_1 19 rfl rfl)
theorem dX0_winsShe_46 : decode cX0_winsShe 46 = .ok (.ifCond .eq 39, 3) := dk_153 0 39 (dk_at dksX0_winsShe_2 0 rfl rfl)
theorem dX0_winsShe_49 : decode cX0_winsShe 49 = .ok (.iload_n 1, 1) := dk_27 (dk_at dksX0_winsShe_2 3 rfl rfl)
theorem dX0_winsShe_50 : decode cX0_winsShe 50 = .ok (.iload 6, 2) := dk_21 6 (dk_at dksX0_winsShe_2 4 rfl rfl)
theorem dX0_winsShe_52 : decode cX0_winsShe 52 = .ok (.invokestatic 129, 3) := dk_184 0 129 (dk_at dksX0_winsShe_2 6 rfl rfl)
theorem dX0_winsShe_55 : decode cX0_winsShe 55 = .ok (.ifCond .ne 30, 3) := dk_154 0 30 (dk_at dksX0_winsShe_2 9 rfl rfl)
theorem dX0_winsShe_58 : decode cX0_winsShe 58 = .ok (.iconst 1, 1) := dk_4 (dk_at dksX0_winsShe_2 12 rfl rfl)
theorem dX0_winsShe_59 : decode cX0_winsShe 59 = .ok (.istore 5, 2) := dk_54 5 (dk_at dksX0_winsShe_2 13 rfl rfl)
theorem dX0_winsShe_61 : decode cX0_winsShe 61 = .ok (.aload_n 0, 1) := dk_42 (dk_at dksX0_winsShe_2 15 rfl rfl)
theorem dX0_winsShe_62 : decode cX0_winsShe 62 = .ok (.iload_n 1, 1) := dk_27 (dk_at dksX0_winsShe_2 16 rfl rfl)
theorem dX0_winsShe_63 : decode cX0_winsShe 63 = .ok (.iconst 1, 1) := dk_4 (dk_at dksX0_winsShe_2 17 rfl rfl)
theorem dX0_winsShe_64 : decode cX0_winsShe 64 = .ok (.iload 6, 2) := dk_21 6 (dk_at dksX0_winsShe_2 18 rfl rfl)
theorem dX0_winsShe_66 : decode cX0_winsShe 66 = .ok (.ishl, 1) := dk_120 (dk_at dksX0_winsShe_2 20 rfl rfl)
theorem dX0_winsShe_67 : decode cX0_winsShe 67 = .ok (.ior, 1) := dk_128 (dk_at dksX0_winsShe_2 21 rfl rfl)
theorem dX0_winsShe_68 : decode cX0_winsShe 68 = .ok (.iload_n 2, 1) := dk_28 (dk_at dksX0_winsShe_2 22 rfl rfl)
theorem dX0_winsShe_69 : decode cX0_winsShe 69 = .ok (.iload_n 3, 1) := dk_29 (dk_at dksX0_winsShe_2 23 rfl rfl)
theorem dX0_winsShe_70 : decode cX0_winsShe 70 = .ok (.invokevirtual 292, 3) := dk_182 1 36 (dk_at dksX0_winsShe_3 0 rfl rfl)
theorem dX0_winsShe_73 : decode cX0_winsShe 73 = .ok (.ifCond .eq 8, 3) := dk_153 0 8 (dk_at dksX0_winsShe_3 3 rfl rfl)
theorem dX0_winsShe_76 : decode cX0_winsShe 76 = .ok (.bipush (-9), 2) := dk_16 247 (dk_at dksX0_winsShe_3 6 rfl rfl)
theorem dX0_winsShe_78 : decode cX0_winsShe 78 = .ok (.goto 5, 3) := dk_167 0 5 (dk_at dksX0_winsShe_3 8 rfl rfl)
theorem dX0_winsShe_81 : decode cX0_winsShe 81 = .ok (.iload 6, 2) := dk_21 6 (dk_at dksX0_winsShe_3 11 rfl rfl)
theorem dX0_winsShe_83 : decode cX0_winsShe 83 = .ok (.istore 4, 2) := dk_54 4 (dk_at dksX0_winsShe_3 13 rfl rfl)
theorem dX0_winsShe_85 : decode cX0_winsShe 85 = .ok (.iinc 6 1, 3) := dk_132 6 1 (dk_at dksX0_winsShe_3 15 rfl rfl)
theorem dX0_winsShe_88 : decode cX0_winsShe 88 = .ok (.goto (-64), 3) := dk_167 255 192 (dk_at dksX0_winsShe_3 18 rfl rfl)
theorem dX0_winsShe_91 : decode cX0_winsShe 91 = .ok (.iload 5, 2) := dk_21 5 (dk_at dksX0_winsShe_3 21 rfl rfl)
theorem dX0_winsShe_93 : decode cX0_winsShe 93 = .ok (.ifCond .eq 18, 3) := dk_153 0 18 (dk_at dksX0_winsShe_4 0 rfl rfl)
theorem dX0_winsShe_96 : decode cX0_winsShe 96 = .ok (.iload 4, 2) := dk_21 4 (dk_at dksX0_winsShe_4 3 rfl rfl)
theorem dX0_winsShe_98 : decode cX0_winsShe 98 = .ok (.bipush (-9), 2) := dk_16 247 (dk_at dksX0_winsShe_4 5 rfl rfl)
theorem dX0_winsShe_100 : decode cX0_winsShe 100 = .ok (.if_icmp .ne 7, 3) := dk_160 0 7 (dk_at dksX0_winsShe_4 7 rfl rfl)
theorem dX0_winsShe_103 : decode cX0_winsShe 103 = .ok (.iconst 1, 1) := dk_4 (dk_at dksX0_winsShe_4 10 rfl rfl)
theorem dX0_winsShe_104 : decode cX0_winsShe 104 = .ok (.goto 14, 3) := dk_167 0 14 (dk_at dksX0_winsShe_4 11 rfl rfl)
theorem dX0_winsShe_107 : decode cX0_winsShe 107 = .ok (.iconst 0, 1) := dk_3 (dk_at dksX0_winsShe_4 14 rfl rfl)
theorem dX0_winsShe_108 : decode cX0_winsShe 108 = .ok (.goto 10, 3) := dk_167 0 10 (dk_at dksX0_winsShe_4 15 rfl rfl)
theorem dX0_winsShe_111 : decode cX0_winsShe 111 = .ok (.aload_n 0, 1) := dk_42 (dk_at dksX0_winsShe_4 18 rfl rfl)
theorem dX0_winsShe_112 : decode cX0_winsShe 112 = .ok (.iload_n 1, 1) := dk_27 (dk_at dksX0_winsShe_4 19 rfl rfl)
theorem dX0_winsShe_113 : decode cX0_winsShe 113 = .ok (.iload_n 2, 1) := dk_28 (dk_at dksX0_winsShe_4 20 rfl rfl)
theorem dX0_winsShe_114 : decode cX0_winsShe 114 = .ok (.iload_n 3, 1) := dk_29 (dk_at dksX0_winsShe_4 21 rfl rfl)
theorem dX0_winsShe_115 : decode cX0_winsShe 115 = .ok (.invokevirtual 292, 3) := dk_182 1 36 (dk_at dksX0_winsShe_5 0 rfl rfl)
theorem dX0_winsShe_118 : decode cX0_winsShe 118 = .ok (.istore 6, 2) := dk_54 6 (dk_at dksX0_winsShe_5 3 rfl rfl)
theorem dX0_winsShe_120 : decode cX0_winsShe 120 = .ok (.aload_n 0, 1) := dk_42 (dk_at dksX0_winsShe_5 5 rfl rfl)
theorem dX0_winsShe_121 : decode cX0_winsShe 121 = .ok (.iload 4, 2) := dk_21 4 (dk_at dksX0_winsShe_5 6 rfl rfl)
theorem dX0_winsShe_123 : decode cX0_winsShe 123 = .ok (.putfield 295, 3) := dk_181 1 39 (dk_at dksX0_winsShe_5 8 rfl rfl)
theorem dX0_winsShe_126 : decode cX0_winsShe 126 = .ok (.iload 6, 2) := dk_21 6 (dk_at dksX0_winsShe_5 11 rfl rfl)
theorem dX0_winsShe_128 : decode cX0_winsShe 128 = .ok (.ireturn, 1) := dk_172 (dk_at dksX0_winsShe_5 13 rfl rfl)
abbrev cX0_answers : ByteArray := prog_1_method_76_code
def yX0_answers : MethodName := ⟨RX0, "answers", "(III)Z"⟩
def dkwX0_answers_2 : List UInt8 := [100, 182, 1, 42, 153, 0, 7, 4, 167, 0, 4, 3, 54, 4, 132, 5, 1, 167, 255, 206, 21, 4, 172]
abbrev dktX0_answers_2 : List UInt8 := dkwX0_answers_2 ++ []
def dkwX0_answers_1 : List UInt8 := [21, 4, 154, 0, 42, 28, 21, 5, 184, 0, 129, 154, 0, 24, 42, 27, 28, 4, 21, 5, 120, 128, 29, 4]
abbrev dktX0_answers_1 : List UInt8 := dkwX0_answers_1 ++ dktX0_answers_2
def dkwX0_answers_0 : List UInt8 := [42, 27, 28, 29, 4, 100, 182, 1, 42, 54, 4, 3, 54, 5, 21, 5, 42, 180, 0, 119, 162, 0, 47]
abbrev dktX0_answers_0 : List UInt8 := dkwX0_answers_0 ++ dktX0_answers_1
theorem dksX0_answers_0 : cX0_answers.data.toList.drop 0 = dktX0_answers_0 := by decide +kernel
theorem dksX0_answers_1 : cX0_answers.data.toList.drop 23 = dktX0_answers_1 := dk_seg dksX0_answers_0 23 rfl rfl
theorem dksX0_answers_2 : cX0_answers.data.toList.drop 47 = dktX0_answers_2 := dk_seg dksX0_answers_1 24 rfl rfl
theorem dX0_answers_0 : decode cX0_answers 0 = .ok (.aload_n 0, 1) := dk_42 (dk_at dksX0_answers_0 0 rfl rfl)
theorem dX0_answers_1 : decode cX0_answers 1 = .ok (.iload_n 1, 1) := dk_27 (dk_at dksX0_answers_0 1 rfl rfl)
theorem dX0_answers_2 : decode cX0_answers 2 = .ok (.iload_n 2, 1) := dk_28 (dk_at dksX0_answers_0 2 rfl rfl)
theorem dX0_answers_3 : decode cX0_answers 3 = .ok (.iload_n 3, 1) := dk_29 (dk_at dksX0_answers_0 3 rfl rfl)
theorem dX0_answers_4 : decode cX0_answers 4 = .ok (.iconst 1, 1) := dk_4 (dk_at dksX0_answers_0 4 rfl rfl)
theorem dX0_answers_5 : decode cX0_answers 5 = .ok (.isub, 1) := dk_100 (dk_at dksX0_answers_0 5 rfl rfl)
theorem dX0_answers_6 : decode cX0_answers 6 = .ok (.invokevirtual 298, 3) := dk_182 1 42 (dk_at dksX0_answers_0 6 rfl rfl)
theorem dX0_answers_9 : decode cX0_answers 9 = .ok (.istore 4, 2) := dk_54 4 (dk_at dksX0_answers_0 9 rfl rfl)
theorem dX0_answers_11 : decode cX0_answers 11 = .ok (.iconst 0, 1) := dk_3 (dk_at dksX0_answers_0 11 rfl rfl)
theorem dX0_answers_12 : decode cX0_answers 12 = .ok (.istore 5, 2) := dk_54 5 (dk_at dksX0_answers_0 12 rfl rfl)
theorem dX0_answers_14 : decode cX0_answers 14 = .ok (.iload 5, 2) := dk_21 5 (dk_at dksX0_answers_0 14 rfl rfl)
theorem dX0_answers_16 : decode cX0_answers 16 = .ok (.aload_n 0, 1) := dk_42 (dk_at dksX0_answers_0 16 rfl rfl)
theorem dX0_answers_17 : decode cX0_answers 17 = .ok (.getfield 119, 3) := dk_180 0 119 (dk_at dksX0_answers_0 17 rfl rfl)
theorem dX0_answers_20 : decode cX0_answers 20 = .ok (.if_icmp .ge 47, 3) := dk_162 0 47 (dk_at dksX0_answers_0 20 rfl rfl)
theorem dX0_answers_23 : decode cX0_answers 23 = .ok (.iload 4, 2) := dk_21 4 (dk_at dksX0_answers_1 0 rfl rfl)
theorem dX0_answers_25 : decode cX0_answers 25 = .ok (.ifCond .ne 42, 3) := dk_154 0 42 (dk_at dksX0_answers_1 2 rfl rfl)
theorem dX0_answers_28 : decode cX0_answers 28 = .ok (.iload_n 2, 1) := dk_28 (dk_at dksX0_answers_1 5 rfl rfl)
theorem dX0_answers_29 : decode cX0_answers 29 = .ok (.iload 5, 2) := dk_21 5 (dk_at dksX0_answers_1 6 rfl rfl)
theorem dX0_answers_31 : decode cX0_answers 31 = .ok (.invokestatic 129, 3) := dk_184 0 129 (dk_at dksX0_answers_1 8 rfl rfl)
theorem dX0_answers_34 : decode cX0_answers 34 = .ok (.ifCond .ne 24, 3) := dk_154 0 24 (dk_at dksX0_answers_1 11 rfl rfl)
theorem dX0_answers_37 : decode cX0_answers 37 = .ok (.aload_n 0, 1) := dk_42 (dk_at dksX0_answers_1 14 rfl rfl)
theorem dX0_answers_38 : decode cX0_answers 38 = .ok (.iload_n 1, 1) := dk_27 (dk_at dksX0_answers_1 15 rfl rfl)
theorem dX0_answers_39 : decode cX0_answers 39 = .ok (.iload_n 2, 1) := dk_28 (dk_at dksX0_answers_1 16 rfl rfl)
theorem dX0_answers_40 : decode cX0_answers 40 = .ok (.iconst 1, 1) := dk_4 (dk_at dksX0_answers_1 17 rfl rfl)
theorem dX0_answers_41 : decode cX0_answers 41 = .ok (.iload 5, 2) := dk_21 5 (dk_at dksX0_answers_1 18 rfl rfl)
theorem dX0_answers_43 : decode cX0_answers 43 = .ok (.ishl, 1) := dk_120 (dk_at dksX0_answers_1 20 rfl rfl)
theorem dX0_answers_44 : decode cX0_answers 44 = .ok (.ior, 1) := dk_128 (dk_at dksX0_answers_1 21 rfl rfl)
theorem dX0_answers_45 : decode cX0_answers 45 = .ok (.iload_n 3, 1) := dk_29 (dk_at dksX0_answers_1 22 rfl rfl)
theorem dX0_answers_46 : decode cX0_answers 46 = .ok (.iconst 1, 1) := dk_4 (dk_at dksX0_answers_1 23 rfl rfl)
theorem dX0_answers_47 : decode cX0_answers 47 = .ok (.isub, 1) := dk_100 (dk_at dksX0_answers_2 0 rfl rfl)
theorem dX0_answers_48 : decode cX0_answers 48 = .ok (.invokevirtual 298, 3) := dk_182 1 42 (dk_at dksX0_answers_2 1 rfl rfl)
theorem dX0_answers_51 : decode cX0_answers 51 = .ok (.ifCond .eq 7, 3) := dk_153 0 7 (dk_at dksX0_answers_2 4 rfl rfl)
theorem dX0_answers_54 : decode cX0_answers 54 = .ok (.iconst 1, 1) := dk_4 (dk_at dksX0_answers_2 7 rfl rfl)
theorem dX0_answers_55 : decode cX0_answers 55 = .ok (.goto 4, 3) := dk_167 0 4 (dk_at dksX0_answers_2 8 rfl rfl)
theorem dX0_answers_58 : decode cX0_answers 58 = .ok (.iconst 0, 1) := dk_3 (dk_at dksX0_answers_2 11 rfl rfl)
theorem dX0_answers_59 : decode cX0_answers 59 = .ok (.istore 4, 2) := dk_54 4 (dk_at dksX0_answers_2 12 rfl rfl)
theorem dX0_answers_61 : decode cX0_answers 61 = .ok (.iinc 5 1, 3) := dk_132 5 1 (dk_at dksX0_answers_2 14 rfl rfl)
theorem dX0_answers_64 : decode cX0_answers 64 = .ok (.goto (-50), 3) := dk_167 255 206 (dk_at dksX0_answers_2 17 rfl rfl)
theorem dX0_answers_67 : decode cX0_answers 67 = .ok (.iload 4, 2) := dk_21 4 (dk_at dksX0_answers_2 20 rfl rfl)
theorem dX0_answers_69 : decode cX0_answers 69 = .ok (.ireturn, 1) := dk_172 (dk_at dksX0_answers_2 22 rfl rfl)
abbrev cX0_names : ByteArray := prog_1_method_79_code
def yX0_names : MethodName := ⟨RX0, "names", "(I)I"⟩
def dkwX0_names_1 : List UInt8 := [87, 42, 180, 1, 39, 172]
abbrev dktX0_names_1 : List UInt8 := dkwX0_names_1 ++ []
def dkwX0_names_0 : List UInt8 := [42, 27, 4, 182, 1, 45, 61, 28, 156, 0, 5, 28, 172, 42, 182, 1, 11, 42, 3, 3, 27, 182, 1, 42]
abbrev dktX0_names_0 : List UInt8 := dkwX0_names_0 ++ dktX0_names_1
theorem dksX0_names_0 : cX0_names.data.toList.drop 0 = dktX0_names_0 := by decide +kernel
theorem dksX0_names_1 : cX0_names.data.toList.drop 24 = dktX0_names_1 := dk_seg dksX0_names_0 24 rfl rfl
theorem dX0_names_0 : decode cX0_names 0 = .ok (.aload_n 0, 1) := dk_42 (dk_at dksX0_names_0 0 rfl rfl)
theorem dX0_names_1 : decode cX0_names 1 = .ok (.iload_n 1, 1) := dk_27 (dk_at dksX0_names_0 1 rfl rfl)
theorem dX0_names_2 : decode cX0_names 2 = .ok (.iconst 1, 1) := dk_4 (dk_at dksX0_names_0 2 rfl rfl)
theorem dX0_names_3 : decode cX0_names 3 = .ok (.invokevirtual 301, 3) := dk_182 1 45 (dk_at dksX0_names_0 3 rfl rfl)
theorem dX0_names_6 : decode cX0_names 6 = .ok (.istore_n 2, 1) := dk_61 (dk_at dksX0_names_0 6 rfl rfl)
theorem dX0_names_7 : decode cX0_names 7 = .ok (.iload_n 2, 1) := dk_28 (dk_at dksX0_names_0 7 rfl rfl)
theorem dX0_names_8 : decode cX0_names 8 = .ok (.ifCond .ge 5, 3) := dk_156 0 5 (dk_at dksX0_names_0 8 rfl rfl)
theorem dX0_names_11 : decode cX0_names 11 = .ok (.iload_n 2, 1) := dk_28 (dk_at dksX0_names_0 11 rfl rfl)
theorem dX0_names_12 : decode cX0_names 12 = .ok (.ireturn, 1) := dk_172 (dk_at dksX0_names_0 12 rfl rfl)
theorem dX0_names_13 : decode cX0_names 13 = .ok (.aload_n 0, 1) := dk_42 (dk_at dksX0_names_0 13 rfl rfl)
theorem dX0_names_14 : decode cX0_names 14 = .ok (.invokevirtual 267, 3) := dk_182 1 11 (dk_at dksX0_names_0 14 rfl rfl)
theorem dX0_names_17 : decode cX0_names 17 = .ok (.aload_n 0, 1) := dk_42 (dk_at dksX0_names_0 17 rfl rfl)
theorem dX0_names_18 : decode cX0_names 18 = .ok (.iconst 0, 1) := dk_3 (dk_at dksX0_names_0 18 rfl rfl)
theorem dX0_names_19 : decode cX0_names 19 = .ok (.iconst 0, 1) := dk_3 (dk_at dksX0_names_0 19 rfl rfl)
theorem dX0_names_20 : decode cX0_names 20 = .ok (.iload_n 1, 1) := dk_27 (dk_at dksX0_names_0 20 rfl rfl)
theorem dX0_names_21 : decode cX0_names 21 = .ok (.invokevirtual 298, 3) := dk_182 1 42 (dk_at dksX0_names_0 21 rfl rfl)
theorem dX0_names_24 : decode cX0_names 24 = .ok (.pop, 1) := dk_87 (dk_at dksX0_names_1 0 rfl rfl)
theorem dX0_names_25 : decode cX0_names 25 = .ok (.aload_n 0, 1) := dk_42 (dk_at dksX0_names_1 1 rfl rfl)
theorem dX0_names_26 : decode cX0_names 26 = .ok (.getfield 295, 3) := dk_180 1 39 (dk_at dksX0_names_1 2 rfl rfl)
theorem dX0_names_29 : decode cX0_names 29 = .ok (.ireturn, 1) := dk_172 (dk_at dksX0_names_1 5 rfl rfl)
abbrev cX0_contradict : ByteArray := prog_1_method_82_code
def yX0_contradict : MethodName := ⟨RX0, "contradict", "(I)I"⟩
def dkwX0_contradict_4 : List UInt8 := [132, 6, 1, 167, 255, 189, 42, 21, 5, 21, 4, 182, 0, 80, 172]
abbrev dktX0_contradict_4 : List UInt8 := dkwX0_contradict_4 ++ []
def dkwX0_contradict_3 : List UInt8 := [16, 100, 21, 6, 104, 21, 7, 96, 167, 0, 5, 21, 5, 54, 5, 132, 4, 1, 132, 7, 1, 167, 255, 210]
abbrev dktX0_contradict_3 : List UInt8 := dkwX0_contradict_3 ++ dktX0_contradict_4
def dkwX0_contradict_2 : List UInt8 := [45, 190, 6, 108, 162, 0, 43, 45, 21, 6, 21, 7, 184, 1, 52, 153, 0, 26, 21, 4, 154, 0, 14]
abbrev dktX0_contradict_2 : List UInt8 := dkwX0_contradict_2 ++ dktX0_contradict_3
def dkwX0_contradict_1 : List UInt8 := [16, 247, 54, 5, 3, 54, 6, 21, 6, 45, 190, 6, 108, 162, 0, 64, 21, 6, 4, 96, 54, 7, 21, 7]
abbrev dktX0_contradict_1 : List UInt8 := dkwX0_contradict_1 ++ dktX0_contradict_2
def dkwX0_contradict_0 : List UInt8 := [42, 27, 4, 182, 1, 48, 61, 28, 156, 0, 5, 28, 172, 42, 180, 0, 25, 27, 50, 78, 3, 54, 4]
abbrev dktX0_contradict_0 : List UInt8 := dkwX0_contradict_0 ++ dktX0_contradict_1
theorem dksX0_contradict_0 : cX0_contradict.data.toList.drop 0 = dktX0_contradict_0 := by decide +kernel
theorem dksX0_contradict_1 : cX0_contradict.data.toList.drop 23 = dktX0_contradict_1 := dk_seg dksX0_contradict_0 23 rfl rfl
theorem dksX0_contradict_2 : cX0_contradict.data.toList.drop 47 = dktX0_contradict_2 := dk_seg dksX0_contradict_1 24 rfl rfl
theorem dksX0_contradict_3 : cX0_contradict.data.toList.drop 70 = dktX0_contradict_3 := dk_seg dksX0_contradict_2 23 rfl rfl
theorem dksX0_contradict_4 : cX0_contradict.data.toList.drop 94 = dktX0_contradict_4 := dk_seg dksX0_contradict_3 24 rfl rfl
theorem dX0_contradict_0 : decode cX0_contradict 0 = .ok (.aload_n 0, 1) := dk_42 (dk_at dksX0_contradict_0 0 rfl rfl)
theorem dX0_contradict_1 : decode cX0_contradict 1 = .ok (.iload_n 1, 1) := dk_27 (dk_at dksX0_contradict_0 1 rfl rfl)
theorem dX0_contradict_2 : decode cX0_contradict 2 = .ok (.iconst 1, 1) := dk_4 (dk_at dksX0_contradict_0 2 rfl rfl)
theorem dX0_contradict_3 : decode cX0_contradict 3 = .ok (.invokevirtual 304, 3) := dk_182 1 48 (dk_at dksX0_contradict_0 3 rfl rfl)
theorem dX0_contradict_6 : decode cX0_contradict 6 = .ok (.istore_n 2, 1) := dk_61 (dk_at dksX0_contradict_0 6 rfl rfl)
theorem dX0_contradict_7 : decode cX0_contradict 7 = .ok (.iload_n 2, 1) := dk_28 (dk_at dksX0_contradict_0 7 rfl rfl)
theorem dX0_contradict_8 : decode cX0_contradict 8 = .ok (.ifCond .ge 5, 3) := dk_156 0 5 (dk_at dksX0_contradict_0 8 rfl rfl)
theorem dX0_contradict_11 : decode cX0_contradict 11 = .ok (.iload_n 2, 1) := dk_28 (dk_at dksX0_contradict_0 11 rfl rfl)
theorem dX0_contradict_12 : decode cX0_contradict 12 = .ok (.ireturn, 1) := dk_172 (dk_at dksX0_contradict_0 12 rfl rfl)
theorem dX0_contradict_13 : decode cX0_contradict 13 = .ok (.aload_n 0, 1) := dk_42 (dk_at dksX0_contradict_0 13 rfl rfl)
theorem dX0_contradict_14 : decode cX0_contradict 14 = .ok (.getfield 25, 3) := dk_180 0 25 (dk_at dksX0_contradict_0 14 rfl rfl)
theorem dX0_contradict_17 : decode cX0_contradict 17 = .ok (.iload_n 1, 1) := dk_27 (dk_at dksX0_contradict_0 17 rfl rfl)
theorem dX0_contradict_18 : decode cX0_contradict 18 = .ok (.aaload, 1) := dk_50 (dk_at dksX0_contradict_0 18 rfl rfl)
theorem dX0_contradict_19 : decode cX0_contradict 19 = .ok (.astore_n 3, 1) := dk_78 (dk_at dksX0_contradict_0 19 rfl rfl)
theorem dX0_contradict_20 : decode cX0_contradict 20 = .ok (.iconst 0, 1) := dk_3 (dk_at dksX0_contradict_0 20 rfl rfl)
theorem dX0_contradict_21 : decode cX0_contradict 21 = .ok (.istore 4, 2) := dk_54 4 (dk_at dksX0_contradict_0 21 rfl rfl)
theorem dX0_contradict_23 : decode cX0_contradict 23 = .ok (.bipush (-9), 2) := dk_16 247 (dk_at dksX0_contradict_1 0 rfl rfl)
theorem dX0_contradict_25 : decode cX0_contradict 25 = .ok (.istore 5, 2) := dk_54 5 (dk_at dksX0_contradict_1 2 rfl rfl)
theorem dX0_contradict_27 : decode cX0_contradict 27 = .ok (.iconst 0, 1) := dk_3 (dk_at dksX0_contradict_1 4 rfl rfl)
theorem dX0_contradict_28 : decode cX0_contradict 28 = .ok (.istore 6, 2) := dk_54 6 (dk_at dksX0_contradict_1 5 rfl rfl)
theorem dX0_contradict_30 : decode cX0_contradict 30 = .ok (.iload 6, 2) := dk_21 6 (dk_at dksX0_contradict_1 7 rfl rfl)
theorem dX0_contradict_32 : decode cX0_contradict 32 = .ok (.aload_n 3, 1) := dk_45 (dk_at dksX0_contradict_1 9 rfl rfl)
theorem dX0_contradict_33 : decode cX0_contradict 33 = .ok (.arraylength, 1) := dk_190 (dk_at dksX0_contradict_1 10 rfl rfl)
theorem dX0_contradict_34 : decode cX0_contradict 34 = .ok (.iconst 3, 1) := dk_6 (dk_at dksX0_contradict_1 11 rfl rfl)
theorem dX0_contradict_35 : decode cX0_contradict 35 = .ok (.idiv, 1) := dk_108 (dk_at dksX0_contradict_1 12 rfl rfl)
theorem dX0_contradict_36 : decode cX0_contradict 36 = .ok (.if_icmp .ge 64, 3) := dk_162 0 64 (dk_at dksX0_contradict_1 13 rfl rfl)
theorem dX0_contradict_39 : decode cX0_contradict 39 = .ok (.iload 6, 2) := dk_21 6 (dk_at dksX0_contradict_1 16 rfl rfl)
theorem dX0_contradict_41 : decode cX0_contradict 41 = .ok (.iconst 1, 1) := dk_4 (dk_at dksX0_contradict_1 18 rfl rfl)
theorem dX0_contradict_42 : decode cX0_contradict 42 = .ok (.iadd, 1) := dk_96 (dk_at dksX0_contradict_1 19 rfl rfl)
theorem dX0_contradict_43 : decode cX0_contradict 43 = .ok (.istore 7, 2) := dk_54 7 (dk_at dksX0_contradict_1 20 rfl rfl)
theorem dX0_contradict_45 : decode cX0_contradict 45 = .ok (.iload 7, 2) := dk_21 7 (dk_at dksX0_contradict_1 22 rfl rfl)
theorem dX0_contradict_47 : decode cX0_contradict 47 = .ok (.aload_n 3, 1) := dk_45 (dk_at dksX0_contradict_2 0 rfl rfl)
theorem dX0_contradict_48 : decode cX0_contradict 48 = .ok (.arraylength, 1) := dk_190 (dk_at dksX0_contradict_2 1 rfl rfl)
theorem dX0_contradict_49 : decode cX0_contradict 49 = .ok (.iconst 3, 1) := dk_6 (dk_at dksX0_contradict_2 2 rfl rfl)
theorem dX0_contradict_50 : decode cX0_contradict 50 = .ok (.idiv, 1) := dk_108 (dk_at dksX0_contradict_2 3 rfl rfl)
theorem dX0_contradict_51 : decode cX0_contradict 51 = .ok (.if_icmp .ge 43, 3) := dk_162 0 43 (dk_at dksX0_contradict_2 4 rfl rfl)
theorem dX0_contradict_54 : decode cX0_contradict 54 = .ok (.aload_n 3, 1) := dk_45 (dk_at dksX0_contradict_2 7 rfl rfl)
theorem dX0_contradict_55 : decode cX0_contradict 55 = .ok (.iload 6, 2) := dk_21 6 (dk_at dksX0_contradict_2 8 rfl rfl)
theorem dX0_contradict_57 : decode cX0_contradict 57 = .ok (.iload 7, 2) := dk_21 7 (dk_at dksX0_contradict_2 10 rfl rfl)
theorem dX0_contradict_59 : decode cX0_contradict 59 = .ok (.invokestatic 308, 3) := dk_184 1 52 (dk_at dksX0_contradict_2 12 rfl rfl)
theorem dX0_contradict_62 : decode cX0_contradict 62 = .ok (.ifCond .eq 26, 3) := dk_153 0 26 (dk_at dksX0_contradict_2 15 rfl rfl)
theorem dX0_contradict_65 : decode cX0_contradict 65 = .ok (.iload 4, 2) := dk_21 4 (dk_at dksX0_contradict_2 18 rfl rfl)
theorem dX0_contradict_67 : decode cX0_contradict 67 = .ok (.ifCond .ne 14, 3) := dk_154 0 14 (dk_at dksX0_contradict_2 20 rfl rfl)
theorem dX0_contradict_70 : decode cX0_contradict 70 = .ok (.bipush 100, 2) := dk_16 100 (dk_at dksX0_contradict_3 0 rfl rfl)
theorem dX0_contradict_72 : decode cX0_contradict 72 = .ok (.iload 6, 2) := dk_21 6 (dk_at dksX0_contradict_3 2 rfl rfl)
theorem dX0_contradict_74 : decode cX0_contradict 74 = .ok (.imul, 1) := dk_104 (dk_at dksX0_contradict_3 4 rfl rfl)
theorem dX0_contradict_75 : decode cX0_contradict 75 = .ok (.iload 7, 2) := dk_21 7 (dk_at dksX0_contradict_3 5 rfl rfl)
theorem dX0_contradict_77 : decode cX0_contradict 77 = .ok (.iadd, 1) := dk_96 (dk_at dksX0_contradict_3 7 rfl rfl)
theorem dX0_contradict_78 : decode cX0_contradict 78 = .ok (.goto 5, 3) := dk_167 0 5 (dk_at dksX0_contradict_3 8 rfl rfl)
theorem dX0_contradict_81 : decode cX0_contradict 81 = .ok (.iload 5, 2) := dk_21 5 (dk_at dksX0_contradict_3 11 rfl rfl)
theorem dX0_contradict_83 : decode cX0_contradict 83 = .ok (.istore 5, 2) := dk_54 5 (dk_at dksX0_contradict_3 13 rfl rfl)
theorem dX0_contradict_85 : decode cX0_contradict 85 = .ok (.iinc 4 1, 3) := dk_132 4 1 (dk_at dksX0_contradict_3 15 rfl rfl)
theorem dX0_contradict_88 : decode cX0_contradict 88 = .ok (.iinc 7 1, 3) := dk_132 7 1 (dk_at dksX0_contradict_3 18 rfl rfl)
theorem dX0_contradict_91 : decode cX0_contradict 91 = .ok (.goto (-46), 3) := dk_167 255 210 (dk_at dksX0_contradict_3 21 rfl rfl)
theorem dX0_contradict_94 : decode cX0_contradict 94 = .ok (.iinc 6 1, 3) := dk_132 6 1 (dk_at dksX0_contradict_4 0 rfl rfl)
theorem dX0_contradict_97 : decode cX0_contradict 97 = .ok (.goto (-67), 3) := dk_167 255 189 (dk_at dksX0_contradict_4 3 rfl rfl)
theorem dX0_contradict_100 : decode cX0_contradict 100 = .ok (.aload_n 0, 1) := dk_42 (dk_at dksX0_contradict_4 6 rfl rfl)
theorem dX0_contradict_101 : decode cX0_contradict 101 = .ok (.iload 5, 2) := dk_21 5 (dk_at dksX0_contradict_4 7 rfl rfl)
theorem dX0_contradict_103 : decode cX0_contradict 103 = .ok (.iload 4, 2) := dk_21 4 (dk_at dksX0_contradict_4 9 rfl rfl)
theorem dX0_contradict_105 : decode cX0_contradict 105 = .ok (.invokevirtual 80, 3) := dk_182 0 80 (dk_at dksX0_contradict_4 11 rfl rfl)
theorem dX0_contradict_108 : decode cX0_contradict 108 = .ok (.ireturn, 1) := dk_172 (dk_at dksX0_contradict_4 14 rfl rfl)
abbrev cX0_needRulings : ByteArray := prog_1_method_80_code
def yX0_needRulings : MethodName := ⟨RX0, "needRulings", "(IZ)I"⟩
def dkwX0_needRulings_5 : List UInt8 := [167, 0, 8, 42, 6, 182, 0, 76, 172]
abbrev dktX0_needRulings_5 : List UInt8 := dkwX0_needRulings_5 ++ []
def dkwX0_needRulings_4 : List UInt8 := [153, 0, 7, 4, 167, 0, 4, 3, 126, 54, 4, 132, 5, 3, 167, 255, 198, 21, 4, 153, 0, 7, 3]
abbrev dktX0_needRulings_4 : List UInt8 := dkwX0_needRulings_4 ++ dktX0_needRulings_5
def dkwX0_needRulings_3 : List UInt8 := [4, 96, 46, 3, 8, 184, 0, 66, 153, 0, 21, 45, 21, 5, 5, 96, 46, 3, 4, 184, 0, 66]
abbrev dktX0_needRulings_3 : List UInt8 := dkwX0_needRulings_3 ++ dktX0_needRulings_4
def dkwX0_needRulings_2 : List UInt8 := [54, 5, 21, 5, 45, 190, 162, 0, 57, 21, 4, 45, 21, 5, 46, 184, 0, 160, 153, 0, 35, 45, 21, 5]
abbrev dktX0_needRulings_2 : List UInt8 := dkwX0_needRulings_2 ++ dktX0_needRulings_3
def dkwX0_needRulings_1 : List UInt8 := [42, 4, 182, 0, 76, 172, 45, 190, 6, 112, 153, 0, 9, 42, 8, 182, 0, 76, 172, 4, 54, 4, 3]
abbrev dktX0_needRulings_1 : List UInt8 := dkwX0_needRulings_1 ++ dktX0_needRulings_2
def dkwX0_needRulings_0 : List UInt8 := [28, 153, 0, 10, 27, 184, 0, 70, 154, 0, 5, 2, 172, 42, 180, 0, 25, 27, 50, 78, 45, 199, 0, 9]
abbrev dktX0_needRulings_0 : List UInt8 := dkwX0_needRulings_0 ++ dktX0_needRulings_1
theorem dksX0_needRulings_0 : cX0_needRulings.data.toList.drop 0 = dktX0_needRulings_0 := by decide +kernel
theorem dksX0_needRulings_1 : cX0_needRulings.data.toList.drop 24 = dktX0_needRulings_1 := dk_seg dksX0_needRulings_0 24 rfl rfl
theorem dksX0_needRulings_2 : cX0_needRulings.data.toList.drop 47 = dktX0_needRulings_2 := dk_seg dksX0_needRulings_1 23 rfl rfl
theorem dksX0_needRulings_3 : cX0_needRulings.data.toList.drop 71 = dktX0_needRulings_3 := dk_seg dksX0_needRulings_2 24 rfl rfl
theorem dksX0_needRulings_4 : cX0_needRulings.data.toList.drop 93 = dktX0_needRulings_4 := dk_seg dksX0_needRulings_3 22 rfl rfl
theorem dksX0_needRulings_5 : cX0_needRulings.data.toList.drop 116 = dktX0_needRulings_5 := dk_seg dksX0_needRulings_4 23 rfl rfl
theorem dX0_needRulings_0 : decode cX0_needRulings 0 = .ok (.iload_n 2, 1) := dk_28 (dk_at dksX0_needRulings_0 0 rfl rfl)
theorem dX0_needRulings_1 : decode cX0_needRulings 1 = .ok (.ifCond .eq 10, 3) := dk_153 0 10 (dk_at dksX0_needRulings_0 1 rfl rfl)
theorem dX0_needRulings_4 : decode cX0_needRulings 4 = .ok (.iload_n 1, 1) := dk_27 (dk_at dksX0_needRulings_0 4 rfl rfl)
theorem dX0_needRulings_5 : decode cX0_needRulings 5 = .ok (.invokestatic 70, 3) := dk_184 0 70 (dk_at dksX0_needRulings_0 5 rfl rfl)
theorem dX0_needRulings_8 : decode cX0_needRulings 8 = .ok (.ifCond .ne 5, 3) := dk_154 0 5 (dk_at dksX0_needRulings_0 8 rfl rfl)
theorem dX0_needRulings_11 : decode cX0_needRulings 11 = .ok (.iconst (-1), 1) := dk_2 (dk_at dksX0_needRulings_0 11 rfl rfl)
theorem dX0_needRulings_12 : decode cX0_needRulings 12 = .ok (.ireturn, 1) := dk_172 (dk_at dksX0_needRulings_0 12 rfl rfl)
theorem dX0_needRulings_13 : decode cX0_needRulings 13 = .ok (.aload_n 0, 1) := dk_42 (dk_at dksX0_needRulings_0 13 rfl rfl)
theorem dX0_needRulings_14 : decode cX0_needRulings 14 = .ok (.getfield 25, 3) := dk_180 0 25 (dk_at dksX0_needRulings_0 14 rfl rfl)
theorem dX0_needRulings_17 : decode cX0_needRulings 17 = .ok (.iload_n 1, 1) := dk_27 (dk_at dksX0_needRulings_0 17 rfl rfl)
theorem dX0_needRulings_18 : decode cX0_needRulings 18 = .ok (.aaload, 1) := dk_50 (dk_at dksX0_needRulings_0 18 rfl rfl)
theorem dX0_needRulings_19 : decode cX0_needRulings 19 = .ok (.astore_n 3, 1) := dk_78 (dk_at dksX0_needRulings_0 19 rfl rfl)
theorem dX0_needRulings_20 : decode cX0_needRulings 20 = .ok (.aload_n 3, 1) := dk_45 (dk_at dksX0_needRulings_0 20 rfl rfl)
theorem dX0_needRulings_21 : decode cX0_needRulings 21 = .ok (.ifnonnull 9, 3) := dk_199 0 9 (dk_at dksX0_needRulings_0 21 rfl rfl)
theorem dX0_needRulings_24 : decode cX0_needRulings 24 = .ok (.aload_n 0, 1) := dk_42 (dk_at dksX0_needRulings_1 0 rfl rfl)
theorem dX0_needRulings_25 : decode cX0_needRulings 25 = .ok (.iconst 1, 1) := dk_4 (dk_at dksX0_needRulings_1 1 rfl rfl)
theorem dX0_needRulings_26 : decode cX0_needRulings 26 = .ok (.invokevirtual 76, 3) := dk_182 0 76 (dk_at dksX0_needRulings_1 2 rfl rfl)
theorem dX0_needRulings_29 : decode cX0_needRulings 29 = .ok (.ireturn, 1) := dk_172 (dk_at dksX0_needRulings_1 5 rfl rfl)
theorem dX0_needRulings_30 : decode cX0_needRulings 30 = .ok (.aload_n 3, 1) := dk_45 (dk_at dksX0_needRulings_1 6 rfl rfl)
theorem dX0_needRulings_31 : decode cX0_needRulings 31 = .ok (.arraylength, 1) := dk_190 (dk_at dksX0_needRulings_1 7 rfl rfl)
theorem dX0_needRulings_32 : decode cX0_needRulings 32 = .ok (.iconst 3, 1) := dk_6 (dk_at dksX0_needRulings_1 8 rfl rfl)
theorem dX0_needRulings_33 : decode cX0_needRulings 33 = .ok (.irem, 1) := dk_112 (dk_at dksX0_needRulings_1 9 rfl rfl)
theorem dX0_needRulings_34 : decode cX0_needRulings 34 = .ok (.ifCond .eq 9, 3) := dk_153 0 9 (dk_at dksX0_needRulings_1 10 rfl rfl)
theorem dX0_needRulings_37 : decode cX0_needRulings 37 = .ok (.aload_n 0, 1) := dk_42 (dk_at dksX0_needRulings_1 13 rfl rfl)
theorem dX0_needRulings_38 : decode cX0_needRulings 38 = .ok (.iconst 5, 1) := dk_8 (dk_at dksX0_needRulings_1 14 rfl rfl)
theorem dX0_needRulings_39 : decode cX0_needRulings 39 = .ok (.invokevirtual 76, 3) := dk_182 0 76 (dk_at dksX0_needRulings_1 15 rfl rfl)
theorem dX0_needRulings_42 : decode cX0_needRulings 42 = .ok (.ireturn, 1) := dk_172 (dk_at dksX0_needRulings_1 18 rfl rfl)
theorem dX0_needRulings_43 : decode cX0_needRulings 43 = .ok (.iconst 1, 1) := dk_4 (dk_at dksX0_needRulings_1 19 rfl rfl)
theorem dX0_needRulings_44 : decode cX0_needRulings 44 = .ok (.istore 4, 2) := dk_54 4 (dk_at dksX0_needRulings_1 20 rfl rfl)
theorem dX0_needRulings_46 : decode cX0_needRulings 46 = .ok (.iconst 0, 1) := dk_3 (dk_at dksX0_needRulings_1 22 rfl rfl)
theorem dX0_needRulings_47 : decode cX0_needRulings 47 = .ok (.istore 5, 2) := dk_54 5 (dk_at dksX0_needRulings_2 0 rfl rfl)
theorem dX0_needRulings_49 : decode cX0_needRulings 49 = .ok (.iload 5, 2) := dk_21 5 (dk_at dksX0_needRulings_2 2 rfl rfl)
theorem dX0_needRulings_51 : decode cX0_needRulings 51 = .ok (.aload_n 3, 1) := dk_45 (dk_at dksX0_needRulings_2 4 rfl rfl)
theorem dX0_needRulings_52 : decode cX0_needRulings 52 = .ok (.arraylength, 1) := dk_190 (dk_at dksX0_needRulings_2 5 rfl rfl)
theorem dX0_needRulings_53 : decode cX0_needRulings 53 = .ok (.if_icmp .ge 57, 3) := dk_162 0 57 (dk_at dksX0_needRulings_2 6 rfl rfl)
theorem dX0_needRulings_56 : decode cX0_needRulings 56 = .ok (.iload 4, 2) := dk_21 4 (dk_at dksX0_needRulings_2 9 rfl rfl)
theorem dX0_needRulings_58 : decode cX0_needRulings 58 = .ok (.aload_n 3, 1) := dk_45 (dk_at dksX0_needRulings_2 11 rfl rfl)
theorem dX0_needRulings_59 : decode cX0_needRulings 59 = .ok (.iload 5, 2) := dk_21 5 (dk_at dksX0_needRulings_2 12 rfl rfl)
theorem dX0_needRulings_61 : decode cX0_needRulings 61 = .ok (.iaload, 1) := dk_46 (dk_at dksX0_needRulings_2 14 rfl rfl)
theorem dX0_needRulings_62 : decode cX0_needRulings 62 = .ok (.invokestatic 160, 3) := dk_184 0 160 (dk_at dksX0_needRulings_2 15 rfl rfl)
theorem dX0_needRulings_65 : decode cX0_needRulings 65 = .ok (.ifCond .eq 35, 3) := dk_153 0 35 (dk_at dksX0_needRulings_2 18 rfl rfl)
theorem dX0_needRulings_68 : decode cX0_needRulings 68 = .ok (.aload_n 3, 1) := dk_45 (dk_at dksX0_needRulings_2 21 rfl rfl)
theorem dX0_needRulings_69 : decode cX0_needRulings 69 = .ok (.iload 5, 2) := dk_21 5 (dk_at dksX0_needRulings_2 22 rfl rfl)
theorem dX0_needRulings_71 : decode cX0_needRulings 71 = .ok (.iconst 1, 1) := dk_4 (dk_at dksX0_needRulings_3 0 rfl rfl)
theorem dX0_needRulings_72 : decode cX0_needRulings 72 = .ok (.iadd, 1) := dk_96 (dk_at dksX0_needRulings_3 1 rfl rfl)
theorem dX0_needRulings_73 : decode cX0_needRulings 73 = .ok (.iaload, 1) := dk_46 (dk_at dksX0_needRulings_3 2 rfl rfl)
theorem dX0_needRulings_74 : decode cX0_needRulings 74 = .ok (.iconst 0, 1) := dk_3 (dk_at dksX0_needRulings_3 3 rfl rfl)
theorem dX0_needRulings_75 : decode cX0_needRulings 75 = .ok (.iconst 5, 1) := dk_8 (dk_at dksX0_needRulings_3 4 rfl rfl)
theorem dX0_needRulings_76 : decode cX0_needRulings 76 = .ok (.invokestatic 66, 3) := dk_184 0 66 (dk_at dksX0_needRulings_3 5 rfl rfl)
theorem dX0_needRulings_79 : decode cX0_needRulings 79 = .ok (.ifCond .eq 21, 3) := dk_153 0 21 (dk_at dksX0_needRulings_3 8 rfl rfl)
theorem dX0_needRulings_82 : decode cX0_needRulings 82 = .ok (.aload_n 3, 1) := dk_45 (dk_at dksX0_needRulings_3 11 rfl rfl)
theorem dX0_needRulings_83 : decode cX0_needRulings 83 = .ok (.iload 5, 2) := dk_21 5 (dk_at dksX0_needRulings_3 12 rfl rfl)
theorem dX0_needRulings_85 : decode cX0_needRulings 85 = .ok (.iconst 2, 1) := dk_5 (dk_at dksX0_needRulings_3 14 rfl rfl)
theorem dX0_needRulings_86 : decode cX0_needRulings 86 = .ok (.iadd, 1) := dk_96 (dk_at dksX0_needRulings_3 15 rfl rfl)
theorem dX0_needRulings_87 : decode cX0_needRulings 87 = .ok (.iaload, 1) := dk_46 (dk_at dksX0_needRulings_3 16 rfl rfl)
theorem dX0_needRulings_88 : decode cX0_needRulings 88 = .ok (.iconst 0, 1) := dk_3 (dk_at dksX0_needRulings_3 17 rfl rfl)
theorem dX0_needRulings_89 : decode cX0_needRulings 89 = .ok (.iconst 1, 1) := dk_4 (dk_at dksX0_needRulings_3 18 rfl rfl)
theorem dX0_needRulings_90 : decode cX0_needRulings 90 = .ok (.invokestatic 66, 3) := dk_184 0 66 (dk_at dksX0_needRulings_3 19 rfl rfl)
theorem dX0_needRulings_93 : decode cX0_needRulings 93 = .ok (.ifCond .eq 7, 3) := dk_153 0 7 (dk_at dksX0_needRulings_4 0 rfl rfl)
theorem dX0_needRulings_96 : decode cX0_needRulings 96 = .ok (.iconst 1, 1) := dk_4 (dk_at dksX0_needRulings_4 3 rfl rfl)
theorem dX0_needRulings_97 : decode cX0_needRulings 97 = .ok (.goto 4, 3) := dk_167 0 4 (dk_at dksX0_needRulings_4 4 rfl rfl)
theorem dX0_needRulings_100 : decode cX0_needRulings 100 = .ok (.iconst 0, 1) := dk_3 (dk_at dksX0_needRulings_4 7 rfl rfl)
theorem dX0_needRulings_101 : decode cX0_needRulings 101 = .ok (.iand, 1) := dk_126 (dk_at dksX0_needRulings_4 8 rfl rfl)
theorem dX0_needRulings_102 : decode cX0_needRulings 102 = .ok (.istore 4, 2) := dk_54 4 (dk_at dksX0_needRulings_4 9 rfl rfl)
theorem dX0_needRulings_104 : decode cX0_needRulings 104 = .ok (.iinc 5 3, 3) := dk_132 5 3 (dk_at dksX0_needRulings_4 11 rfl rfl)
theorem dX0_needRulings_107 : decode cX0_needRulings 107 = .ok (.goto (-58), 3) := dk_167 255 198 (dk_at dksX0_needRulings_4 14 rfl rfl)
theorem dX0_needRulings_110 : decode cX0_needRulings 110 = .ok (.iload 4, 2) := dk_21 4 (dk_at dksX0_needRulings_4 17 rfl rfl)
theorem dX0_needRulings_112 : decode cX0_needRulings 112 = .ok (.ifCond .eq 7, 3) := dk_153 0 7 (dk_at dksX0_needRulings_4 19 rfl rfl)
theorem dX0_needRulings_115 : decode cX0_needRulings 115 = .ok (.iconst 0, 1) := dk_3 (dk_at dksX0_needRulings_4 22 rfl rfl)
theorem dX0_needRulings_116 : decode cX0_needRulings 116 = .ok (.goto 8, 3) := dk_167 0 8 (dk_at dksX0_needRulings_5 0 rfl rfl)
theorem dX0_needRulings_119 : decode cX0_needRulings 119 = .ok (.aload_n 0, 1) := dk_42 (dk_at dksX0_needRulings_5 3 rfl rfl)
theorem dX0_needRulings_120 : decode cX0_needRulings 120 = .ok (.iconst 3, 1) := dk_6 (dk_at dksX0_needRulings_5 4 rfl rfl)
theorem dX0_needRulings_121 : decode cX0_needRulings 121 = .ok (.invokevirtual 76, 3) := dk_182 0 76 (dk_at dksX0_needRulings_5 5 rfl rfl)
theorem dX0_needRulings_124 : decode cX0_needRulings 124 = .ok (.ireturn, 1) := dk_172 (dk_at dksX0_needRulings_5 8 rfl rfl)
abbrev cX0_areAgainst : ByteArray := prog_1_method_81_code
def yX0_areAgainst : MethodName := ⟨RX0, "areAgainst", "([III)Z"⟩
def dkwX0_areAgainst_3 : List UInt8 := [21, 4, 4, 96, 46, 161, 0, 7, 4, 167, 0, 4, 3, 172]
abbrev dktX0_areAgainst_3 : List UInt8 := dkwX0_areAgainst_3 ++ []
def dkwX0_areAgainst_2 : List UInt8 := [96, 46, 42, 29, 4, 96, 46, 161, 0, 7, 4, 167, 0, 26, 3, 167, 0, 22, 42, 29, 4, 96, 46, 42]
abbrev dktX0_areAgainst_2 : List UInt8 := dkwX0_areAgainst_2 ++ dktX0_areAgainst_3
def dkwX0_areAgainst_1 : List UInt8 := [42, 21, 4, 5, 96, 46, 160, 0, 5, 3, 172, 42, 29, 5, 96, 46, 4, 160, 0, 25, 42, 21, 4, 4]
abbrev dktX0_areAgainst_1 : List UInt8 := dkwX0_areAgainst_1 ++ dktX0_areAgainst_2
def dkwX0_areAgainst_0 : List UInt8 := [6, 27, 104, 62, 6, 28, 104, 54, 4, 42, 29, 46, 42, 21, 4, 46, 160, 0, 17, 42, 29, 5, 96, 46]
abbrev dktX0_areAgainst_0 : List UInt8 := dkwX0_areAgainst_0 ++ dktX0_areAgainst_1
theorem dksX0_areAgainst_0 : cX0_areAgainst.data.toList.drop 0 = dktX0_areAgainst_0 := by decide +kernel
theorem dksX0_areAgainst_1 : cX0_areAgainst.data.toList.drop 24 = dktX0_areAgainst_1 := dk_seg dksX0_areAgainst_0 24 rfl rfl
theorem dksX0_areAgainst_2 : cX0_areAgainst.data.toList.drop 48 = dktX0_areAgainst_2 := dk_seg dksX0_areAgainst_1 24 rfl rfl
theorem dksX0_areAgainst_3 : cX0_areAgainst.data.toList.drop 72 = dktX0_areAgainst_3 := dk_seg dksX0_areAgainst_2 24 rfl rfl
theorem dX0_areAgainst_0 : decode cX0_areAgainst 0 = .ok (.iconst 3, 1) := dk_6 (dk_at dksX0_areAgainst_0 0 rfl rfl)
theorem dX0_areAgainst_1 : decode cX0_areAgainst 1 = .ok (.iload_n 1, 1) := dk_27 (dk_at dksX0_areAgainst_0 1 rfl rfl)
theorem dX0_areAgainst_2 : decode cX0_areAgainst 2 = .ok (.imul, 1) := dk_104 (dk_at dksX0_areAgainst_0 2 rfl rfl)
theorem dX0_areAgainst_3 : decode cX0_areAgainst 3 = .ok (.istore_n 3, 1) := dk_62 (dk_at dksX0_areAgainst_0 3 rfl rfl)
theorem dX0_areAgainst_4 : decode cX0_areAgainst 4 = .ok (.iconst 3, 1) := dk_6 (dk_at dksX0_areAgainst_0 4 rfl rfl)
theorem dX0_areAgainst_5 : decode cX0_areAgainst 5 = .ok (.iload_n 2, 1) := dk_28 (dk_at dksX0_areAgainst_0 5 rfl rfl)
theorem dX0_areAgainst_6 : decode cX0_areAgainst 6 = .ok (.imul, 1) := dk_104 (dk_at dksX0_areAgainst_0 6 rfl rfl)
theorem dX0_areAgainst_7 : decode cX0_areAgainst 7 = .ok (.istore 4, 2) := dk_54 4 (dk_at dksX0_areAgainst_0 7 rfl rfl)
theorem dX0_areAgainst_9 : decode cX0_areAgainst 9 = .ok (.aload_n 0, 1) := dk_42 (dk_at dksX0_areAgainst_0 9 rfl rfl)
theorem dX0_areAgainst_10 : decode cX0_areAgainst 10 = .ok (.iload_n 3, 1) := dk_29 (dk_at dksX0_areAgainst_0 10 rfl rfl)
theorem dX0_areAgainst_11 : decode cX0_areAgainst 11 = .ok (.iaload, 1) := dk_46 (dk_at dksX0_areAgainst_0 11 rfl rfl)
theorem dX0_areAgainst_12 : decode cX0_areAgainst 12 = .ok (.aload_n 0, 1) := dk_42 (dk_at dksX0_areAgainst_0 12 rfl rfl)
theorem dX0_areAgainst_13 : decode cX0_areAgainst 13 = .ok (.iload 4, 2) := dk_21 4 (dk_at dksX0_areAgainst_0 13 rfl rfl)
theorem dX0_areAgainst_15 : decode cX0_areAgainst 15 = .ok (.iaload, 1) := dk_46 (dk_at dksX0_areAgainst_0 15 rfl rfl)
theorem dX0_areAgainst_16 : decode cX0_areAgainst 16 = .ok (.if_icmp .ne 17, 3) := dk_160 0 17 (dk_at dksX0_areAgainst_0 16 rfl rfl)
theorem dX0_areAgainst_19 : decode cX0_areAgainst 19 = .ok (.aload_n 0, 1) := dk_42 (dk_at dksX0_areAgainst_0 19 rfl rfl)
theorem dX0_areAgainst_20 : decode cX0_areAgainst 20 = .ok (.iload_n 3, 1) := dk_29 (dk_at dksX0_areAgainst_0 20 rfl rfl)
theorem dX0_areAgainst_21 : decode cX0_areAgainst 21 = .ok (.iconst 2, 1) := dk_5 (dk_at dksX0_areAgainst_0 21 rfl rfl)
theorem dX0_areAgainst_22 : decode cX0_areAgainst 22 = .ok (.iadd, 1) := dk_96 (dk_at dksX0_areAgainst_0 22 rfl rfl)
theorem dX0_areAgainst_23 : decode cX0_areAgainst 23 = .ok (.iaload, 1) := dk_46 (dk_at dksX0_areAgainst_0 23 rfl rfl)
theorem dX0_areAgainst_24 : decode cX0_areAgainst 24 = .ok (.aload_n 0, 1) := dk_42 (dk_at dksX0_areAgainst_1 0 rfl rfl)
theorem dX0_areAgainst_25 : decode cX0_areAgainst 25 = .ok (.iload 4, 2) := dk_21 4 (dk_at dksX0_areAgainst_1 1 rfl rfl)
theorem dX0_areAgainst_27 : decode cX0_areAgainst 27 = .ok (.iconst 2, 1) := dk_5 (dk_at dksX0_areAgainst_1 3 rfl rfl)
theorem dX0_areAgainst_28 : decode cX0_areAgainst 28 = .ok (.iadd, 1) := dk_96 (dk_at dksX0_areAgainst_1 4 rfl rfl)
theorem dX0_areAgainst_29 : decode cX0_areAgainst 29 = .ok (.iaload, 1) := dk_46 (dk_at dksX0_areAgainst_1 5 rfl rfl)
theorem dX0_areAgainst_30 : decode cX0_areAgainst 30 = .ok (.if_icmp .ne 5, 3) := dk_160 0 5 (dk_at dksX0_areAgainst_1 6 rfl rfl)
theorem dX0_areAgainst_33 : decode cX0_areAgainst 33 = .ok (.iconst 0, 1) := dk_3 (dk_at dksX0_areAgainst_1 9 rfl rfl)
theorem dX0_areAgainst_34 : decode cX0_areAgainst 34 = .ok (.ireturn, 1) := dk_172 (dk_at dksX0_areAgainst_1 10 rfl rfl)
theorem dX0_areAgainst_35 : decode cX0_areAgainst 35 = .ok (.aload_n 0, 1) := dk_42 (dk_at dksX0_areAgainst_1 11 rfl rfl)
theorem dX0_areAgainst_36 : decode cX0_areAgainst 36 = .ok (.iload_n 3, 1) := dk_29 (dk_at dksX0_areAgainst_1 12 rfl rfl)
theorem dX0_areAgainst_37 : decode cX0_areAgainst 37 = .ok (.iconst 2, 1) := dk_5 (dk_at dksX0_areAgainst_1 13 rfl rfl)
theorem dX0_areAgainst_38 : decode cX0_areAgainst 38 = .ok (.iadd, 1) := dk_96 (dk_at dksX0_areAgainst_1 14 rfl rfl)
theorem dX0_areAgainst_39 : decode cX0_areAgainst 39 = .ok (.iaload, 1) := dk_46 (dk_at dksX0_areAgainst_1 15 rfl rfl)
theorem dX0_areAgainst_40 : decode cX0_areAgainst 40 = .ok (.iconst 1, 1) := dk_4 (dk_at dksX0_areAgainst_1 16 rfl rfl)
theorem dX0_areAgainst_41 : decode cX0_areAgainst 41 = .ok (.if_icmp .ne 25, 3) := dk_160 0 25 (dk_at dksX0_areAgainst_1 17 rfl rfl)
theorem dX0_areAgainst_44 : decode cX0_areAgainst 44 = .ok (.aload_n 0, 1) := dk_42 (dk_at dksX0_areAgainst_1 20 rfl rfl)
theorem dX0_areAgainst_45 : decode cX0_areAgainst 45 = .ok (.iload 4, 2) := dk_21 4 (dk_at dksX0_areAgainst_1 21 rfl rfl)
theorem dX0_areAgainst_47 : decode cX0_areAgainst 47 = .ok (.iconst 1, 1) := dk_4 (dk_at dksX0_areAgainst_1 23 rfl rfl)
theorem dX0_areAgainst_48 : decode cX0_areAgainst 48 = .ok (.iadd, 1) := dk_96 (dk_at dksX0_areAgainst_2 0 rfl rfl)
theorem dX0_areAgainst_49 : decode cX0_areAgainst 49 = .ok (.iaload, 1) := dk_46 (dk_at dksX0_areAgainst_2 1 rfl rfl)
theorem dX0_areAgainst_50 : decode cX0_areAgainst 50 = .ok (.aload_n 0, 1) := dk_42 (dk_at dksX0_areAgainst_2 2 rfl rfl)
theorem dX0_areAgainst_51 : decode cX0_areAgainst 51 = .ok (.iload_n 3, 1) := dk_29 (dk_at dksX0_areAgainst_2 3 rfl rfl)
theorem dX0_areAgainst_52 : decode cX0_areAgainst 52 = .ok (.iconst 1, 1) := dk_4 (dk_at dksX0_areAgainst_2 4 rfl rfl)
theorem dX0_areAgainst_53 : decode cX0_areAgainst 53 = .ok (.iadd, 1) := dk_96 (dk_at dksX0_areAgainst_2 5 rfl rfl)
theorem dX0_areAgainst_54 : decode cX0_areAgainst 54 = .ok (.iaload, 1) := dk_46 (dk_at dksX0_areAgainst_2 6 rfl rfl)
theorem dX0_areAgainst_55 : decode cX0_areAgainst 55 = .ok (.if_icmp .lt 7, 3) := dk_161 0 7 (dk_at dksX0_areAgainst_2 7 rfl rfl)
theorem dX0_areAgainst_58 : decode cX0_areAgainst 58 = .ok (.iconst 1, 1) := dk_4 (dk_at dksX0_areAgainst_2 10 rfl rfl)
theorem dX0_areAgainst_59 : decode cX0_areAgainst 59 = .ok (.goto 26, 3) := dk_167 0 26 (dk_at dksX0_areAgainst_2 11 rfl rfl)
theorem dX0_areAgainst_62 : decode cX0_areAgainst 62 = .ok (.iconst 0, 1) := dk_3 (dk_at dksX0_areAgainst_2 14 rfl rfl)
theorem dX0_areAgainst_63 : decode cX0_areAgainst 63 = .ok (.goto 22, 3) := dk_167 0 22 (dk_at dksX0_areAgainst_2 15 rfl rfl)
theorem dX0_areAgainst_66 : decode cX0_areAgainst 66 = .ok (.aload_n 0, 1) := dk_42 (dk_at dksX0_areAgainst_2 18 rfl rfl)
theorem dX0_areAgainst_67 : decode cX0_areAgainst 67 = .ok (.iload_n 3, 1) := dk_29 (dk_at dksX0_areAgainst_2 19 rfl rfl)
theorem dX0_areAgainst_68 : decode cX0_areAgainst 68 = .ok (.iconst 1, 1) := dk_4 (dk_at dksX0_areAgainst_2 20 rfl rfl)
theorem dX0_areAgainst_69 : decode cX0_areAgainst 69 = .ok (.iadd, 1) := dk_96 (dk_at dksX0_areAgainst_2 21 rfl rfl)
theorem dX0_areAgainst_70 : decode cX0_areAgainst 70 = .ok (.iaload, 1) := dk_46 (dk_at dksX0_areAgainst_2 22 rfl rfl)
theorem dX0_areAgainst_71 : decode cX0_areAgainst 71 = .ok (.aload_n 0, 1) := dk_42 (dk_at dksX0_areAgainst_2 23 rfl rfl)
theorem dX0_areAgainst_72 : decode cX0_areAgainst 72 = .ok (.iload 4, 2) := dk_21 4 (dk_at dksX0_areAgainst_3 0 rfl rfl)
theorem dX0_areAgainst_74 : decode cX0_areAgainst 74 = .ok (.iconst 1, 1) := dk_4 (dk_at dksX0_areAgainst_3 2 rfl rfl)
theorem dX0_areAgainst_75 : decode cX0_areAgainst 75 = .ok (.iadd, 1) := dk_96 (dk_at dksX0_areAgainst_3 3 rfl rfl)
theorem dX0_areAgainst_76 : decode cX0_areAgainst 76 = .ok (.iaload, 1) := dk_46 (dk_at dksX0_areAgainst_3 4 rfl rfl)
theorem dX0_areAgainst_77 : decode cX0_areAgainst 77 = .ok (.if_icmp .lt 7, 3) := dk_161 0 7 (dk_at dksX0_areAgainst_3 5 rfl rfl)
theorem dX0_areAgainst_80 : decode cX0_areAgainst 80 = .ok (.iconst 1, 1) := dk_4 (dk_at dksX0_areAgainst_3 8 rfl rfl)
theorem dX0_areAgainst_81 : decode cX0_areAgainst 81 = .ok (.goto 4, 3) := dk_167 0 4 (dk_at dksX0_areAgainst_3 9 rfl rfl)
theorem dX0_areAgainst_84 : decode cX0_areAgainst 84 = .ok (.iconst 0, 1) := dk_3 (dk_at dksX0_areAgainst_3 12 rfl rfl)
theorem dX0_areAgainst_85 : decode cX0_areAgainst 85 = .ok (.ireturn, 1) := dk_172 (dk_at dksX0_areAgainst_3 13 rfl rfl)
abbrev cX0_fix : ByteArray := prog_1_method_84_code
def yX0_fix : MethodName := ⟨RX0, "fix", "(I)I"⟩
def dkwX0_fix_4 : List UInt8 := [21, 4, 21, 4, 184, 0, 239, 182, 0, 80, 172]
abbrev dktX0_fix_4 : List UInt8 := dkwX0_fix_4 ++ []
def dkwX0_fix_3 : List UInt8 := [21, 5, 184, 1, 56, 153, 0, 8, 21, 5, 167, 0, 5, 21, 4, 54, 4, 132, 5, 1, 167, 255, 192, 42]
abbrev dktX0_fix_3 : List UInt8 := dkwX0_fix_3 ++ dktX0_fix_4
def dkwX0_fix_2 : List UInt8 := [184, 0, 239, 21, 4, 184, 0, 239, 162, 0, 7, 4, 167, 0, 4, 3, 54, 6, 21, 6, 153, 0, 17, 45]
abbrev dktX0_fix_2 : List UInt8 := dkwX0_fix_2 ++ dktX0_fix_3
def dkwX0_fix_1 : List UInt8 := [3, 54, 5, 21, 5, 4, 45, 190, 6, 108, 120, 162, 0, 59, 21, 4, 16, 247, 159, 0, 16, 21, 5]
abbrev dktX0_fix_1 : List UInt8 := dkwX0_fix_1 ++ dktX0_fix_2
def dkwX0_fix_0 : List UInt8 := [42, 27, 4, 182, 1, 48, 61, 28, 156, 0, 5, 28, 172, 42, 180, 0, 25, 27, 50, 78, 16, 247, 54, 4]
abbrev dktX0_fix_0 : List UInt8 := dkwX0_fix_0 ++ dktX0_fix_1
theorem dksX0_fix_0 : cX0_fix.data.toList.drop 0 = dktX0_fix_0 := by decide +kernel
theorem dksX0_fix_1 : cX0_fix.data.toList.drop 24 = dktX0_fix_1 := dk_seg dksX0_fix_0 24 rfl rfl
theorem dksX0_fix_2 : cX0_fix.data.toList.drop 47 = dktX0_fix_2 := dk_seg dksX0_fix_1 23 rfl rfl
theorem dksX0_fix_3 : cX0_fix.data.toList.drop 71 = dktX0_fix_3 := dk_seg dksX0_fix_2 24 rfl rfl
theorem dksX0_fix_4 : cX0_fix.data.toList.drop 95 = dktX0_fix_4 := dk_seg dksX0_fix_3 24 rfl rfl
theorem dX0_fix_0 : decode cX0_fix 0 = .ok (.aload_n 0, 1) := dk_42 (dk_at dksX0_fix_0 0 rfl rfl)
theorem dX0_fix_1 : decode cX0_fix 1 = .ok (.iload_n 1, 1) := dk_27 (dk_at dksX0_fix_0 1 rfl rfl)
theorem dX0_fix_2 : decode cX0_fix 2 = .ok (.iconst 1, 1) := dk_4 (dk_at dksX0_fix_0 2 rfl rfl)
theorem dX0_fix_3 : decode cX0_fix 3 = .ok (.invokevirtual 304, 3) := dk_182 1 48 (dk_at dksX0_fix_0 3 rfl rfl)
theorem dX0_fix_6 : decode cX0_fix 6 = .ok (.istore_n 2, 1) := dk_61 (dk_at dksX0_fix_0 6 rfl rfl)
theorem dX0_fix_7 : decode cX0_fix 7 = .ok (.iload_n 2, 1) := dk_28 (dk_at dksX0_fix_0 7 rfl rfl)
theorem dX0_fix_8 : decode cX0_fix 8 = .ok (.ifCond .ge 5, 3) := dk_156 0 5 (dk_at dksX0_fix_0 8 rfl rfl)
theorem dX0_fix_11 : decode cX0_fix 11 = .ok (.iload_n 2, 1) := dk_28 (dk_at dksX0_fix_0 11 rfl rfl)
theorem dX0_fix_12 : decode cX0_fix 12 = .ok (.ireturn, 1) := dk_172 (dk_at dksX0_fix_0 12 rfl rfl)
theorem dX0_fix_13 : decode cX0_fix 13 = .ok (.aload_n 0, 1) := dk_42 (dk_at dksX0_fix_0 13 rfl rfl)
theorem dX0_fix_14 : decode cX0_fix 14 = .ok (.getfield 25, 3) := dk_180 0 25 (dk_at dksX0_fix_0 14 rfl rfl)
theorem dX0_fix_17 : decode cX0_fix 17 = .ok (.iload_n 1, 1) := dk_27 (dk_at dksX0_fix_0 17 rfl rfl)
theorem dX0_fix_18 : decode cX0_fix 18 = .ok (.aaload, 1) := dk_50 (dk_at dksX0_fix_0 18 rfl rfl)
theorem dX0_fix_19 : decode cX0_fix 19 = .ok (.astore_n 3, 1) := dk_78 (dk_at dksX0_fix_0 19 rfl rfl)
theorem dX0_fix_20 : decode cX0_fix 20 = .ok (.bipush (-9), 2) := dk_16 247 (dk_at dksX0_fix_0 20 rfl rfl)
theorem dX0_fix_22 : decode cX0_fix 22 = .ok (.istore 4, 2) := dk_54 4 (dk_at dksX0_fix_0 22 rfl rfl)
theorem dX0_fix_24 : decode cX0_fix 24 = .ok (.iconst 0, 1) := dk_3 (dk_at dksX0_fix_1 0 rfl rfl)
theorem dX0_fix_25 : decode cX0_fix 25 = .ok (.istore 5, 2) := dk_54 5 (dk_at dksX0_fix_1 1 rfl rfl)
theorem dX0_fix_27 : decode cX0_fix 27 = .ok (.iload 5, 2) := dk_21 5 (dk_at dksX0_fix_1 3 rfl rfl)
theorem dX0_fix_29 : decode cX0_fix 29 = .ok (.iconst 1, 1) := dk_4 (dk_at dksX0_fix_1 5 rfl rfl)
theorem dX0_fix_30 : decode cX0_fix 30 = .ok (.aload_n 3, 1) := dk_45 (dk_at dksX0_fix_1 6 rfl rfl)
theorem dX0_fix_31 : decode cX0_fix 31 = .ok (.arraylength, 1) := dk_190 (dk_at dksX0_fix_1 7 rfl rfl)
theorem dX0_fix_32 : decode cX0_fix 32 = .ok (.iconst 3, 1) := dk_6 (dk_at dksX0_fix_1 8 rfl rfl)
theorem dX0_fix_33 : decode cX0_fix 33 = .ok (.idiv, 1) := dk_108 (dk_at dksX0_fix_1 9 rfl rfl)
theorem dX0_fix_34 : decode cX0_fix 34 = .ok (.ishl, 1) := dk_120 (dk_at dksX0_fix_1 10 rfl rfl)
theorem dX0_fix_35 : decode cX0_fix 35 = .ok (.if_icmp .ge 59, 3) := dk_162 0 59 (dk_at dksX0_fix_1 11 rfl rfl)
theorem dX0_fix_38 : decode cX0_fix 38 = .ok (.iload 4, 2) := dk_21 4 (dk_at dksX0_fix_1 14 rfl rfl)
theorem dX0_fix_40 : decode cX0_fix 40 = .ok (.bipush (-9), 2) := dk_16 247 (dk_at dksX0_fix_1 16 rfl rfl)
theorem dX0_fix_42 : decode cX0_fix 42 = .ok (.if_icmp .eq 16, 3) := dk_159 0 16 (dk_at dksX0_fix_1 18 rfl rfl)
theorem dX0_fix_45 : decode cX0_fix 45 = .ok (.iload 5, 2) := dk_21 5 (dk_at dksX0_fix_1 21 rfl rfl)
theorem dX0_fix_47 : decode cX0_fix 47 = .ok (.invokestatic 239, 3) := dk_184 0 239 (dk_at dksX0_fix_2 0 rfl rfl)
theorem dX0_fix_50 : decode cX0_fix 50 = .ok (.iload 4, 2) := dk_21 4 (dk_at dksX0_fix_2 3 rfl rfl)
theorem dX0_fix_52 : decode cX0_fix 52 = .ok (.invokestatic 239, 3) := dk_184 0 239 (dk_at dksX0_fix_2 5 rfl rfl)
theorem dX0_fix_55 : decode cX0_fix 55 = .ok (.if_icmp .ge 7, 3) := dk_162 0 7 (dk_at dksX0_fix_2 8 rfl rfl)
theorem dX0_fix_58 : decode cX0_fix 58 = .ok (.iconst 1, 1) := dk_4 (dk_at dksX0_fix_2 11 rfl rfl)
theorem dX0_fix_59 : decode cX0_fix 59 = .ok (.goto 4, 3) := dk_167 0 4 (dk_at dksX0_fix_2 12 rfl rfl)
theorem dX0_fix_62 : decode cX0_fix 62 = .ok (.iconst 0, 1) := dk_3 (dk_at dksX0_fix_2 15 rfl rfl)
theorem dX0_fix_63 : decode cX0_fix 63 = .ok (.istore 6, 2) := dk_54 6 (dk_at dksX0_fix_2 16 rfl rfl)
theorem dX0_fix_65 : decode cX0_fix 65 = .ok (.iload 6, 2) := dk_21 6 (dk_at dksX0_fix_2 18 rfl rfl)
theorem dX0_fix_67 : decode cX0_fix 67 = .ok (.ifCond .eq 17, 3) := dk_153 0 17 (dk_at dksX0_fix_2 20 rfl rfl)
theorem dX0_fix_70 : decode cX0_fix 70 = .ok (.aload_n 3, 1) := dk_45 (dk_at dksX0_fix_2 23 rfl rfl)
theorem dX0_fix_71 : decode cX0_fix 71 = .ok (.iload 5, 2) := dk_21 5 (dk_at dksX0_fix_3 0 rfl rfl)
theorem dX0_fix_73 : decode cX0_fix 73 = .ok (.invokestatic 312, 3) := dk_184 1 56 (dk_at dksX0_fix_3 2 rfl rfl)
theorem dX0_fix_76 : decode cX0_fix 76 = .ok (.ifCond .eq 8, 3) := dk_153 0 8 (dk_at dksX0_fix_3 5 rfl rfl)
theorem dX0_fix_79 : decode cX0_fix 79 = .ok (.iload 5, 2) := dk_21 5 (dk_at dksX0_fix_3 8 rfl rfl)
theorem dX0_fix_81 : decode cX0_fix 81 = .ok (.goto 5, 3) := dk_167 0 5 (dk_at dksX0_fix_3 10 rfl rfl)
theorem dX0_fix_84 : decode cX0_fix 84 = .ok (.iload 4, 2) := dk_21 4 (dk_at dksX0_fix_3 13 rfl rfl)
theorem dX0_fix_86 : decode cX0_fix 86 = .ok (.istore 4, 2) := dk_54 4 (dk_at dksX0_fix_3 15 rfl rfl)
theorem dX0_fix_88 : decode cX0_fix 88 = .ok (.iinc 5 1, 3) := dk_132 5 1 (dk_at dksX0_fix_3 17 rfl rfl)
theorem dX0_fix_91 : decode cX0_fix 91 = .ok (.goto (-64), 3) := dk_167 255 192 (dk_at dksX0_fix_3 20 rfl rfl)
theorem dX0_fix_94 : decode cX0_fix 94 = .ok (.aload_n 0, 1) := dk_42 (dk_at dksX0_fix_3 23 rfl rfl)
theorem dX0_fix_95 : decode cX0_fix 95 = .ok (.iload 4, 2) := dk_21 4 (dk_at dksX0_fix_4 0 rfl rfl)
theorem dX0_fix_97 : decode cX0_fix 97 = .ok (.iload 4, 2) := dk_21 4 (dk_at dksX0_fix_4 2 rfl rfl)
theorem dX0_fix_99 : decode cX0_fix 99 = .ok (.invokestatic 239, 3) := dk_184 0 239 (dk_at dksX0_fix_4 4 rfl rfl)
theorem dX0_fix_102 : decode cX0_fix 102 = .ok (.invokevirtual 80, 3) := dk_182 0 80 (dk_at dksX0_fix_4 7 rfl rfl)
theorem dX0_fix_105 : decode cX0_fix 105 = .ok (.ireturn, 1) := dk_172 (dk_at dksX0_fix_4 10 rfl rfl)
abbrev cX0_isClear : ByteArray := prog_1_method_83_code
def yX0_isClear : MethodName := ⟨RX0, "isClear", "([II)Z"⟩
def dkwX0_isClear_3 : List UInt8 := [167, 255, 190, 28, 172]
abbrev dktX0_isClear_3 : List UInt8 := dkwX0_isClear_3 ++ []
def dkwX0_isClear_2 : List UInt8 := [21, 4, 184, 1, 52, 154, 0, 7, 4, 167, 0, 4, 3, 126, 61, 132, 4, 1, 167, 255, 209, 132, 3, 1]
abbrev dktX0_isClear_2 : List UInt8 := dkwX0_isClear_2 ++ dktX0_isClear_3
def dkwX0_isClear_1 : List UInt8 := [162, 0, 44, 28, 27, 29, 184, 0, 129, 154, 0, 22, 27, 21, 4, 184, 0, 129, 154, 0, 13, 42, 29]
abbrev dktX0_isClear_1 : List UInt8 := dkwX0_isClear_1 ++ dktX0_isClear_2
def dkwX0_isClear_0 : List UInt8 := [4, 61, 3, 62, 29, 42, 190, 6, 108, 162, 0, 64, 29, 4, 96, 54, 4, 21, 4, 42, 190, 6, 108]
abbrev dktX0_isClear_0 : List UInt8 := dkwX0_isClear_0 ++ dktX0_isClear_1
theorem dksX0_isClear_0 : cX0_isClear.data.toList.drop 0 = dktX0_isClear_0 := by decide +kernel
theorem dksX0_isClear_1 : cX0_isClear.data.toList.drop 23 = dktX0_isClear_1 := dk_seg dksX0_isClear_0 23 rfl rfl
theorem dksX0_isClear_2 : cX0_isClear.data.toList.drop 46 = dktX0_isClear_2 := dk_seg dksX0_isClear_1 23 rfl rfl
theorem dksX0_isClear_3 : cX0_isClear.data.toList.drop 70 = dktX0_isClear_3 := dk_seg dksX0_isClear_2 24 rfl rfl
theorem dX0_isClear_0 : decode cX0_isClear 0 = .ok (.iconst 1, 1) := dk_4 (dk_at dksX0_isClear_0 0 rfl rfl)
theorem dX0_isClear_1 : decode cX0_isClear 1 = .ok (.istore_n 2, 1) := dk_61 (dk_at dksX0_isClear_0 1 rfl rfl)
theorem dX0_isClear_2 : decode cX0_isClear 2 = .ok (.iconst 0, 1) := dk_3 (dk_at dksX0_isClear_0 2 rfl rfl)
theorem dX0_isClear_3 : decode cX0_isClear 3 = .ok (.istore_n 3, 1) := dk_62 (dk_at dksX0_isClear_0 3 rfl rfl)
theorem dX0_isClear_4 : decode cX0_isClear 4 = .ok (.iload_n 3, 1) := dk_29 (dk_at dksX0_isClear_0 4 rfl rfl)
theorem dX0_isClear_5 : decode cX0_isClear 5 = .ok (.aload_n 0, 1) := dk_42 (dk_at dksX0_isClear_0 5 rfl rfl)
theorem dX0_isClear_6 : decode cX0_isClear 6 = .ok (.arraylength, 1) := dk_190 (dk_at dksX0_isClear_0 6 rfl rfl)
theorem dX0_isClear_7 : decode cX0_isClear 7 = .ok (.iconst 3, 1) := dk_6 (dk_at dksX0_isClear_0 7 rfl rfl)
theorem dX0_isClear_8 : decode cX0_isClear 8 = .ok (.idiv, 1) := dk_108 (dk_at dksX0_isClear_0 8 rfl rfl)
theorem dX0_isClear_9 : decode cX0_isClear 9 = .ok (.if_icmp .ge 64, 3) := dk_162 0 64 (dk_at dksX0_isClear_0 9 rfl rfl)
theorem dX0_isClear_12 : decode cX0_isClear 12 = .ok (.iload_n 3, 1) := dk_29 (dk_at dksX0_isClear_0 12 rfl rfl)
theorem dX0_isClear_13 : decode cX0_isClear 13 = .ok (.iconst 1, 1) := dk_4 (dk_at dksX0_isClear_0 13 rfl rfl)
theorem dX0_isClear_14 : decode cX0_isClear 14 = .ok (.iadd, 1) := dk_96 (dk_at dksX0_isClear_0 14 rfl rfl)
theorem dX0_isClear_15 : decode cX0_isClear 15 = .ok (.istore 4, 2) := dk_54 4 (dk_at dksX0_isClear_0 15 rfl rfl)
theorem dX0_isClear_17 : decode cX0_isClear 17 = .ok (.iload 4, 2) := dk_21 4 (dk_at dksX0_isClear_0 17 rfl rfl)
theorem dX0_isClear_19 : decode cX0_isClear 19 = .ok (.aload_n 0, 1) := dk_42 (dk_at dksX0_isClear_0 19 rfl rfl)
theorem dX0_isClear_20 : decode cX0_isClear 20 = .ok (.arraylength, 1) := dk_190 (dk_at dksX0_isClear_0 20 rfl rfl)
theorem dX0_isClear_21 : decode cX0_isClear 21 = .ok (.iconst 3, 1) := dk_6 (dk_at dksX0_isClear_0 21 rfl rfl)
theorem dX0_isClear_22 : decode cX0_isClear 22 = .ok (.idiv, 1) := dk_108 (dk_at dksX0_isClear_0 22 rfl rfl)
theorem dX0_isClear_23 : decode cX0_isClear 23 = .ok (.if_icmp .ge 44, 3) := dk_162 0 44 (dk_at dksX0_isClear_1 0 rfl rfl)
theorem dX0_isClear_26 : decode cX0_isClear 26 = .ok (.iload_n 2, 1) := dk_28 (dk_at dksX0_isClear_1 3 rfl rfl)
theorem dX0_isClear_27 : decode cX0_isClear 27 = .ok (.iload_n 1, 1) := dk_27 (dk_at dksX0_isClear_1 4 rfl rfl)
theorem dX0_isClear_28 : decode cX0_isClear 28 = .ok (.iload_n 3, 1) := dk_29 (dk_at dksX0_isClear_1 5 rfl rfl)
theorem dX0_isClear_29 : decode cX0_isClear 29 = .ok (.invokestatic 129, 3) := dk_184 0 129 (dk_at dksX0_isClear_1 6 rfl rfl)
theorem dX0_isClear_32 : decode cX0_isClear 32 = .ok (.ifCond .ne 22, 3) := dk_154 0 22 (dk_at dksX0_isClear_1 9 rfl rfl)
theorem dX0_isClear_35 : decode cX0_isClear 35 = .ok (.iload_n 1, 1) := dk_27 (dk_at dksX0_isClear_1 12 rfl rfl)
theorem dX0_isClear_36 : decode cX0_isClear 36 = .ok (.iload 4, 2) := dk_21 4 (dk_at dksX0_isClear_1 13 rfl rfl)
theorem dX0_isClear_38 : decode cX0_isClear 38 = .ok (.invokestatic 129, 3) := dk_184 0 129 (dk_at dksX0_isClear_1 15 rfl rfl)
theorem dX0_isClear_41 : decode cX0_isClear 41 = .ok (.ifCond .ne 13, 3) := dk_154 0 13 (dk_at dksX0_isClear_1 18 rfl rfl)
theorem dX0_isClear_44 : decode cX0_isClear 44 = .ok (.aload_n 0, 1) := dk_42 (dk_at dksX0_isClear_1 21 rfl rfl)
theorem dX0_isClear_45 : decode cX0_isClear 45 = .ok (.iload_n 3, 1) := dk_29 (dk_at dksX0_isClear_1 22 rfl rfl)
theorem dX0_isClear_46 : decode cX0_isClear 46 = .ok (.iload 4, 2) := dk_21 4 (dk_at dksX0_isClear_2 0 rfl rfl)
theorem dX0_isClear_48 : decode cX0_isClear 48 = .ok (.invokestatic 308, 3) := dk_184 1 52 (dk_at dksX0_isClear_2 2 rfl rfl)
theorem dX0_isClear_51 : decode cX0_isClear 51 = .ok (.ifCond .ne 7, 3) := dk_154 0 7 (dk_at dksX0_isClear_2 5 rfl rfl)
theorem dX0_isClear_54 : decode cX0_isClear 54 = .ok (.iconst 1, 1) := dk_4 (dk_at dksX0_isClear_2 8 rfl rfl)
theorem dX0_isClear_55 : decode cX0_isClear 55 = .ok (.goto 4, 3) := dk_167 0 4 (dk_at dksX0_isClear_2 9 rfl rfl)
theorem dX0_isClear_58 : decode cX0_isClear 58 = .ok (.iconst 0, 1) := dk_3 (dk_at dksX0_isClear_2 12 rfl rfl)
theorem dX0_isClear_59 : decode cX0_isClear 59 = .ok (.iand, 1) := dk_126 (dk_at dksX0_isClear_2 13 rfl rfl)
theorem dX0_isClear_60 : decode cX0_isClear 60 = .ok (.istore_n 2, 1) := dk_61 (dk_at dksX0_isClear_2 14 rfl rfl)
theorem dX0_isClear_61 : decode cX0_isClear 61 = .ok (.iinc 4 1, 3) := dk_132 4 1 (dk_at dksX0_isClear_2 15 rfl rfl)
theorem dX0_isClear_64 : decode cX0_isClear 64 = .ok (.goto (-47), 3) := dk_167 255 209 (dk_at dksX0_isClear_2 18 rfl rfl)
theorem dX0_isClear_67 : decode cX0_isClear 67 = .ok (.iinc 3 1, 3) := dk_132 3 1 (dk_at dksX0_isClear_2 21 rfl rfl)
theorem dX0_isClear_70 : decode cX0_isClear 70 = .ok (.goto (-66), 3) := dk_167 255 190 (dk_at dksX0_isClear_3 0 rfl rfl)
theorem dX0_isClear_73 : decode cX0_isClear 73 = .ok (.iload_n 2, 1) := dk_28 (dk_at dksX0_isClear_3 3 rfl rfl)
theorem dX0_isClear_74 : decode cX0_isClear 74 = .ok (.ireturn, 1) := dk_172 (dk_at dksX0_isClear_3 4 rfl rfl)
abbrev cX0_follows : ByteArray := prog_1_method_85_code
def yX0_follows : MethodName := ⟨RX0, "follows", "(III)I"⟩
def dkwX0_follows_7 : List UInt8 := [167, 0, 5, 16, 247, 172]
abbrev dktX0_follows_7 : List UInt8 := dkwX0_follows_7 ++ []
def dkwX0_follows_6 : List UInt8 := [128, 54, 7, 132, 8, 3, 167, 255, 164, 21, 6, 153, 0, 7, 4, 167, 0, 14, 21, 7, 153, 0, 7, 3]
abbrev dktX0_follows_6 : List UInt8 := dkwX0_follows_6 ++ dktX0_follows_7
def dkwX0_follows_5 : List UInt8 := [21, 8, 5, 96, 46, 154, 0, 18, 25, 5, 21, 8, 4, 96, 46, 29, 161, 0, 7, 4, 167, 0, 4, 3]
abbrev dktX0_follows_5 : List UInt8 := dkwX0_follows_5 ++ dktX0_follows_6
def dkwX0_follows_4 : List UInt8 := [163, 0, 7, 4, 167, 0, 4, 3, 128, 54, 6, 21, 7, 25, 5, 21, 8, 46, 28, 160, 0, 28, 25, 5]
abbrev dktX0_follows_4 : List UInt8 := dkwX0_follows_4 ++ dktX0_follows_5
def dkwX0_follows_3 : List UInt8 := [160, 0, 29, 25, 5, 21, 8, 5, 96, 46, 4, 160, 0, 18, 25, 5, 21, 8, 4, 96, 46, 29]
abbrev dktX0_follows_3 : List UInt8 := dkwX0_follows_3 ++ dktX0_follows_4
def dkwX0_follows_2 : List UInt8 := [3, 54, 7, 3, 54, 8, 21, 8, 25, 5, 190, 162, 0, 90, 21, 6, 25, 5, 21, 8, 46, 28]
abbrev dktX0_follows_2 : List UInt8 := dkwX0_follows_2 ++ dktX0_follows_3
def dkwX0_follows_1 : List UInt8 := [182, 1, 48, 54, 4, 21, 4, 156, 0, 6, 21, 4, 172, 42, 180, 0, 25, 27, 50, 58, 5, 3, 54, 6]
abbrev dktX0_follows_1 : List UInt8 := dkwX0_follows_1 ++ dktX0_follows_2
def dkwX0_follows_0 : List UInt8 := [42, 27, 28, 184, 0, 160, 153, 0, 16, 29, 3, 8, 184, 0, 66, 153, 0, 7, 4, 167, 0, 4, 3]
abbrev dktX0_follows_0 : List UInt8 := dkwX0_follows_0 ++ dktX0_follows_1
theorem dksX0_follows_0 : cX0_follows.data.toList.drop 0 = dktX0_follows_0 := by decide +kernel
theorem dksX0_follows_1 : cX0_follows.data.toList.drop 23 = dktX0_follows_1 := dk_seg dksX0_follows_0 23 rfl rfl
theorem dksX0_follows_2 : cX0_follows.data.toList.drop 47 = dktX0_follows_2 := dk_seg dksX0_follows_1 24 rfl rfl
theorem dksX0_follows_3 : cX0_follows.data.toList.drop 69 = dktX0_follows_3 := dk_seg dksX0_follows_2 22 rfl rfl
theorem dksX0_follows_4 : cX0_follows.data.toList.drop 91 = dktX0_follows_4 := dk_seg dksX0_follows_3 22 rfl rfl
theorem dksX0_follows_5 : cX0_follows.data.toList.drop 115 = dktX0_follows_5 := dk_seg dksX0_follows_4 24 rfl rfl
theorem dksX0_follows_6 : cX0_follows.data.toList.drop 139 = dktX0_follows_6 := dk_seg dksX0_follows_5 24 rfl rfl
theorem dksX0_follows_7 : cX0_follows.data.toList.drop 163 = dktX0_follows_7 := dk_seg dksX0_follows_6 24 rfl rfl
theorem dX0_follows_0 : decode cX0_follows 0 = .ok (.aload_n 0, 1) := dk_42 (dk_at dksX0_follows_0 0 rfl rfl)
theorem dX0_follows_1 : decode cX0_follows 1 = .ok (.iload_n 1, 1) := dk_27 (dk_at dksX0_follows_0 1 rfl rfl)
theorem dX0_follows_2 : decode cX0_follows 2 = .ok (.iload_n 2, 1) := dk_28 (dk_at dksX0_follows_0 2 rfl rfl)
theorem dX0_follows_3 : decode cX0_follows 3 = .ok (.invokestatic 160, 3) := dk_184 0 160 (dk_at dksX0_follows_0 3 rfl rfl)
theorem dX0_follows_6 : decode cX0_follows 6 = .ok (.ifCond .eq 16, 3) := dk_153 0 16 (dk_at dksX0_follows_0 6 rfl rfl)
theorem dX0_follows_9 : decode cX0_follows 9 = .ok (.iload_n 3, 1) := dk_29 (dk_at dksX0_follows_0 9 rfl rfl)
theorem dX0_follows_10 : decode cX0_follows 10 = .ok (.iconst 0, 1) := dk_3 (dk_at dksX0_follows_0 10 rfl rfl)
theorem dX0_follows_11 : decode cX0_follows 11 = .ok (.iconst 5, 1) := dk_8 (dk_at dksX0_follows_0 11 rfl rfl)
theorem dX0_follows_12 : decode cX0_follows 12 = .ok (.invokestatic 66, 3) := dk_184 0 66 (dk_at dksX0_follows_0 12 rfl rfl)
theorem dX0_follows_15 : decode cX0_follows 15 = .ok (.ifCond .eq 7, 3) := dk_153 0 7 (dk_at dksX0_follows_0 15 rfl rfl)
theorem dX0_follows_18 : decode cX0_follows 18 = .ok (.iconst 1, 1) := dk_4 (dk_at dksX0_follows_0 18 rfl rfl)
theorem dX0_follows_19 : decode cX0_follows 19 = .ok (.goto 4, 3) := dk_167 0 4 (dk_at dksX0_follows_0 19 rfl rfl)
theorem dX0_follows_22 : decode cX0_follows 22 = .ok (.iconst 0, 1) := dk_3 (dk_at dksX0_follows_0 22 rfl rfl)
theorem dX0_follows_23 : decode cX0_follows 23 = .ok (.invokevirtual 304, 3) := dk_182 1 48 (dk_at dksX0_follows_1 0 rfl rfl)
theorem dX0_follows_26 : decode cX0_follows 26 = .ok (.istore 4, 2) := dk_54 4 (dk_at dksX0_follows_1 3 rfl rfl)
theorem dX0_follows_28 : decode cX0_follows 28 = .ok (.iload 4, 2) := dk_21 4 (dk_at dksX0_follows_1 5 rfl rfl)
theorem dX0_follows_30 : decode cX0_follows 30 = .ok (.ifCond .ge 6, 3) := dk_156 0 6 (dk_at dksX0_follows_1 7 rfl rfl)
theorem dX0_follows_33 : decode cX0_follows 33 = .ok (.iload 4, 2) := dk_21 4 (dk_at dksX0_follows_1 10 rfl rfl)
theorem dX0_follows_35 : decode cX0_follows 35 = .ok (.ireturn, 1) := dk_172 (dk_at dksX0_follows_1 12 rfl rfl)
theorem dX0_follows_36 : decode cX0_follows 36 = .ok (.aload_n 0, 1) := dk_42 (dk_at dksX0_follows_1 13 rfl rfl)
theorem dX0_follows_37 : decode cX0_follows 37 = .ok (.getfield 25, 3) := dk_180 0 25 (dk_at dksX0_follows_1 14 rfl rfl)
theorem dX0_follows_40 : decode cX0_follows 40 = .ok (.iload_n 1, 1) := dk_27 (dk_at dksX0_follows_1 17 rfl rfl)
theorem dX0_follows_41 : decode cX0_follows 41 = .ok (.aaload, 1) := dk_50 (dk_at dksX0_follows_1 18 rfl rfl)
theorem dX0_follows_42 : decode cX0_follows 42 = .ok (.astore 5, 2) := dk_58 5 (dk_at dksX0_follows_1 19 rfl rfl)
theorem dX0_follows_44 : decode cX0_follows 44 = .ok (.iconst 0, 1) := dk_3 (dk_at dksX0_follows_1 21 rfl rfl)
theorem dX0_follows_45 : decode cX0_follows 45 = .ok (.istore 6, 2) := dk_54 6 (dk_at dksX0_follows_1 22 rfl rfl)
theorem dX0_follows_47 : decode cX0_follows 47 = .ok (.iconst 0, 1) := dk_3 (dk_at dksX0_follows_2 0 rfl rfl)
theorem dX0_follows_48 : decode cX0_follows 48 = .ok (.istore 7, 2) := dk_54 7 (dk_at dksX0_follows_2 1 rfl rfl)
theorem dX0_follows_50 : decode cX0_follows 50 = .ok (.iconst 0, 1) := dk_3 (dk_at dksX0_follows_2 3 rfl rfl)
theorem dX0_follows_51 : decode cX0_follows 51 = .ok (.istore 8, 2) := dk_54 8 (dk_at dksX0_follows_2 4 rfl rfl)
theorem dX0_follows_53 : decode cX0_follows 53 = .ok (.iload 8, 2) := dk_21 8 (dk_at dksX0_follows_2 6 rfl rfl)
theorem dX0_follows_55 : decode cX0_follows 55 = .ok (.aload 5, 2) := dk_25 5 (dk_at dksX0_follows_2 8 rfl rfl)
theorem dX0_follows_57 : decode cX0_follows 57 = .ok (.arraylength, 1) := dk_190 (dk_at dksX0_follows_2 10 rfl rfl)
theorem dX0_follows_58 : decode cX0_follows 58 = .ok (.if_icmp .ge 90, 3) := dk_162 0 90 (dk_at dksX0_follows_2 11 rfl rfl)
theorem dX0_follows_61 : decode cX0_follows 61 = .ok (.iload 6, 2) := dk_21 6 (dk_at dksX0_follows_2 14 rfl rfl)
theorem dX0_follows_63 : decode cX0_follows 63 = .ok (.aload 5, 2) := dk_25 5 (dk_at dksX0_follows_2 16 rfl rfl)
theorem dX0_follows_65 : decode cX0_follows 65 = .ok (.iload 8, 2) := dk_21 8 (dk_at dksX0_follows_2 18 rfl rfl)
theorem dX0_follows_67 : decode cX0_follows 67 = .ok (.iaload, 1) := dk_46 (dk_at dksX0_follows_2 20 rfl rfl)
theorem dX0_follows_68 : decode cX0_follows 68 = .ok (.iload_n 2, 1) := dk_28 (dk_at dksX0_follows_2 21 rfl rfl)
theorem dX0_follows_69 : decode cX0_follows 69 = .ok (.if_icmp .ne 29, 3) := dk_160 0 29 (dk_at dksX0_follows_3 0 rfl rfl)
theorem dX0_follows_72 : decode cX0_follows 72 = .ok (.aload 5, 2) := dk_25 5 (dk_at dksX0_follows_3 3 rfl rfl)
theorem dX0_follows_74 : decode cX0_follows 74 = .ok (.iload 8, 2) := dk_21 8 (dk_at dksX0_follows_3 5 rfl rfl)
theorem dX0_follows_76 : decode cX0_follows 76 = .ok (.iconst 2, 1) := dk_5 (dk_at dksX0_follows_3 7 rfl rfl)
theorem dX0_follows_77 : decode cX0_follows 77 = .ok (.iadd, 1) := dk_96 (dk_at dksX0_follows_3 8 rfl rfl)
theorem dX0_follows_78 : decode cX0_follows 78 = .ok (.iaload, 1) := dk_46 (dk_at dksX0_follows_3 9 rfl rfl)
theorem dX0_follows_79 : decode cX0_follows 79 = .ok (.iconst 1, 1) := dk_4 (dk_at dksX0_follows_3 10 rfl rfl)
theorem dX0_follows_80 : decode cX0_follows 80 = .ok (.if_icmp .ne 18, 3) := dk_160 0 18 (dk_at dksX0_follows_3 11 rfl rfl)
theorem dX0_follows_83 : decode cX0_follows 83 = .ok (.aload 5, 2) := dk_25 5 (dk_at dksX0_follows_3 14 rfl rfl)
theorem dX0_follows_85 : decode cX0_follows 85 = .ok (.iload 8, 2) := dk_21 8 (dk_at dksX0_follows_3 16 rfl rfl)
theorem dX0_follows_87 : decode cX0_follows 87 = .ok (.iconst 1, 1) := dk_4 (dk_at dksX0_follows_3 18 rfl rfl)
theorem dX0_follows_88 : decode cX0_follows 88 = .ok (.iadd, 1) := dk_96 (dk_at dksX0_follows_3 19 rfl rfl)
theorem dX0_follows_89 : decode cX0_follows 89 = .ok (.iaload, 1) := dk_46 (dk_at dksX0_follows_3 20 rfl rfl)
theorem dX0_follows_90 : decode cX0_follows 90 = .ok (.iload_n 3, 1) := dk_29 (dk_at dksX0_follows_3 21 rfl rfl)
theorem dX0_follows_91 : decode cX0_follows 91 = .ok (.if_icmp .gt 7, 3) := dk_163 0 7 (dk_at dksX0_follows_4 0 rfl rfl)
theorem dX0_follows_94 : decode cX0_follows 94 = .ok (.iconst 1, 1) := dk_4 (dk_at dksX0_follows_4 3 rfl rfl)
theorem dX0_follows_95 : decode cX0_follows 95 = .ok (.goto 4, 3) := dk_167 0 4 (dk_at dksX0_follows_4 4 rfl rfl)
theorem dX0_follows_98 : decode cX0_follows 98 = .ok (.iconst 0, 1) := dk_3 (dk_at dksX0_follows_4 7 rfl rfl)
theorem dX0_follows_99 : decode cX0_follows 99 = .ok (.ior, 1) := dk_128 (dk_at dksX0_follows_4 8 rfl rfl)
theorem dX0_follows_100 : decode cX0_follows 100 = .ok (.istore 6, 2) := dk_54 6 (dk_at dksX0_follows_4 9 rfl rfl)
theorem dX0_follows_102 : decode cX0_follows 102 = .ok (.iload 7, 2) := dk_21 7 (dk_at dksX0_follows_4 11 rfl rfl)
theorem dX0_follows_104 : decode cX0_follows 104 = .ok (.aload 5, 2) := dk_25 5 (dk_at dksX0_follows_4 13 rfl rfl)
theorem dX0_follows_106 : decode cX0_follows 106 = .ok (.iload 8, 2) := dk_21 8 (dk_at dksX0_follows_4 15 rfl rfl)
theorem dX0_follows_108 : decode cX0_follows 108 = .ok (.iaload, 1) := dk_46 (dk_at dksX0_follows_4 17 rfl rfl)
theorem dX0_follows_109 : decode cX0_follows 109 = .ok (.iload_n 2, 1) := dk_28 (dk_at dksX0_follows_4 18 rfl rfl)
theorem dX0_follows_110 : decode cX0_follows 110 = .ok (.if_icmp .ne 28, 3) := dk_160 0 28 (dk_at dksX0_follows_4 19 rfl rfl)
theorem dX0_follows_113 : decode cX0_follows 113 = .ok (.aload 5, 2) := dk_25 5 (dk_at dksX0_follows_4 22 rfl rfl)
theorem dX0_follows_115 : decode cX0_follows 115 = .ok (.iload 8, 2) := dk_21 8 (dk_at dksX0_follows_5 0 rfl rfl)
theorem dX0_follows_117 : decode cX0_follows 117 = .ok (.iconst 2, 1) := dk_5 (dk_at dksX0_follows_5 2 rfl rfl)
theorem dX0_follows_118 : decode cX0_follows 118 = .ok (.iadd, 1) := dk_96 (dk_at dksX0_follows_5 3 rfl rfl)
theorem dX0_follows_119 : decode cX0_follows 119 = .ok (.iaload, 1) := dk_46 (dk_at dksX0_follows_5 4 rfl rfl)
theorem dX0_follows_120 : decode cX0_follows 120 = .ok (.ifCond .ne 18, 3) := dk_154 0 18 (dk_at dksX0_follows_5 5 rfl rfl)
theorem dX0_follows_123 : decode cX0_follows 123 = .ok (.aload 5, 2) := dk_25 5 (dk_at dksX0_follows_5 8 rfl rfl)
theorem dX0_follows_125 : decode cX0_follows 125 = .ok (.iload 8, 2) := dk_21 8 (dk_at dksX0_follows_5 10 rfl rfl)
theorem dX0_follows_127 : decode cX0_follows 127 = .ok (.iconst 1, 1) := dk_4 (dk_at dksX0_follows_5 12 rfl rfl)
theorem dX0_follows_128 : decode cX0_follows 128 = .ok (.iadd, 1) := dk_96 (dk_at dksX0_follows_5 13 rfl rfl)
theorem dX0_follows_129 : decode cX0_follows 129 = .ok (.iaload, 1) := dk_46 (dk_at dksX0_follows_5 14 rfl rfl)
theorem dX0_follows_130 : decode cX0_follows 130 = .ok (.iload_n 3, 1) := dk_29 (dk_at dksX0_follows_5 15 rfl rfl)
theorem dX0_follows_131 : decode cX0_follows 131 = .ok (.if_icmp .lt 7, 3) := dk_161 0 7 (dk_at dksX0_follows_5 16 rfl rfl)
theorem dX0_follows_134 : decode cX0_follows 134 = .ok (.iconst 1, 1) := dk_4 (dk_at dksX0_follows_5 19 rfl rfl)
theorem dX0_follows_135 : decode cX0_follows 135 = .ok (.goto 4, 3) := dk_167 0 4 (dk_at dksX0_follows_5 20 rfl rfl)
theorem dX0_follows_138 : decode cX0_follows 138 = .ok (.iconst 0, 1) := dk_3 (dk_at dksX0_follows_5 23 rfl rfl)
theorem dX0_follows_139 : decode cX0_follows 139 = .ok (.ior, 1) := dk_128 (dk_at dksX0_follows_6 0 rfl rfl)
theorem dX0_follows_140 : decode cX0_follows 140 = .ok (.istore 7, 2) := dk_54 7 (dk_at dksX0_follows_6 1 rfl rfl)
theorem dX0_follows_142 : decode cX0_follows 142 = .ok (.iinc 8 3, 3) := dk_132 8 3 (dk_at dksX0_follows_6 3 rfl rfl)
theorem dX0_follows_145 : decode cX0_follows 145 = .ok (.goto (-92), 3) := dk_167 255 164 (dk_at dksX0_follows_6 6 rfl rfl)
theorem dX0_follows_148 : decode cX0_follows 148 = .ok (.iload 6, 2) := dk_21 6 (dk_at dksX0_follows_6 9 rfl rfl)
theorem dX0_follows_150 : decode cX0_follows 150 = .ok (.ifCond .eq 7, 3) := dk_153 0 7 (dk_at dksX0_follows_6 11 rfl rfl)
theorem dX0_follows_153 : decode cX0_follows 153 = .ok (.iconst 1, 1) := dk_4 (dk_at dksX0_follows_6 14 rfl rfl)
theorem dX0_follows_154 : decode cX0_follows 154 = .ok (.goto 14, 3) := dk_167 0 14 (dk_at dksX0_follows_6 15 rfl rfl)
theorem dX0_follows_157 : decode cX0_follows 157 = .ok (.iload 7, 2) := dk_21 7 (dk_at dksX0_follows_6 18 rfl rfl)
theorem dX0_follows_159 : decode cX0_follows 159 = .ok (.ifCond .eq 7, 3) := dk_153 0 7 (dk_at dksX0_follows_6 20 rfl rfl)
theorem dX0_follows_162 : decode cX0_follows 162 = .ok (.iconst 0, 1) := dk_3 (dk_at dksX0_follows_6 23 rfl rfl)
theorem dX0_follows_163 : decode cX0_follows 163 = .ok (.goto 5, 3) := dk_167 0 5 (dk_at dksX0_follows_7 0 rfl rfl)
theorem dX0_follows_166 : decode cX0_follows 166 = .ok (.bipush (-9), 2) := dk_16 247 (dk_at dksX0_follows_7 3 rfl rfl)
theorem dX0_follows_168 : decode cX0_follows 168 = .ok (.ireturn, 1) := dk_172 (dk_at dksX0_follows_7 5 rfl rfl)
abbrev cX0_borders : ByteArray := prog_1_method_86_code
def yX0_borders : MethodName := ⟨RX0, "borders", "(II)I"⟩
def dkwX0_borders_5 : List UInt8 := [4, 21, 6, 120, 167, 0, 4, 3, 128, 54, 5, 132, 6, 1, 167, 255, 154, 21, 5, 172]
abbrev dktX0_borders_5 : List UInt8 := dkwX0_borders_5 ++ []
def dkwX0_borders_4 : List UInt8 := [160, 0, 7, 4, 167, 0, 4, 3, 126, 54, 7, 132, 8, 3, 167, 255, 190, 21, 5, 21, 7, 153, 0, 10]
abbrev dktX0_borders_4 : List UInt8 := dkwX0_borders_4 ++ dktX0_borders_5
def dkwX0_borders_3 : List UInt8 := [161, 0, 7, 4, 167, 0, 4, 3, 25, 4, 21, 8, 5, 96, 46, 4, 160, 0, 7, 4, 167, 0, 4, 3]
abbrev dktX0_borders_3 : List UInt8 := dkwX0_borders_3 ++ dktX0_borders_4
def dkwX0_borders_2 : List UInt8 := [162, 0, 64, 21, 7, 25, 4, 21, 8, 46, 28, 160, 0, 39, 25, 4, 21, 8, 4, 96, 46, 21, 6]
abbrev dktX0_borders_2 : List UInt8 := dkwX0_borders_2 ++ dktX0_borders_3
def dkwX0_borders_1 : List UInt8 := [3, 54, 5, 4, 54, 6, 21, 6, 8, 163, 0, 102, 4, 54, 7, 3, 54, 8, 21, 8, 25, 4, 190]
abbrev dktX0_borders_1 : List UInt8 := dkwX0_borders_1 ++ dktX0_borders_2
def dkwX0_borders_0 : List UInt8 := [42, 27, 28, 184, 0, 160, 182, 1, 48, 62, 29, 156, 0, 5, 29, 172, 42, 180, 0, 25, 27, 50, 58, 4]
abbrev dktX0_borders_0 : List UInt8 := dkwX0_borders_0 ++ dktX0_borders_1
theorem dksX0_borders_0 : cX0_borders.data.toList.drop 0 = dktX0_borders_0 := by decide +kernel
theorem dksX0_borders_1 : cX0_borders.data.toList.drop 24 = dktX0_borders_1 := dk_seg dksX0_borders_0 24 rfl rfl
theorem dksX0_borders_2 : cX0_borders.data.toList.drop 47 = dktX0_borders_2 := dk_seg dksX0_borders_1 23 rfl rfl
theorem dksX0_borders_3 : cX0_borders.data.toList.drop 70 = dktX0_borders_3 := dk_seg dksX0_borders_2 23 rfl rfl
theorem dksX0_borders_4 : cX0_borders.data.toList.drop 94 = dktX0_borders_4 := dk_seg dksX0_borders_3 24 rfl rfl
theorem dksX0_borders_5 : cX0_borders.data.toList.drop 118 = dktX0_borders_5 := dk_seg dksX0_borders_4 24 rfl rfl
theorem dX0_borders_0 : decode cX0_borders 0 = .ok (.aload_n 0, 1) := dk_42 (dk_at dksX0_borders_0 0 rfl rfl)
theorem dX0_borders_1 : decode cX0_borders 1 = .ok (.iload_n 1, 1) := dk_27 (dk_at dksX0_borders_0 1 rfl rfl)
theorem dX0_borders_2 : decode cX0_borders 2 = .ok (.iload_n 2, 1) := dk_28 (dk_at dksX0_borders_0 2 rfl rfl)
theorem dX0_borders_3 : decode cX0_borders 3 = .ok (.invokestatic 160, 3) := dk_184 0 160 (dk_at dksX0_borders_0 3 rfl rfl)
theorem dX0_borders_6 : decode cX0_borders 6 = .ok (.invokevirtual 304, 3) := dk_182 1 48 (dk_at dksX0_borders_0 6 rfl rfl)
theorem dX0_borders_9 : decode cX0_borders 9 = .ok (.istore_n 3, 1) := dk_62 (dk_at dksX0_borders_0 9 rfl rfl)
theorem dX0_borders_10 : decode cX0_borders 10 = .ok (.iload_n 3, 1) := dk_29 (dk_at dksX0_borders_0 10 rfl rfl)
theorem dX0_borders_11 : decode cX0_borders 11 = .ok (.ifCond .ge 5, 3) := dk_156 0 5 (dk_at dksX0_borders_0 11 rfl rfl)
theorem dX0_borders_14 : decode cX0_borders 14 = .ok (.iload_n 3, 1) := dk_29 (dk_at dksX0_borders_0 14 rfl rfl)
theorem dX0_borders_15 : decode cX0_borders 15 = .ok (.ireturn, 1) := dk_172 (dk_at dksX0_borders_0 15 rfl rfl)
theorem dX0_borders_16 : decode cX0_borders 16 = .ok (.aload_n 0, 1) := dk_42 (dk_at dksX0_borders_0 16 rfl rfl)
theorem dX0_borders_17 : decode cX0_borders 17 = .ok (.getfield 25, 3) := dk_180 0 25 (dk_at dksX0_borders_0 17 rfl rfl)
theorem dX0_borders_20 : decode cX0_borders 20 = .ok (.iload_n 1, 1) := dk_27 (dk_at dksX0_borders_0 20 rfl rfl)
theorem dX0_borders_21 : decode cX0_borders 21 = .ok (.aaload, 1) := dk_50 (dk_at dksX0_borders_0 21 rfl rfl)
theorem dX0_borders_22 : decode cX0_borders 22 = .ok (.astore 4, 2) := dk_58 4 (dk_at dksX0_borders_0 22 rfl rfl)
theorem dX0_borders_24 : decode cX0_borders 24 = .ok (.iconst 0, 1) := dk_3 (dk_at dksX0_borders_1 0 rfl rfl)
theorem dX0_borders_25 : decode cX0_borders 25 = .ok (.istore 5, 2) := dk_54 5 (dk_at dksX0_borders_1 1 rfl rfl)
theorem dX0_borders_27 : decode cX0_borders 27 = .ok (.iconst 1, 1) := dk_4 (dk_at dksX0_borders_1 3 rfl rfl)
theorem dX0_borders_28 : decode cX0_borders 28 = .ok (.istore 6, 2) := dk_54 6 (dk_at dksX0_borders_1 4 rfl rfl)
theorem dX0_borders_30 : decode cX0_borders 30 = .ok (.iload 6, 2) := dk_21 6 (dk_at dksX0_borders_1 6 rfl rfl)
theorem dX0_borders_32 : decode cX0_borders 32 = .ok (.iconst 5, 1) := dk_8 (dk_at dksX0_borders_1 8 rfl rfl)
theorem dX0_borders_33 : decode cX0_borders 33 = .ok (.if_icmp .gt 102, 3) := dk_163 0 102 (dk_at dksX0_borders_1 9 rfl rfl)
theorem dX0_borders_36 : decode cX0_borders 36 = .ok (.iconst 1, 1) := dk_4 (dk_at dksX0_borders_1 12 rfl rfl)
theorem dX0_borders_37 : decode cX0_borders 37 = .ok (.istore 7, 2) := dk_54 7 (dk_at dksX0_borders_1 13 rfl rfl)
theorem dX0_borders_39 : decode cX0_borders 39 = .ok (.iconst 0, 1) := dk_3 (dk_at dksX0_borders_1 15 rfl rfl)
theorem dX0_borders_40 : decode cX0_borders 40 = .ok (.istore 8, 2) := dk_54 8 (dk_at dksX0_borders_1 16 rfl rfl)
theorem dX0_borders_42 : decode cX0_borders 42 = .ok (.iload 8, 2) := dk_21 8 (dk_at dksX0_borders_1 18 rfl rfl)
theorem dX0_borders_44 : decode cX0_borders 44 = .ok (.aload 4, 2) := dk_25 4 (dk_at dksX0_borders_1 20 rfl rfl)
theorem dX0_borders_46 : decode cX0_borders 46 = .ok (.arraylength, 1) := dk_190 (dk_at dksX0_borders_1 22 rfl rfl)
theorem dX0_borders_47 : decode cX0_borders 47 = .ok (.if_icmp .ge 64, 3) := dk_162 0 64 (dk_at dksX0_borders_2 0 rfl rfl)
theorem dX0_borders_50 : decode cX0_borders 50 = .ok (.iload 7, 2) := dk_21 7 (dk_at dksX0_borders_2 3 rfl rfl)
theorem dX0_borders_52 : decode cX0_borders 52 = .ok (.aload 4, 2) := dk_25 4 (dk_at dksX0_borders_2 5 rfl rfl)
theorem dX0_borders_54 : decode cX0_borders 54 = .ok (.iload 8, 2) := dk_21 8 (dk_at dksX0_borders_2 7 rfl rfl)
theorem dX0_borders_56 : decode cX0_borders 56 = .ok (.iaload, 1) := dk_46 (dk_at dksX0_borders_2 9 rfl rfl)
theorem dX0_borders_57 : decode cX0_borders 57 = .ok (.iload_n 2, 1) := dk_28 (dk_at dksX0_borders_2 10 rfl rfl)
theorem dX0_borders_58 : decode cX0_borders 58 = .ok (.if_icmp .ne 39, 3) := dk_160 0 39 (dk_at dksX0_borders_2 11 rfl rfl)
theorem dX0_borders_61 : decode cX0_borders 61 = .ok (.aload 4, 2) := dk_25 4 (dk_at dksX0_borders_2 14 rfl rfl)
theorem dX0_borders_63 : decode cX0_borders 63 = .ok (.iload 8, 2) := dk_21 8 (dk_at dksX0_borders_2 16 rfl rfl)
theorem dX0_borders_65 : decode cX0_borders 65 = .ok (.iconst 1, 1) := dk_4 (dk_at dksX0_borders_2 18 rfl rfl)
theorem dX0_borders_66 : decode cX0_borders 66 = .ok (.iadd, 1) := dk_96 (dk_at dksX0_borders_2 19 rfl rfl)
theorem dX0_borders_67 : decode cX0_borders 67 = .ok (.iaload, 1) := dk_46 (dk_at dksX0_borders_2 20 rfl rfl)
theorem dX0_borders_68 : decode cX0_borders 68 = .ok (.iload 6, 2) := dk_21 6 (dk_at dksX0_borders_2 21 rfl rfl)
theorem dX0_borders_70 : decode cX0_borders 70 = .ok (.if_icmp .lt 7, 3) := dk_161 0 7 (dk_at dksX0_borders_3 0 rfl rfl)
theorem dX0_borders_73 : decode cX0_borders 73 = .ok (.iconst 1, 1) := dk_4 (dk_at dksX0_borders_3 3 rfl rfl)
theorem dX0_borders_74 : decode cX0_borders 74 = .ok (.goto 4, 3) := dk_167 0 4 (dk_at dksX0_borders_3 4 rfl rfl)
theorem dX0_borders_77 : decode cX0_borders 77 = .ok (.iconst 0, 1) := dk_3 (dk_at dksX0_borders_3 7 rfl rfl)
theorem dX0_borders_78 : decode cX0_borders 78 = .ok (.aload 4, 2) := dk_25 4 (dk_at dksX0_borders_3 8 rfl rfl)
theorem dX0_borders_80 : decode cX0_borders 80 = .ok (.iload 8, 2) := dk_21 8 (dk_at dksX0_borders_3 10 rfl rfl)
theorem dX0_borders_82 : decode cX0_borders 82 = .ok (.iconst 2, 1) := dk_5 (dk_at dksX0_borders_3 12 rfl rfl)
theorem dX0_borders_83 : decode cX0_borders 83 = .ok (.iadd, 1) := dk_96 (dk_at dksX0_borders_3 13 rfl rfl)
theorem dX0_borders_84 : decode cX0_borders 84 = .ok (.iaload, 1) := dk_46 (dk_at dksX0_borders_3 14 rfl rfl)
theorem dX0_borders_85 : decode cX0_borders 85 = .ok (.iconst 1, 1) := dk_4 (dk_at dksX0_borders_3 15 rfl rfl)
theorem dX0_borders_86 : decode cX0_borders 86 = .ok (.if_icmp .ne 7, 3) := dk_160 0 7 (dk_at dksX0_borders_3 16 rfl rfl)
theorem dX0_borders_89 : decode cX0_borders 89 = .ok (.iconst 1, 1) := dk_4 (dk_at dksX0_borders_3 19 rfl rfl)
theorem dX0_borders_90 : decode cX0_borders 90 = .ok (.goto 4, 3) := dk_167 0 4 (dk_at dksX0_borders_3 20 rfl rfl)
theorem dX0_borders_93 : decode cX0_borders 93 = .ok (.iconst 0, 1) := dk_3 (dk_at dksX0_borders_3 23 rfl rfl)
theorem dX0_borders_94 : decode cX0_borders 94 = .ok (.if_icmp .ne 7, 3) := dk_160 0 7 (dk_at dksX0_borders_4 0 rfl rfl)
theorem dX0_borders_97 : decode cX0_borders 97 = .ok (.iconst 1, 1) := dk_4 (dk_at dksX0_borders_4 3 rfl rfl)
theorem dX0_borders_98 : decode cX0_borders 98 = .ok (.goto 4, 3) := dk_167 0 4 (dk_at dksX0_borders_4 4 rfl rfl)
theorem dX0_borders_101 : decode cX0_borders 101 = .ok (.iconst 0, 1) := dk_3 (dk_at dksX0_borders_4 7 rfl rfl)
theorem dX0_borders_102 : decode cX0_borders 102 = .ok (.iand, 1) := dk_126 (dk_at dksX0_borders_4 8 rfl rfl)
theorem dX0_borders_103 : decode cX0_borders 103 = .ok (.istore 7, 2) := dk_54 7 (dk_at dksX0_borders_4 9 rfl rfl)
theorem dX0_borders_105 : decode cX0_borders 105 = .ok (.iinc 8 3, 3) := dk_132 8 3 (dk_at dksX0_borders_4 11 rfl rfl)
theorem dX0_borders_108 : decode cX0_borders 108 = .ok (.goto (-66), 3) := dk_167 255 190 (dk_at dksX0_borders_4 14 rfl rfl)
theorem dX0_borders_111 : decode cX0_borders 111 = .ok (.iload 5, 2) := dk_21 5 (dk_at dksX0_borders_4 17 rfl rfl)
theorem dX0_borders_113 : decode cX0_borders 113 = .ok (.iload 7, 2) := dk_21 7 (dk_at dksX0_borders_4 19 rfl rfl)
theorem dX0_borders_115 : decode cX0_borders 115 = .ok (.ifCond .eq 10, 3) := dk_153 0 10 (dk_at dksX0_borders_4 21 rfl rfl)
theorem dX0_borders_118 : decode cX0_borders 118 = .ok (.iconst 1, 1) := dk_4 (dk_at dksX0_borders_5 0 rfl rfl)
theorem dX0_borders_119 : decode cX0_borders 119 = .ok (.iload 6, 2) := dk_21 6 (dk_at dksX0_borders_5 1 rfl rfl)
theorem dX0_borders_121 : decode cX0_borders 121 = .ok (.ishl, 1) := dk_120 (dk_at dksX0_borders_5 3 rfl rfl)
theorem dX0_borders_122 : decode cX0_borders 122 = .ok (.goto 4, 3) := dk_167 0 4 (dk_at dksX0_borders_5 4 rfl rfl)
theorem dX0_borders_125 : decode cX0_borders 125 = .ok (.iconst 0, 1) := dk_3 (dk_at dksX0_borders_5 7 rfl rfl)
theorem dX0_borders_126 : decode cX0_borders 126 = .ok (.ior, 1) := dk_128 (dk_at dksX0_borders_5 8 rfl rfl)
theorem dX0_borders_127 : decode cX0_borders 127 = .ok (.istore 5, 2) := dk_54 5 (dk_at dksX0_borders_5 9 rfl rfl)
theorem dX0_borders_129 : decode cX0_borders 129 = .ok (.iinc 6 1, 3) := dk_132 6 1 (dk_at dksX0_borders_5 11 rfl rfl)
theorem dX0_borders_132 : decode cX0_borders 132 = .ok (.goto (-102), 3) := dk_167 255 154 (dk_at dksX0_borders_5 14 rfl rfl)
theorem dX0_borders_135 : decode cX0_borders 135 = .ok (.iload 5, 2) := dk_21 5 (dk_at dksX0_borders_5 17 rfl rfl)
theorem dX0_borders_137 : decode cX0_borders 137 = .ok (.ireturn, 1) := dk_172 (dk_at dksX0_borders_5 19 rfl rfl)
abbrev cX0_worth : ByteArray := prog_1_method_87_code
def yX0_worth : MethodName := ⟨RX0, "worth", "(I)I"⟩
def dkwX0_worth_3 : List UInt8 := [16, 247, 160, 0, 9, 17, 3, 232, 167, 0, 15, 42, 29, 182, 0, 252, 42, 21, 4, 182, 0, 252, 100, 172]
abbrev dktX0_worth_3 : List UInt8 := dkwX0_worth_3 ++ []
def dkwX0_worth_2 : List UInt8 := [126, 182, 1, 14, 4, 182, 1, 29, 54, 4, 21, 4, 16, 247, 160, 0, 8, 16, 247, 167, 0, 27, 29]
abbrev dktX0_worth_2 : List UInt8 := dkwX0_worth_2 ++ dktX0_worth_3
def dkwX0_worth_1 : List UInt8 := [42, 182, 0, 236, 61, 42, 42, 28, 182, 1, 14, 4, 182, 1, 29, 62, 42, 42, 28, 4, 27, 120, 2, 130]
abbrev dktX0_worth_1 : List UInt8 := dkwX0_worth_1 ++ dktX0_worth_2
def dkwX0_worth_0 : List UInt8 := [42, 27, 182, 0, 209, 154, 0, 5, 2, 172, 42, 27, 182, 0, 196, 154, 0, 5, 3, 172, 42, 182, 1, 11]
abbrev dktX0_worth_0 : List UInt8 := dkwX0_worth_0 ++ dktX0_worth_1
theorem dksX0_worth_0 : cX0_worth.data.toList.drop 0 = dktX0_worth_0 := by decide +kernel
theorem dksX0_worth_1 : cX0_worth.data.toList.drop 24 = dktX0_worth_1 := dk_seg dksX0_worth_0 24 rfl rfl
theorem dksX0_worth_2 : cX0_worth.data.toList.drop 48 = dktX0_worth_2 := dk_seg dksX0_worth_1 24 rfl rfl
theorem dksX0_worth_3 : cX0_worth.data.toList.drop 71 = dktX0_worth_3 := dk_seg dksX0_worth_2 23 rfl rfl
theorem dX0_worth_0 : decode cX0_worth 0 = .ok (.aload_n 0, 1) := dk_42 (dk_at dksX0_worth_0 0 rfl rfl)
theorem dX0_worth_1 : decode cX0_worth 1 = .ok (.iload_n 1, 1) := dk_27 (dk_at dksX0_worth_0 1 rfl rfl)
theorem dX0_worth_2 : decode cX0_worth 2 = .ok (.invokevirtual 209, 3) := dk_182 0 209 (dk_at dksX0_worth_0 2 rfl rfl)
theorem dX0_worth_5 : decode cX0_worth 5 = .ok (.ifCond .ne 5, 3) := dk_154 0 5 (dk_at dksX0_worth_0 5 rfl rfl)
theorem dX0_worth_8 : decode cX0_worth 8 = .ok (.iconst (-1), 1) := dk_2 (dk_at dksX0_worth_0 8 rfl rfl)
theorem dX0_worth_9 : decode cX0_worth 9 = .ok (.ireturn, 1) := dk_172 (dk_at dksX0_worth_0 9 rfl rfl)
theorem dX0_worth_10 : decode cX0_worth 10 = .ok (.aload_n 0, 1) := dk_42 (dk_at dksX0_worth_0 10 rfl rfl)
theorem dX0_worth_11 : decode cX0_worth 11 = .ok (.iload_n 1, 1) := dk_27 (dk_at dksX0_worth_0 11 rfl rfl)
theorem dX0_worth_12 : decode cX0_worth 12 = .ok (.invokevirtual 196, 3) := dk_182 0 196 (dk_at dksX0_worth_0 12 rfl rfl)
theorem dX0_worth_15 : decode cX0_worth 15 = .ok (.ifCond .ne 5, 3) := dk_154 0 5 (dk_at dksX0_worth_0 15 rfl rfl)
theorem dX0_worth_18 : decode cX0_worth 18 = .ok (.iconst 0, 1) := dk_3 (dk_at dksX0_worth_0 18 rfl rfl)
theorem dX0_worth_19 : decode cX0_worth 19 = .ok (.ireturn, 1) := dk_172 (dk_at dksX0_worth_0 19 rfl rfl)
theorem dX0_worth_20 : decode cX0_worth 20 = .ok (.aload_n 0, 1) := dk_42 (dk_at dksX0_worth_0 20 rfl rfl)
theorem dX0_worth_21 : decode cX0_worth 21 = .ok (.invokevirtual 267, 3) := dk_182 1 11 (dk_at dksX0_worth_0 21 rfl rfl)
theorem dX0_worth_24 : decode cX0_worth 24 = .ok (.aload_n 0, 1) := dk_42 (dk_at dksX0_worth_1 0 rfl rfl)
theorem dX0_worth_25 : decode cX0_worth 25 = .ok (.invokevirtual 236, 3) := dk_182 0 236 (dk_at dksX0_worth_1 1 rfl rfl)
theorem dX0_worth_28 : decode cX0_worth 28 = .ok (.istore_n 2, 1) := dk_61 (dk_at dksX0_worth_1 4 rfl rfl)
theorem dX0_worth_29 : decode cX0_worth 29 = .ok (.aload_n 0, 1) := dk_42 (dk_at dksX0_worth_1 5 rfl rfl)
theorem dX0_worth_30 : decode cX0_worth 30 = .ok (.aload_n 0, 1) := dk_42 (dk_at dksX0_worth_1 6 rfl rfl)
theorem dX0_worth_31 : decode cX0_worth 31 = .ok (.iload_n 2, 1) := dk_28 (dk_at dksX0_worth_1 7 rfl rfl)
theorem dX0_worth_32 : decode cX0_worth 32 = .ok (.invokevirtual 270, 3) := dk_182 1 14 (dk_at dksX0_worth_1 8 rfl rfl)
theorem dX0_worth_35 : decode cX0_worth 35 = .ok (.iconst 1, 1) := dk_4 (dk_at dksX0_worth_1 11 rfl rfl)
theorem dX0_worth_36 : decode cX0_worth 36 = .ok (.invokevirtual 285, 3) := dk_182 1 29 (dk_at dksX0_worth_1 12 rfl rfl)
theorem dX0_worth_39 : decode cX0_worth 39 = .ok (.istore_n 3, 1) := dk_62 (dk_at dksX0_worth_1 15 rfl rfl)
theorem dX0_worth_40 : decode cX0_worth 40 = .ok (.aload_n 0, 1) := dk_42 (dk_at dksX0_worth_1 16 rfl rfl)
theorem dX0_worth_41 : decode cX0_worth 41 = .ok (.aload_n 0, 1) := dk_42 (dk_at dksX0_worth_1 17 rfl rfl)
theorem dX0_worth_42 : decode cX0_worth 42 = .ok (.iload_n 2, 1) := dk_28 (dk_at dksX0_worth_1 18 rfl rfl)
theorem dX0_worth_43 : decode cX0_worth 43 = .ok (.iconst 1, 1) := dk_4 (dk_at dksX0_worth_1 19 rfl rfl)
theorem dX0_worth_44 : decode cX0_worth 44 = .ok (.iload_n 1, 1) := dk_27 (dk_at dksX0_worth_1 20 rfl rfl)
theorem dX0_worth_45 : decode cX0_worth 45 = .ok (.ishl, 1) := dk_120 (dk_at dksX0_worth_1 21 rfl rfl)
theorem dX0_worth_46 : decode cX0_worth 46 = .ok (.iconst (-1), 1) := dk_2 (dk_at dksX0_worth_1 22 rfl rfl)
theorem dX0_worth_47 : decode cX0_worth 47 = .ok (.ixor, 1) := dk_130 (dk_at dksX0_worth_1 23 rfl rfl)
theorem dX0_worth_48 : decode cX0_worth 48 = .ok (.iand, 1) := dk_126 (dk_at dksX0_worth_2 0 rfl rfl)
theorem dX0_worth_49 : decode cX0_worth 49 = .ok (.invokevirtual 270, 3) := dk_182 1 14 (dk_at dksX0_worth_2 1 rfl rfl)
theorem dX0_worth_52 : decode cX0_worth 52 = .ok (.iconst 1, 1) := dk_4 (dk_at dksX0_worth_2 4 rfl rfl)
theorem dX0_worth_53 : decode cX0_worth 53 = .ok (.invokevirtual 285, 3) := dk_182 1 29 (dk_at dksX0_worth_2 5 rfl rfl)
theorem dX0_worth_56 : decode cX0_worth 56 = .ok (.istore 4, 2) := dk_54 4 (dk_at dksX0_worth_2 8 rfl rfl)
theorem dX0_worth_58 : decode cX0_worth 58 = .ok (.iload 4, 2) := dk_21 4 (dk_at dksX0_worth_2 10 rfl rfl)
theorem dX0_worth_60 : decode cX0_worth 60 = .ok (.bipush (-9), 2) := dk_16 247 (dk_at dksX0_worth_2 12 rfl rfl)
theorem dX0_worth_62 : decode cX0_worth 62 = .ok (.if_icmp .ne 8, 3) := dk_160 0 8 (dk_at dksX0_worth_2 14 rfl rfl)
theorem dX0_worth_65 : decode cX0_worth 65 = .ok (.bipush (-9), 2) := dk_16 247 (dk_at dksX0_worth_2 17 rfl rfl)
theorem dX0_worth_67 : decode cX0_worth 67 = .ok (.goto 27, 3) := dk_167 0 27 (dk_at dksX0_worth_2 19 rfl rfl)
theorem dX0_worth_70 : decode cX0_worth 70 = .ok (.iload_n 3, 1) := dk_29 (dk_at dksX0_worth_2 22 rfl rfl)
theorem dX0_worth_71 : decode cX0_worth 71 = .ok (.bipush (-9), 2) := dk_16 247 (dk_at dksX0_worth_3 0 rfl rfl)
theorem dX0_worth_73 : decode cX0_worth 73 = .ok (.if_icmp .ne 9, 3) := dk_160 0 9 (dk_at dksX0_worth_3 2 rfl rfl)
theorem dX0_worth_76 : decode cX0_worth 76 = .ok (.sipush 1000, 3) := dk_17 3 232 (dk_at dksX0_worth_3 5 rfl rfl)
theorem dX0_worth_79 : decode cX0_worth 79 = .ok (.goto 15, 3) := dk_167 0 15 (dk_at dksX0_worth_3 8 rfl rfl)
theorem dX0_worth_82 : decode cX0_worth 82 = .ok (.aload_n 0, 1) := dk_42 (dk_at dksX0_worth_3 11 rfl rfl)
theorem dX0_worth_83 : decode cX0_worth 83 = .ok (.iload_n 3, 1) := dk_29 (dk_at dksX0_worth_3 12 rfl rfl)
theorem dX0_worth_84 : decode cX0_worth 84 = .ok (.invokevirtual 252, 3) := dk_182 0 252 (dk_at dksX0_worth_3 13 rfl rfl)
theorem dX0_worth_87 : decode cX0_worth 87 = .ok (.aload_n 0, 1) := dk_42 (dk_at dksX0_worth_3 16 rfl rfl)
theorem dX0_worth_88 : decode cX0_worth 88 = .ok (.iload 4, 2) := dk_21 4 (dk_at dksX0_worth_3 17 rfl rfl)
theorem dX0_worth_90 : decode cX0_worth 90 = .ok (.invokevirtual 252, 3) := dk_182 0 252 (dk_at dksX0_worth_3 19 rfl rfl)
theorem dX0_worth_93 : decode cX0_worth 93 = .ok (.isub, 1) := dk_100 (dk_at dksX0_worth_3 22 rfl rfl)
theorem dX0_worth_94 : decode cX0_worth 94 = .ok (.ireturn, 1) := dk_172 (dk_at dksX0_worth_3 23 rfl rfl)
abbrev cX0_falls : ByteArray := prog_1_method_88_code
def yX0_falls : MethodName := ⟨RX0, "falls", "(III)I"⟩
def dkwX0_falls_4 : List UInt8 := [182, 0, 80, 172]
abbrev dktX0_falls_4 : List UInt8 := dkwX0_falls_4 ++ []
def dkwX0_falls_3 : List UInt8 := [22, 8, 22, 6, 20, 1, 5, 131, 127, 184, 0, 203, 22, 6, 22, 8, 20, 1, 5, 131, 127, 184, 0, 203]
abbrev dktX0_falls_3 : List UInt8 := dkwX0_falls_3 ++ dktX0_falls_4
def dkwX0_falls_2 : List UInt8 := [180, 0, 44, 21, 4, 29, 79, 42, 182, 1, 18, 55, 8, 42, 180, 0, 44, 21, 4, 21, 5, 79, 42]
abbrev dktX0_falls_2 : List UInt8 := dkwX0_falls_2 ++ dktX0_falls_3
def dkwX0_falls_1 : List UInt8 := [27, 28, 184, 0, 230, 54, 4, 42, 180, 0, 44, 21, 4, 46, 54, 5, 42, 182, 1, 18, 55, 6, 42]
abbrev dktX0_falls_1 : List UInt8 := dkwX0_falls_1 ++ dktX0_falls_2
def dkwX0_falls_0 : List UInt8 := [27, 28, 29, 184, 0, 243, 154, 0, 5, 2, 172, 42, 27, 28, 29, 182, 0, 246, 154, 0, 6, 16, 252, 172]
abbrev dktX0_falls_0 : List UInt8 := dkwX0_falls_0 ++ dktX0_falls_1
theorem dksX0_falls_0 : cX0_falls.data.toList.drop 0 = dktX0_falls_0 := by decide +kernel
theorem dksX0_falls_1 : cX0_falls.data.toList.drop 24 = dktX0_falls_1 := dk_seg dksX0_falls_0 24 rfl rfl
theorem dksX0_falls_2 : cX0_falls.data.toList.drop 47 = dktX0_falls_2 := dk_seg dksX0_falls_1 23 rfl rfl
theorem dksX0_falls_3 : cX0_falls.data.toList.drop 70 = dktX0_falls_3 := dk_seg dksX0_falls_2 23 rfl rfl
theorem dksX0_falls_4 : cX0_falls.data.toList.drop 94 = dktX0_falls_4 := dk_seg dksX0_falls_3 24 rfl rfl
theorem dX0_falls_0 : decode cX0_falls 0 = .ok (.iload_n 1, 1) := dk_27 (dk_at dksX0_falls_0 0 rfl rfl)
theorem dX0_falls_1 : decode cX0_falls 1 = .ok (.iload_n 2, 1) := dk_28 (dk_at dksX0_falls_0 1 rfl rfl)
theorem dX0_falls_2 : decode cX0_falls 2 = .ok (.iload_n 3, 1) := dk_29 (dk_at dksX0_falls_0 2 rfl rfl)
theorem dX0_falls_3 : decode cX0_falls 3 = .ok (.invokestatic 243, 3) := dk_184 0 243 (dk_at dksX0_falls_0 3 rfl rfl)
theorem dX0_falls_6 : decode cX0_falls 6 = .ok (.ifCond .ne 5, 3) := dk_154 0 5 (dk_at dksX0_falls_0 6 rfl rfl)
theorem dX0_falls_9 : decode cX0_falls 9 = .ok (.iconst (-1), 1) := dk_2 (dk_at dksX0_falls_0 9 rfl rfl)
theorem dX0_falls_10 : decode cX0_falls 10 = .ok (.ireturn, 1) := dk_172 (dk_at dksX0_falls_0 10 rfl rfl)
theorem dX0_falls_11 : decode cX0_falls 11 = .ok (.aload_n 0, 1) := dk_42 (dk_at dksX0_falls_0 11 rfl rfl)
theorem dX0_falls_12 : decode cX0_falls 12 = .ok (.iload_n 1, 1) := dk_27 (dk_at dksX0_falls_0 12 rfl rfl)
theorem dX0_falls_13 : decode cX0_falls 13 = .ok (.iload_n 2, 1) := dk_28 (dk_at dksX0_falls_0 13 rfl rfl)
theorem dX0_falls_14 : decode cX0_falls 14 = .ok (.iload_n 3, 1) := dk_29 (dk_at dksX0_falls_0 14 rfl rfl)
theorem dX0_falls_15 : decode cX0_falls 15 = .ok (.invokevirtual 246, 3) := dk_182 0 246 (dk_at dksX0_falls_0 15 rfl rfl)
theorem dX0_falls_18 : decode cX0_falls 18 = .ok (.ifCond .ne 6, 3) := dk_154 0 6 (dk_at dksX0_falls_0 18 rfl rfl)
theorem dX0_falls_21 : decode cX0_falls 21 = .ok (.bipush (-4), 2) := dk_16 252 (dk_at dksX0_falls_0 21 rfl rfl)
theorem dX0_falls_23 : decode cX0_falls 23 = .ok (.ireturn, 1) := dk_172 (dk_at dksX0_falls_0 23 rfl rfl)
theorem dX0_falls_24 : decode cX0_falls 24 = .ok (.iload_n 1, 1) := dk_27 (dk_at dksX0_falls_1 0 rfl rfl)
theorem dX0_falls_25 : decode cX0_falls 25 = .ok (.iload_n 2, 1) := dk_28 (dk_at dksX0_falls_1 1 rfl rfl)
theorem dX0_falls_26 : decode cX0_falls 26 = .ok (.invokestatic 230, 3) := dk_184 0 230 (dk_at dksX0_falls_1 2 rfl rfl)
theorem dX0_falls_29 : decode cX0_falls 29 = .ok (.istore 4, 2) := dk_54 4 (dk_at dksX0_falls_1 5 rfl rfl)
theorem dX0_falls_31 : decode cX0_falls 31 = .ok (.aload_n 0, 1) := dk_42 (dk_at dksX0_falls_1 7 rfl rfl)
theorem dX0_falls_32 : decode cX0_falls 32 = .ok (.getfield 44, 3) := dk_180 0 44 (dk_at dksX0_falls_1 8 rfl rfl)
theorem dX0_falls_35 : decode cX0_falls 35 = .ok (.iload 4, 2) := dk_21 4 (dk_at dksX0_falls_1 11 rfl rfl)
theorem dX0_falls_37 : decode cX0_falls 37 = .ok (.iaload, 1) := dk_46 (dk_at dksX0_falls_1 13 rfl rfl)
theorem dX0_falls_38 : decode cX0_falls 38 = .ok (.istore 5, 2) := dk_54 5 (dk_at dksX0_falls_1 14 rfl rfl)
theorem dX0_falls_40 : decode cX0_falls 40 = .ok (.aload_n 0, 1) := dk_42 (dk_at dksX0_falls_1 16 rfl rfl)
theorem dX0_falls_41 : decode cX0_falls 41 = .ok (.invokevirtual 274, 3) := dk_182 1 18 (dk_at dksX0_falls_1 17 rfl rfl)
theorem dX0_falls_44 : decode cX0_falls 44 = .ok (.lstore 6, 2) := dk_55 6 (dk_at dksX0_falls_1 20 rfl rfl)
theorem dX0_falls_46 : decode cX0_falls 46 = .ok (.aload_n 0, 1) := dk_42 (dk_at dksX0_falls_1 22 rfl rfl)
theorem dX0_falls_47 : decode cX0_falls 47 = .ok (.getfield 44, 3) := dk_180 0 44 (dk_at dksX0_falls_2 0 rfl rfl)
theorem dX0_falls_50 : decode cX0_falls 50 = .ok (.iload 4, 2) := dk_21 4 (dk_at dksX0_falls_2 3 rfl rfl)
theorem dX0_falls_52 : decode cX0_falls 52 = .ok (.iload_n 3, 1) := dk_29 (dk_at dksX0_falls_2 5 rfl rfl)
theorem dX0_falls_53 : decode cX0_falls 53 = .ok (.iastore, 1) := dk_79 (dk_at dksX0_falls_2 6 rfl rfl)
theorem dX0_falls_54 : decode cX0_falls 54 = .ok (.aload_n 0, 1) := dk_42 (dk_at dksX0_falls_2 7 rfl rfl)
theorem dX0_falls_55 : decode cX0_falls 55 = .ok (.invokevirtual 274, 3) := dk_182 1 18 (dk_at dksX0_falls_2 8 rfl rfl)
theorem dX0_falls_58 : decode cX0_falls 58 = .ok (.lstore 8, 2) := dk_55 8 (dk_at dksX0_falls_2 11 rfl rfl)
theorem dX0_falls_60 : decode cX0_falls 60 = .ok (.aload_n 0, 1) := dk_42 (dk_at dksX0_falls_2 13 rfl rfl)
theorem dX0_falls_61 : decode cX0_falls 61 = .ok (.getfield 44, 3) := dk_180 0 44 (dk_at dksX0_falls_2 14 rfl rfl)
theorem dX0_falls_64 : decode cX0_falls 64 = .ok (.iload 4, 2) := dk_21 4 (dk_at dksX0_falls_2 17 rfl rfl)
theorem dX0_falls_66 : decode cX0_falls 66 = .ok (.iload 5, 2) := dk_21 5 (dk_at dksX0_falls_2 19 rfl rfl)
theorem dX0_falls_68 : decode cX0_falls 68 = .ok (.iastore, 1) := dk_79 (dk_at dksX0_falls_2 21 rfl rfl)
theorem dX0_falls_69 : decode cX0_falls 69 = .ok (.aload_n 0, 1) := dk_42 (dk_at dksX0_falls_2 22 rfl rfl)
theorem dX0_falls_70 : decode cX0_falls 70 = .ok (.lload 8, 2) := dk_22 8 (dk_at dksX0_falls_3 0 rfl rfl)
theorem dX0_falls_72 : decode cX0_falls 72 = .ok (.lload 6, 2) := dk_22 6 (dk_at dksX0_falls_3 2 rfl rfl)
theorem dX0_falls_74 : decode cX0_falls 74 = .ok (.ldc2_w 261, 3) := dk_20 1 5 (dk_at dksX0_falls_3 4 rfl rfl)
theorem dX0_falls_77 : decode cX0_falls 77 = .ok (.lxor, 1) := dk_131 (dk_at dksX0_falls_3 7 rfl rfl)
theorem dX0_falls_78 : decode cX0_falls 78 = .ok (.land, 1) := dk_127 (dk_at dksX0_falls_3 8 rfl rfl)
theorem dX0_falls_79 : decode cX0_falls 79 = .ok (.invokestatic 203, 3) := dk_184 0 203 (dk_at dksX0_falls_3 9 rfl rfl)
theorem dX0_falls_82 : decode cX0_falls 82 = .ok (.lload 6, 2) := dk_22 6 (dk_at dksX0_falls_3 12 rfl rfl)
theorem dX0_falls_84 : decode cX0_falls 84 = .ok (.lload 8, 2) := dk_22 8 (dk_at dksX0_falls_3 14 rfl rfl)
theorem dX0_falls_86 : decode cX0_falls 86 = .ok (.ldc2_w 261, 3) := dk_20 1 5 (dk_at dksX0_falls_3 16 rfl rfl)
theorem dX0_falls_89 : decode cX0_falls 89 = .ok (.lxor, 1) := dk_131 (dk_at dksX0_falls_3 19 rfl rfl)
theorem dX0_falls_90 : decode cX0_falls 90 = .ok (.land, 1) := dk_127 (dk_at dksX0_falls_3 20 rfl rfl)
theorem dX0_falls_91 : decode cX0_falls 91 = .ok (.invokestatic 203, 3) := dk_184 0 203 (dk_at dksX0_falls_3 21 rfl rfl)
theorem dX0_falls_94 : decode cX0_falls 94 = .ok (.invokevirtual 80, 3) := dk_182 0 80 (dk_at dksX0_falls_4 0 rfl rfl)
theorem dX0_falls_97 : decode cX0_falls 97 = .ok (.ireturn, 1) := dk_172 (dk_at dksX0_falls_4 3 rfl rfl)
abbrev cX0_kinds : ByteArray := prog_1_method_89_code
def yX0_kinds : MethodName := ⟨RX0, "kinds", "(II)I"⟩
def dkwX0_kinds_5 : List UInt8 := [167, 255, 212, 21, 6, 172]
abbrev dktX0_kinds_5 : List UInt8 := dkwX0_kinds_5 ++ []
def dkwX0_kinds_4 : List UInt8 := [182, 0, 199, 184, 0, 203, 28, 160, 0, 10, 4, 21, 7, 120, 167, 0, 4, 3, 128, 54, 6, 132, 7, 1]
abbrev dktX0_kinds_4 : List UInt8 := dkwX0_kinds_4 ++ dktX0_kinds_5
def dkwX0_kinds_3 : List UInt8 := [54, 7, 21, 7, 16, 6, 162, 0, 43, 21, 6, 42, 42, 21, 7, 21, 4, 21, 5, 182, 0, 172]
abbrev dktX0_kinds_3 : List UInt8 := dkwX0_kinds_3 ++ dktX0_kinds_4
def dkwX0_kinds_2 : List UInt8 := [160, 0, 12, 21, 4, 4, 96, 7, 112, 167, 0, 9, 45, 185, 0, 193, 1, 0, 54, 5, 3, 54, 6, 3]
abbrev dktX0_kinds_2 : List UInt8 := dkwX0_kinds_2 ++ dktX0_kinds_3
def dkwX0_kinds_1 : List UInt8 := [27, 50, 78, 42, 180, 0, 40, 27, 50, 180, 0, 190, 54, 4, 45, 185, 0, 193, 1, 0, 16, 247]
abbrev dktX0_kinds_1 : List UInt8 := dkwX0_kinds_1 ++ dktX0_kinds_2
def dkwX0_kinds_0 : List UInt8 := [42, 27, 182, 0, 209, 153, 0, 13, 28, 3, 16, 64, 184, 0, 66, 154, 0, 5, 2, 172, 42, 180, 0, 40]
abbrev dktX0_kinds_0 : List UInt8 := dkwX0_kinds_0 ++ dktX0_kinds_1
theorem dksX0_kinds_0 : cX0_kinds.data.toList.drop 0 = dktX0_kinds_0 := by decide +kernel
theorem dksX0_kinds_1 : cX0_kinds.data.toList.drop 24 = dktX0_kinds_1 := dk_seg dksX0_kinds_0 24 rfl rfl
theorem dksX0_kinds_2 : cX0_kinds.data.toList.drop 46 = dktX0_kinds_2 := dk_seg dksX0_kinds_1 22 rfl rfl
theorem dksX0_kinds_3 : cX0_kinds.data.toList.drop 70 = dktX0_kinds_3 := dk_seg dksX0_kinds_2 24 rfl rfl
theorem dksX0_kinds_4 : cX0_kinds.data.toList.drop 92 = dktX0_kinds_4 := dk_seg dksX0_kinds_3 22 rfl rfl
theorem dksX0_kinds_5 : cX0_kinds.data.toList.drop 116 = dktX0_kinds_5 := dk_seg dksX0_kinds_4 24 rfl rfl
theorem dX0_kinds_0 : decode cX0_kinds 0 = .ok (.aload_n 0, 1) := dk_42 (dk_at dksX0_kinds_0 0 rfl rfl)
theorem dX0_kinds_1 : decode cX0_kinds 1 = .ok (.iload_n 1, 1) := dk_27 (dk_at dksX0_kinds_0 1 rfl rfl)
theorem dX0_kinds_2 : decode cX0_kinds 2 = .ok (.invokevirtual 209, 3) := dk_182 0 209 (dk_at dksX0_kinds_0 2 rfl rfl)
theorem dX0_kinds_5 : decode cX0_kinds 5 = .ok (.ifCond .eq 13, 3) := dk_153 0 13 (dk_at dksX0_kinds_0 5 rfl rfl)
theorem dX0_kinds_8 : decode cX0_kinds 8 = .ok (.iload_n 2, 1) := dk_28 (dk_at dksX0_kinds_0 8 rfl rfl)
theorem dX0_kinds_9 : decode cX0_kinds 9 = .ok (.iconst 0, 1) := dk_3 (dk_at dksX0_kinds_0 9 rfl rfl)
theorem dX0_kinds_10 : decode cX0_kinds 10 = .ok (.bipush 64, 2) := dk_16 64 (dk_at dksX0_kinds_0 10 rfl rfl)
theorem dX0_kinds_12 : decode cX0_kinds 12 = .ok (.invokestatic 66, 3) := dk_184 0 66 (dk_at dksX0_kinds_0 12 rfl rfl)
theorem dX0_kinds_15 : decode cX0_kinds 15 = .ok (.ifCond .ne 5, 3) := dk_154 0 5 (dk_at dksX0_kinds_0 15 rfl rfl)
theorem dX0_kinds_18 : decode cX0_kinds 18 = .ok (.iconst (-1), 1) := dk_2 (dk_at dksX0_kinds_0 18 rfl rfl)
theorem dX0_kinds_19 : decode cX0_kinds 19 = .ok (.ireturn, 1) := dk_172 (dk_at dksX0_kinds_0 19 rfl rfl)
theorem dX0_kinds_20 : decode cX0_kinds 20 = .ok (.aload_n 0, 1) := dk_42 (dk_at dksX0_kinds_0 20 rfl rfl)
theorem dX0_kinds_21 : decode cX0_kinds 21 = .ok (.getfield 40, 3) := dk_180 0 40 (dk_at dksX0_kinds_0 21 rfl rfl)
theorem dX0_kinds_24 : decode cX0_kinds 24 = .ok (.iload_n 1, 1) := dk_27 (dk_at dksX0_kinds_1 0 rfl rfl)
theorem dX0_kinds_25 : decode cX0_kinds 25 = .ok (.aaload, 1) := dk_50 (dk_at dksX0_kinds_1 1 rfl rfl)
theorem dX0_kinds_26 : decode cX0_kinds 26 = .ok (.astore_n 3, 1) := dk_78 (dk_at dksX0_kinds_1 2 rfl rfl)
theorem dX0_kinds_27 : decode cX0_kinds 27 = .ok (.aload_n 0, 1) := dk_42 (dk_at dksX0_kinds_1 3 rfl rfl)
theorem dX0_kinds_28 : decode cX0_kinds 28 = .ok (.getfield 40, 3) := dk_180 0 40 (dk_at dksX0_kinds_1 4 rfl rfl)
theorem dX0_kinds_31 : decode cX0_kinds 31 = .ok (.iload_n 1, 1) := dk_27 (dk_at dksX0_kinds_1 7 rfl rfl)
theorem dX0_kinds_32 : decode cX0_kinds 32 = .ok (.aaload, 1) := dk_50 (dk_at dksX0_kinds_1 8 rfl rfl)
theorem dX0_kinds_33 : decode cX0_kinds 33 = .ok (.getfield 190, 3) := dk_180 0 190 (dk_at dksX0_kinds_1 9 rfl rfl)
theorem dX0_kinds_36 : decode cX0_kinds 36 = .ok (.istore 4, 2) := dk_54 4 (dk_at dksX0_kinds_1 12 rfl rfl)
theorem dX0_kinds_38 : decode cX0_kinds 38 = .ok (.aload_n 3, 1) := dk_45 (dk_at dksX0_kinds_1 14 rfl rfl)
theorem dX0_kinds_39 : decode cX0_kinds 39 = .ok (.invokeinterface 193 1, 5) := by decide +kernel
theorem dX0_kinds_44 : decode cX0_kinds 44 = .ok (.bipush (-9), 2) := dk_16 247 (dk_at dksX0_kinds_1 20 rfl rfl)
theorem dX0_kinds_46 : decode cX0_kinds 46 = .ok (.if_icmp .ne 12, 3) := dk_160 0 12 (dk_at dksX0_kinds_2 0 rfl rfl)
theorem dX0_kinds_49 : decode cX0_kinds 49 = .ok (.iload 4, 2) := dk_21 4 (dk_at dksX0_kinds_2 3 rfl rfl)
theorem dX0_kinds_51 : decode cX0_kinds 51 = .ok (.iconst 1, 1) := dk_4 (dk_at dksX0_kinds_2 5 rfl rfl)
theorem dX0_kinds_52 : decode cX0_kinds 52 = .ok (.iadd, 1) := dk_96 (dk_at dksX0_kinds_2 6 rfl rfl)
theorem dX0_kinds_53 : decode cX0_kinds 53 = .ok (.iconst 4, 1) := dk_7 (dk_at dksX0_kinds_2 7 rfl rfl)
theorem dX0_kinds_54 : decode cX0_kinds 54 = .ok (.irem, 1) := dk_112 (dk_at dksX0_kinds_2 8 rfl rfl)
theorem dX0_kinds_55 : decode cX0_kinds 55 = .ok (.goto 9, 3) := dk_167 0 9 (dk_at dksX0_kinds_2 9 rfl rfl)
theorem dX0_kinds_58 : decode cX0_kinds 58 = .ok (.aload_n 3, 1) := dk_45 (dk_at dksX0_kinds_2 12 rfl rfl)
theorem dX0_kinds_59 : decode cX0_kinds 59 = .ok (.invokeinterface 193 1, 5) := by decide +kernel
theorem dX0_kinds_64 : decode cX0_kinds 64 = .ok (.istore 5, 2) := dk_54 5 (dk_at dksX0_kinds_2 18 rfl rfl)
theorem dX0_kinds_66 : decode cX0_kinds 66 = .ok (.iconst 0, 1) := dk_3 (dk_at dksX0_kinds_2 20 rfl rfl)
theorem dX0_kinds_67 : decode cX0_kinds 67 = .ok (.istore 6, 2) := dk_54 6 (dk_at dksX0_kinds_2 21 rfl rfl)
theorem dX0_kinds_69 : decode cX0_kinds 69 = .ok (.iconst 0, 1) := dk_3 (dk_at dksX0_kinds_2 23 rfl rfl)
theorem dX0_kinds_70 : decode cX0_kinds 70 = .ok (.istore 7, 2) := dk_54 7 (dk_at dksX0_kinds_3 0 rfl rfl)
theorem dX0_kinds_72 : decode cX0_kinds 72 = .ok (.iload 7, 2) := dk_21 7 (dk_at dksX0_kinds_3 2 rfl rfl)
theorem dX0_kinds_74 : decode cX0_kinds 74 = .ok (.bipush 6, 2) := dk_16 6 (dk_at dksX0_kinds_3 4 rfl rfl)
theorem dX0_kinds_76 : decode cX0_kinds 76 = .ok (.if_icmp .ge 43, 3) := dk_162 0 43 (dk_at dksX0_kinds_3 6 rfl rfl)
theorem dX0_kinds_79 : decode cX0_kinds 79 = .ok (.iload 6, 2) := dk_21 6 (dk_at dksX0_kinds_3 9 rfl rfl)
theorem dX0_kinds_81 : decode cX0_kinds 81 = .ok (.aload_n 0, 1) := dk_42 (dk_at dksX0_kinds_3 11 rfl rfl)
theorem dX0_kinds_82 : decode cX0_kinds 82 = .ok (.aload_n 0, 1) := dk_42 (dk_at dksX0_kinds_3 12 rfl rfl)
theorem dX0_kinds_83 : decode cX0_kinds 83 = .ok (.iload 7, 2) := dk_21 7 (dk_at dksX0_kinds_3 13 rfl rfl)
theorem dX0_kinds_85 : decode cX0_kinds 85 = .ok (.iload 4, 2) := dk_21 4 (dk_at dksX0_kinds_3 15 rfl rfl)
theorem dX0_kinds_87 : decode cX0_kinds 87 = .ok (.iload 5, 2) := dk_21 5 (dk_at dksX0_kinds_3 17 rfl rfl)
theorem dX0_kinds_89 : decode cX0_kinds 89 = .ok (.invokevirtual 172, 3) := dk_182 0 172 (dk_at dksX0_kinds_3 19 rfl rfl)
theorem dX0_kinds_92 : decode cX0_kinds 92 = .ok (.invokevirtual 199, 3) := dk_182 0 199 (dk_at dksX0_kinds_4 0 rfl rfl)
theorem dX0_kinds_95 : decode cX0_kinds 95 = .ok (.invokestatic 203, 3) := dk_184 0 203 (dk_at dksX0_kinds_4 3 rfl rfl)
theorem dX0_kinds_98 : decode cX0_kinds 98 = .ok (.iload_n 2, 1) := dk_28 (dk_at dksX0_kinds_4 6 rfl rfl)
theorem dX0_kinds_99 : decode cX0_kinds 99 = .ok (.if_icmp .ne 10, 3) := dk_160 0 10 (dk_at dksX0_kinds_4 7 rfl rfl)
theorem dX0_kinds_102 : decode cX0_kinds 102 = .ok (.iconst 1, 1) := dk_4 (dk_at dksX0_kinds_4 10 rfl rfl)
theorem dX0_kinds_103 : decode cX0_kinds 103 = .ok (.iload 7, 2) := dk_21 7 (dk_at dksX0_kinds_4 11 rfl rfl)
theorem dX0_kinds_105 : decode cX0_kinds 105 = .ok (.ishl, 1) := dk_120 (dk_at dksX0_kinds_4 13 rfl rfl)
theorem dX0_kinds_106 : decode cX0_kinds 106 = .ok (.goto 4, 3) := dk_167 0 4 (dk_at dksX0_kinds_4 14 rfl rfl)
theorem dX0_kinds_109 : decode cX0_kinds 109 = .ok (.iconst 0, 1) := dk_3 (dk_at dksX0_kinds_4 17 rfl rfl)
theorem dX0_kinds_110 : decode cX0_kinds 110 = .ok (.ior, 1) := dk_128 (dk_at dksX0_kinds_4 18 rfl rfl)
theorem dX0_kinds_111 : decode cX0_kinds 111 = .ok (.istore 6, 2) := dk_54 6 (dk_at dksX0_kinds_4 19 rfl rfl)
theorem dX0_kinds_113 : decode cX0_kinds 113 = .ok (.iinc 7 1, 3) := dk_132 7 1 (dk_at dksX0_kinds_4 21 rfl rfl)
theorem dX0_kinds_116 : decode cX0_kinds 116 = .ok (.goto (-44), 3) := dk_167 255 212 (dk_at dksX0_kinds_5 0 rfl rfl)
theorem dX0_kinds_119 : decode cX0_kinds 119 = .ok (.iload 6, 2) := dk_21 6 (dk_at dksX0_kinds_5 3 rfl rfl)
theorem dX0_kinds_121 : decode cX0_kinds 121 = .ok (.ireturn, 1) := dk_172 (dk_at dksX0_kinds_5 5 rfl rfl)
abbrev cX0_judged : ByteArray := prog_1_method_90_code
def yX0_judged : MethodName := ⟨RX0, "judged", "(II)I"⟩
def dkwX0_judged_11 : List UInt8 := [79, 42, 21, 9, 21, 8, 182, 0, 80, 172]
abbrev dktX0_judged_11 : List UInt8 := dkwX0_judged_11 ++ []
def dkwX0_judged_10 : List UInt8 := [167, 255, 175, 42, 180, 0, 44, 4, 21, 5, 96, 21, 6, 79, 42, 180, 0, 44, 8, 21, 5, 96, 21, 7]
abbrev dktX0_judged_10 : List UInt8 := dkwX0_judged_10 ++ dktX0_judged_11
def dkwX0_judged_9 : List UInt8 := [104, 21, 11, 96, 167, 0, 5, 21, 9, 54, 9, 132, 8, 1, 132, 11, 1, 167, 255, 193, 132, 10, 1]
abbrev dktX0_judged_9 : List UInt8 := dkwX0_judged_9 ++ dktX0_judged_10
def dkwX0_judged_8 : List UInt8 := [21, 5, 96, 21, 11, 79, 42, 27, 45, 182, 1, 60, 153, 0, 26, 21, 8, 154, 0, 14, 16, 10, 21, 10]
abbrev dktX0_judged_8 : List UInt8 := dkwX0_judged_8 ++ dktX0_judged_9
def dkwX0_judged_7 : List UInt8 := [54, 11, 21, 11, 8, 163, 0, 63, 42, 180, 0, 44, 4, 21, 5, 96, 21, 10, 79, 42, 180, 0, 44, 8]
abbrev dktX0_judged_7 : List UInt8 := dkwX0_judged_7 ++ dktX0_judged_8
def dkwX0_judged_6 : List UInt8 := [96, 46, 54, 7, 3, 54, 8, 16, 247, 54, 9, 3, 54, 10, 21, 10, 8, 162, 0, 81, 21, 10, 4, 96]
abbrev dktX0_judged_6 : List UInt8 := dkwX0_judged_6 ++ dktX0_judged_7
def dkwX0_judged_5 : List UInt8 := [50, 180, 0, 190, 54, 5, 42, 180, 0, 44, 4, 21, 5, 96, 46, 54, 6, 42, 180, 0, 44, 8, 21, 5]
abbrev dktX0_judged_5 : List UInt8 := dkwX0_judged_5 ++ dktX0_judged_6
def dkwX0_judged_4 : List UInt8 := [54, 4, 132, 5, 2, 167, 255, 211, 21, 4, 154, 0, 9, 42, 6, 182, 0, 76, 172, 42, 180, 0, 40, 27]
abbrev dktX0_judged_4 : List UInt8 := dkwX0_judged_4 ++ dktX0_judged_5
def dkwX0_judged_3 : List UInt8 := [153, 0, 21, 45, 21, 5, 4, 96, 46, 3, 4, 184, 0, 66, 153, 0, 7, 4, 167, 0, 4, 3, 126]
abbrev dktX0_judged_3 : List UInt8 := dkwX0_judged_3 ++ dktX0_judged_4
def dkwX0_judged_2 : List UInt8 := [54, 4, 3, 54, 5, 21, 5, 45, 190, 162, 0, 44, 21, 4, 42, 45, 21, 5, 46, 182, 0, 249]
abbrev dktX0_judged_2 : List UInt8 := dkwX0_judged_2 ++ dktX0_judged_3
def dkwX0_judged_1 : List UInt8 := [45, 199, 0, 9, 42, 4, 182, 0, 76, 172, 45, 190, 5, 112, 153, 0, 9, 42, 8, 182, 0, 76, 172, 4]
abbrev dktX0_judged_1 : List UInt8 := dkwX0_judged_1 ++ dktX0_judged_2
def dkwX0_judged_0 : List UInt8 := [42, 27, 182, 0, 209, 153, 0, 10, 28, 184, 0, 70, 154, 0, 5, 2, 172, 42, 180, 0, 25, 28, 50, 78]
abbrev dktX0_judged_0 : List UInt8 := dkwX0_judged_0 ++ dktX0_judged_1
theorem dksX0_judged_0 : cX0_judged.data.toList.drop 0 = dktX0_judged_0 := by decide +kernel
theorem dksX0_judged_1 : cX0_judged.data.toList.drop 24 = dktX0_judged_1 := dk_seg dksX0_judged_0 24 rfl rfl
theorem dksX0_judged_2 : cX0_judged.data.toList.drop 48 = dktX0_judged_2 := dk_seg dksX0_judged_1 24 rfl rfl
theorem dksX0_judged_3 : cX0_judged.data.toList.drop 70 = dktX0_judged_3 := dk_seg dksX0_judged_2 22 rfl rfl
theorem dksX0_judged_4 : cX0_judged.data.toList.drop 93 = dktX0_judged_4 := dk_seg dksX0_judged_3 23 rfl rfl
theorem dksX0_judged_5 : cX0_judged.data.toList.drop 117 = dktX0_judged_5 := dk_seg dksX0_judged_4 24 rfl rfl
theorem dksX0_judged_6 : cX0_judged.data.toList.drop 141 = dktX0_judged_6 := dk_seg dksX0_judged_5 24 rfl rfl
theorem dksX0_judged_7 : cX0_judged.data.toList.drop 165 = dktX0_judged_7 := dk_seg dksX0_judged_6 24 rfl rfl
theorem dksX0_judged_8 : cX0_judged.data.toList.drop 189 = dktX0_judged_8 := dk_seg dksX0_judged_7 24 rfl rfl
theorem dksX0_judged_9 : cX0_judged.data.toList.drop 213 = dktX0_judged_9 := dk_seg dksX0_judged_8 24 rfl rfl
theorem dksX0_judged_10 : cX0_judged.data.toList.drop 236 = dktX0_judged_10 := dk_seg dksX0_judged_9 23 rfl rfl
theorem dksX0_judged_11 : cX0_judged.data.toList.drop 260 = dktX0_judged_11 := dk_seg dksX0_judged_10 24 rfl rfl
theorem dX0_judged_0 : decode cX0_judged 0 = .ok (.aload_n 0, 1) := dk_42 (dk_at dksX0_judged_0 0 rfl rfl)
theorem dX0_judged_1 : decode cX0_judged 1 = .ok (.iload_n 1, 1) := dk_27 (dk_at dksX0_judged_0 1 rfl rfl)
theorem dX0_judged_2 : decode cX0_judged 2 = .ok (.invokevirtual 209, 3) := dk_182 0 209 (dk_at dksX0_judged_0 2 rfl rfl)
theorem dX0_judged_5 : decode cX0_judged 5 = .ok (.ifCond .eq 10, 3) := dk_153 0 10 (dk_at dksX0_judged_0 5 rfl rfl)
theorem dX0_judged_8 : decode cX0_judged 8 = .ok (.iload_n 2, 1) := dk_28 (dk_at dksX0_judged_0 8 rfl rfl)
theorem dX0_judged_9 : decode cX0_judged 9 = .ok (.invokestatic 70, 3) := dk_184 0 70 (dk_at dksX0_judged_0 9 rfl rfl)
theorem dX0_judged_12 : decode cX0_judged 12 = .ok (.ifCond .ne 5, 3) := dk_154 0 5 (dk_at dksX0_judged_0 12 rfl rfl)
theorem dX0_judged_15 : decode cX0_judged 15 = .ok (.iconst (-1), 1) := dk_2 (dk_at dksX0_judged_0 15 rfl rfl)
theorem dX0_judged_16 : decode cX0_judged 16 = .ok (.ireturn, 1) := dk_172 (dk_at dksX0_judged_0 16 rfl rfl)
theorem dX0_judged_17 : decode cX0_judged 17 = .ok (.aload_n 0, 1) := dk_42 (dk_at dksX0_judged_0 17 rfl rfl)
theorem dX0_judged_18 : decode cX0_judged 18 = .ok (.getfield 25, 3) := dk_180 0 25 (dk_at dksX0_judged_0 18 rfl rfl)
theorem dX0_judged_21 : decode cX0_judged 21 = .ok (.iload_n 2, 1) := dk_28 (dk_at dksX0_judged_0 21 rfl rfl)
theorem dX0_judged_22 : decode cX0_judged 22 = .ok (.aaload, 1) := dk_50 (dk_at dksX0_judged_0 22 rfl rfl)
theorem dX0_judged_23 : decode cX0_judged 23 = .ok (.astore_n 3, 1) := dk_78 (dk_at dksX0_judged_0 23 rfl rfl)
theorem dX0_judged_24 : decode cX0_judged 24 = .ok (.aload_n 3, 1) := dk_45 (dk_at dksX0_judged_1 0 rfl rfl)
theorem dX0_judged_25 : decode cX0_judged 25 = .ok (.ifnonnull 9, 3) := dk_199 0 9 (dk_at dksX0_judged_1 1 rfl rfl)
theorem dX0_judged_28 : decode cX0_judged 28 = .ok (.aload_n 0, 1) := dk_42 (dk_at dksX0_judged_1 4 rfl rfl)
theorem dX0_judged_29 : decode cX0_judged 29 = .ok (.iconst 1, 1) := dk_4 (dk_at dksX0_judged_1 5 rfl rfl)
theorem dX0_judged_30 : decode cX0_judged 30 = .ok (.invokevirtual 76, 3) := dk_182 0 76 (dk_at dksX0_judged_1 6 rfl rfl)
theorem dX0_judged_33 : decode cX0_judged 33 = .ok (.ireturn, 1) := dk_172 (dk_at dksX0_judged_1 9 rfl rfl)
theorem dX0_judged_34 : decode cX0_judged 34 = .ok (.aload_n 3, 1) := dk_45 (dk_at dksX0_judged_1 10 rfl rfl)
theorem dX0_judged_35 : decode cX0_judged 35 = .ok (.arraylength, 1) := dk_190 (dk_at dksX0_judged_1 11 rfl rfl)
theorem dX0_judged_36 : decode cX0_judged 36 = .ok (.iconst 2, 1) := dk_5 (dk_at dksX0_judged_1 12 rfl rfl)
theorem dX0_judged_37 : decode cX0_judged 37 = .ok (.irem, 1) := dk_112 (dk_at dksX0_judged_1 13 rfl rfl)
theorem dX0_judged_38 : decode cX0_judged 38 = .ok (.ifCond .eq 9, 3) := dk_153 0 9 (dk_at dksX0_judged_1 14 rfl rfl)
theorem dX0_judged_41 : decode cX0_judged 41 = .ok (.aload_n 0, 1) := dk_42 (dk_at dksX0_judged_1 17 rfl rfl)
theorem dX0_judged_42 : decode cX0_judged 42 = .ok (.iconst 5, 1) := dk_8 (dk_at dksX0_judged_1 18 rfl rfl)
theorem dX0_judged_43 : decode cX0_judged 43 = .ok (.invokevirtual 76, 3) := dk_182 0 76 (dk_at dksX0_judged_1 19 rfl rfl)
theorem dX0_judged_46 : decode cX0_judged 46 = .ok (.ireturn, 1) := dk_172 (dk_at dksX0_judged_1 22 rfl rfl)
theorem dX0_judged_47 : decode cX0_judged 47 = .ok (.iconst 1, 1) := dk_4 (dk_at dksX0_judged_1 23 rfl rfl)
theorem dX0_judged_48 : decode cX0_judged 48 = .ok (.istore 4, 2) := dk_54 4 (dk_at dksX0_judged_2 0 rfl rfl)
theorem dX0_judged_50 : decode cX0_judged 50 = .ok (.iconst 0, 1) := dk_3 (dk_at dksX0_judged_2 2 rfl rfl)
theorem dX0_judged_51 : decode cX0_judged 51 = .ok (.istore 5, 2) := dk_54 5 (dk_at dksX0_judged_2 3 rfl rfl)
theorem dX0_judged_53 : decode cX0_judged 53 = .ok (.iload 5, 2) := dk_21 5 (dk_at dksX0_judged_2 5 rfl rfl)
theorem dX0_judged_55 : decode cX0_judged 55 = .ok (.aload_n 3, 1) := dk_45 (dk_at dksX0_judged_2 7 rfl rfl)
theorem dX0_judged_56 : decode cX0_judged 56 = .ok (.arraylength, 1) := dk_190 (dk_at dksX0_judged_2 8 rfl rfl)
theorem dX0_judged_57 : decode cX0_judged 57 = .ok (.if_icmp .ge 44, 3) := dk_162 0 44 (dk_at dksX0_judged_2 9 rfl rfl)
theorem dX0_judged_60 : decode cX0_judged 60 = .ok (.iload 4, 2) := dk_21 4 (dk_at dksX0_judged_2 12 rfl rfl)
theorem dX0_judged_62 : decode cX0_judged 62 = .ok (.aload_n 0, 1) := dk_42 (dk_at dksX0_judged_2 14 rfl rfl)
theorem dX0_judged_63 : decode cX0_judged 63 = .ok (.aload_n 3, 1) := dk_45 (dk_at dksX0_judged_2 15 rfl rfl)
theorem dX0_judged_64 : decode cX0_judged 64 = .ok (.iload 5, 2) := dk_21 5 (dk_at dksX0_judged_2 16 rfl rfl)
theorem dX0_judged_66 : decode cX0_judged 66 = .ok (.iaload, 1) := dk_46 (dk_at dksX0_judged_2 18 rfl rfl)
theorem dX0_judged_67 : decode cX0_judged 67 = .ok (.invokevirtual 249, 3) := dk_182 0 249 (dk_at dksX0_judged_2 19 rfl rfl)
theorem dX0_judged_70 : decode cX0_judged 70 = .ok (.ifCond .eq 21, 3) := dk_153 0 21 (dk_at dksX0_judged_3 0 rfl rfl)
theorem dX0_judged_73 : decode cX0_judged 73 = .ok (.aload_n 3, 1) := dk_45 (dk_at dksX0_judged_3 3 rfl rfl)
theorem dX0_judged_74 : decode cX0_judged 74 = .ok (.iload 5, 2) := dk_21 5 (dk_at dksX0_judged_3 4 rfl rfl)
theorem dX0_judged_76 : decode cX0_judged 76 = .ok (.iconst 1, 1) := dk_4 (dk_at dksX0_judged_3 6 rfl rfl)
theorem dX0_judged_77 : decode cX0_judged 77 = .ok (.iadd, 1) := dk_96 (dk_at dksX0_judged_3 7 rfl rfl)
theorem dX0_judged_78 : decode cX0_judged 78 = .ok (.iaload, 1) := dk_46 (dk_at dksX0_judged_3 8 rfl rfl)
theorem dX0_judged_79 : decode cX0_judged 79 = .ok (.iconst 0, 1) := dk_3 (dk_at dksX0_judged_3 9 rfl rfl)
theorem dX0_judged_80 : decode cX0_judged 80 = .ok (.iconst 1, 1) := dk_4 (dk_at dksX0_judged_3 10 rfl rfl)
theorem dX0_judged_81 : decode cX0_judged 81 = .ok (.invokestatic 66, 3) := dk_184 0 66 (dk_at dksX0_judged_3 11 rfl rfl)
theorem dX0_judged_84 : decode cX0_judged 84 = .ok (.ifCond .eq 7, 3) := dk_153 0 7 (dk_at dksX0_judged_3 14 rfl rfl)
theorem dX0_judged_87 : decode cX0_judged 87 = .ok (.iconst 1, 1) := dk_4 (dk_at dksX0_judged_3 17 rfl rfl)
theorem dX0_judged_88 : decode cX0_judged 88 = .ok (.goto 4, 3) := dk_167 0 4 (dk_at dksX0_judged_3 18 rfl rfl)
theorem dX0_judged_91 : decode cX0_judged 91 = .ok (.iconst 0, 1) := dk_3 (dk_at dksX0_judged_3 21 rfl rfl)
theorem dX0_judged_92 : decode cX0_judged 92 = .ok (.iand, 1) := dk_126 (dk_at dksX0_judged_3 22 rfl rfl)
theorem dX0_judged_93 : decode cX0_judged 93 = .ok (.istore 4, 2) := dk_54 4 (dk_at dksX0_judged_4 0 rfl rfl)
theorem dX0_judged_95 : decode cX0_judged 95 = .ok (.iinc 5 2, 3) := dk_132 5 2 (dk_at dksX0_judged_4 2 rfl rfl)
theorem dX0_judged_98 : decode cX0_judged 98 = .ok (.goto (-45), 3) := dk_167 255 211 (dk_at dksX0_judged_4 5 rfl rfl)
theorem dX0_judged_101 : decode cX0_judged 101 = .ok (.iload 4, 2) := dk_21 4 (dk_at dksX0_judged_4 8 rfl rfl)
theorem dX0_judged_103 : decode cX0_judged 103 = .ok (.ifCond .ne 9, 3) := dk_154 0 9 (dk_at dksX0_judged_4 10 rfl rfl)
theorem dX0_judged_106 : decode cX0_judged 106 = .ok (.aload_n 0, 1) := dk_42 (dk_at dksX0_judged_4 13 rfl rfl)
theorem dX0_judged_107 : decode cX0_judged 107 = .ok (.iconst 3, 1) := dk_6 (dk_at dksX0_judged_4 14 rfl rfl)
theorem dX0_judged_108 : decode cX0_judged 108 = .ok (.invokevirtual 76, 3) := dk_182 0 76 (dk_at dksX0_judged_4 15 rfl rfl)
theorem dX0_judged_111 : decode cX0_judged 111 = .ok (.ireturn, 1) := dk_172 (dk_at dksX0_judged_4 18 rfl rfl)
theorem dX0_judged_112 : decode cX0_judged 112 = .ok (.aload_n 0, 1) := dk_42 (dk_at dksX0_judged_4 19 rfl rfl)
theorem dX0_judged_113 : decode cX0_judged 113 = .ok (.getfield 40, 3) := dk_180 0 40 (dk_at dksX0_judged_4 20 rfl rfl)
theorem dX0_judged_116 : decode cX0_judged 116 = .ok (.iload_n 1, 1) := dk_27 (dk_at dksX0_judged_4 23 rfl rfl)
theorem dX0_judged_117 : decode cX0_judged 117 = .ok (.aaload, 1) := dk_50 (dk_at dksX0_judged_5 0 rfl rfl)
theorem dX0_judged_118 : decode cX0_judged 118 = .ok (.getfield 190, 3) := dk_180 0 190 (dk_at dksX0_judged_5 1 rfl rfl)
theorem dX0_judged_121 : decode cX0_judged 121 = .ok (.istore 5, 2) := dk_54 5 (dk_at dksX0_judged_5 4 rfl rfl)
theorem dX0_judged_123 : decode cX0_judged 123 = .ok (.aload_n 0, 1) := dk_42 (dk_at dksX0_judged_5 6 rfl rfl)
theorem dX0_judged_124 : decode cX0_judged 124 = .ok (.getfield 44, 3) := dk_180 0 44 (dk_at dksX0_judged_5 7 rfl rfl)
theorem dX0_judged_127 : decode cX0_judged 127 = .ok (.iconst 1, 1) := dk_4 (dk_at dksX0_judged_5 10 rfl rfl)
theorem dX0_judged_128 : decode cX0_judged 128 = .ok (.iload 5, 2) := dk_21 5 (dk_at dksX0_judged_5 11 rfl rfl)
theorem dX0_judged_130 : decode cX0_judged 130 = .ok (.iadd, 1) := dk_96 (dk_at dksX0_judged_5 13 rfl rfl)
theorem dX0_judged_131 : decode cX0_judged 131 = .ok (.iaload, 1) := dk_46 (dk_at dksX0_judged_5 14 rfl rfl)
theorem dX0_judged_132 : decode cX0_judged 132 = .ok (.istore 6, 2) := dk_54 6 (dk_at dksX0_judged_5 15 rfl rfl)
theorem dX0_judged_134 : decode cX0_judged 134 = .ok (.aload_n 0, 1) := dk_42 (dk_at dksX0_judged_5 17 rfl rfl)
theorem dX0_judged_135 : decode cX0_judged 135 = .ok (.getfield 44, 3) := dk_180 0 44 (dk_at dksX0_judged_5 18 rfl rfl)
theorem dX0_judged_138 : decode cX0_judged 138 = .ok (.iconst 5, 1) := dk_8 (dk_at dksX0_judged_5 21 rfl rfl)
theorem dX0_judged_139 : decode cX0_judged 139 = .ok (.iload 5, 2) := dk_21 5 (dk_at dksX0_judged_5 22 rfl rfl)
theorem dX0_judged_141 : decode cX0_judged 141 = .ok (.iadd, 1) := dk_96 (dk_at dksX0_judged_6 0 rfl rfl)
theorem dX0_judged_142 : decode cX0_judged 142 = .ok (.iaload, 1) := dk_46 (dk_at dksX0_judged_6 1 rfl rfl)
theorem dX0_judged_143 : decode cX0_judged 143 = .ok (.istore 7, 2) := dk_54 7 (dk_at dksX0_judged_6 2 rfl rfl)
theorem dX0_judged_145 : decode cX0_judged 145 = .ok (.iconst 0, 1) := dk_3 (dk_at dksX0_judged_6 4 rfl rfl)
theorem dX0_judged_146 : decode cX0_judged 146 = .ok (.istore 8, 2) := dk_54 8 (dk_at dksX0_judged_6 5 rfl rfl)
theorem dX0_judged_148 : decode cX0_judged 148 = .ok (.bipush (-9), 2) := dk_16 247 (dk_at dksX0_judged_6 7 rfl rfl)
theorem dX0_judged_150 : decode cX0_judged 150 = .ok (.istore 9, 2) := dk_54 9 (dk_at dksX0_judged_6 9 rfl rfl)
theorem dX0_judged_152 : decode cX0_judged 152 = .ok (.iconst 0, 1) := dk_3 (dk_at dksX0_judged_6 11 rfl rfl)
theorem dX0_judged_153 : decode cX0_judged 153 = .ok (.istore 10, 2) := dk_54 10 (dk_at dksX0_judged_6 12 rfl rfl)
theorem dX0_judged_155 : decode cX0_judged 155 = .ok (.iload 10, 2) := dk_21 10 (dk_at dksX0_judged_6 14 rfl rfl)
theorem dX0_judged_157 : decode cX0_judged 157 = .ok (.iconst 5, 1) := dk_8 (dk_at dksX0_judged_6 16 rfl rfl)
theorem dX0_judged_158 : decode cX0_judged 158 = .ok (.if_icmp .ge 81, 3) := dk_162 0 81 (dk_at dksX0_judged_6 17 rfl rfl)
theorem dX0_judged_161 : decode cX0_judged 161 = .ok (.iload 10, 2) := dk_21 10 (dk_at dksX0_judged_6 20 rfl rfl)
theorem dX0_judged_163 : decode cX0_judged 163 = .ok (.iconst 1, 1) := dk_4 (dk_at dksX0_judged_6 22 rfl rfl)
theorem dX0_judged_164 : decode cX0_judged 164 = .ok (.iadd, 1) := dk_96 (dk_at dksX0_judged_6 23 rfl rfl)
theorem dX0_judged_165 : decode cX0_judged 165 = .ok (.istore 11, 2) := dk_54 11 (dk_at dksX0_judged_7 0 rfl rfl)
theorem dX0_judged_167 : decode cX0_judged 167 = .ok (.iload 11, 2) := dk_21 11 (dk_at dksX0_judged_7 2 rfl rfl)
theorem dX0_judged_169 : decode cX0_judged 169 = .ok (.iconst 5, 1) := dk_8 (dk_at dksX0_judged_7 4 rfl rfl)
theorem dX0_judged_170 : decode cX0_judged 170 = .ok (.if_icmp .gt 63, 3) := dk_163 0 63 (dk_at dksX0_judged_7 5 rfl rfl)
theorem dX0_judged_173 : decode cX0_judged 173 = .ok (.aload_n 0, 1) := dk_42 (dk_at dksX0_judged_7 8 rfl rfl)
theorem dX0_judged_174 : decode cX0_judged 174 = .ok (.getfield 44, 3) := dk_180 0 44 (dk_at dksX0_judged_7 9 rfl rfl)
theorem dX0_judged_177 : decode cX0_judged 177 = .ok (.iconst 1, 1) := dk_4 (dk_at dksX0_judged_7 12 rfl rfl)
theorem dX0_judged_178 : decode cX0_judged 178 = .ok (.iload 5, 2) := dk_21 5 (dk_at dksX0_judged_7 13 rfl rfl)
theorem dX0_judged_180 : decode cX0_judged 180 = .ok (.iadd, 1) := dk_96 (dk_at dksX0_judged_7 15 rfl rfl)
theorem dX0_judged_181 : decode cX0_judged 181 = .ok (.iload 10, 2) := dk_21 10 (dk_at dksX0_judged_7 16 rfl rfl)
theorem dX0_judged_183 : decode cX0_judged 183 = .ok (.iastore, 1) := dk_79 (dk_at dksX0_judged_7 18 rfl rfl)
theorem dX0_judged_184 : decode cX0_judged 184 = .ok (.aload_n 0, 1) := dk_42 (dk_at dksX0_judged_7 19 rfl rfl)
theorem dX0_judged_185 : decode cX0_judged 185 = .ok (.getfield 44, 3) := dk_180 0 44 (dk_at dksX0_judged_7 20 rfl rfl)
theorem dX0_judged_188 : decode cX0_judged 188 = .ok (.iconst 5, 1) := dk_8 (dk_at dksX0_judged_7 23 rfl rfl)
theorem dX0_judged_189 : decode cX0_judged 189 = .ok (.iload 5, 2) := dk_21 5 (dk_at dksX0_judged_8 0 rfl rfl)
theorem dX0_judged_191 : decode cX0_judged 191 = .ok (.iadd, 1) := dk_96 (dk_at dksX0_judged_8 2 rfl rfl)
theorem dX0_judged_192 : decode cX0_judged 192 = .ok (.iload 11, 2) := dk_21 11 (dk_at dksX0_judged_8 3 rfl rfl)
theorem dX0_judged_194 : decode cX0_judged 194 = .ok (.iastore, 1) := dk_79 (dk_at dksX0_judged_8 5 rfl rfl)
theorem dX0_judged_195 : decode cX0_judged 195 = .ok (.aload_n 0, 1) := dk_42 (dk_at dksX0_judged_8 6 rfl rfl)
theorem dX0_judged_196 : decode cX0_judged 196 = .ok (.iload_n 1, 1) := dk_27 (dk_at dksX0_judged_8 7 rfl rfl)
theorem dX0_judged_197 : decode cX0_judged 197 = .ok (.aload_n 3, 1) := dk_45 (dk_at dksX0_judged_8 8 rfl rfl)
theorem dX0_judged_198 : decode cX0_judged 198 = .ok (.invokevirtual 316, 3) := dk_182 1 60 (dk_at dksX0_judged_8 9 rfl rfl)
theorem dX0_judged_201 : decode cX0_judged 201 = .ok (.ifCond .eq 26, 3) := dk_153 0 26 (dk_at dksX0_judged_8 12 rfl rfl)
theorem dX0_judged_204 : decode cX0_judged 204 = .ok (.iload 8, 2) := dk_21 8 (dk_at dksX0_judged_8 15 rfl rfl)
theorem dX0_judged_206 : decode cX0_judged 206 = .ok (.ifCond .ne 14, 3) := dk_154 0 14 (dk_at dksX0_judged_8 17 rfl rfl)
theorem dX0_judged_209 : decode cX0_judged 209 = .ok (.bipush 10, 2) := dk_16 10 (dk_at dksX0_judged_8 20 rfl rfl)
theorem dX0_judged_211 : decode cX0_judged 211 = .ok (.iload 10, 2) := dk_21 10 (dk_at dksX0_judged_8 22 rfl rfl)
theorem dX0_judged_213 : decode cX0_judged 213 = .ok (.imul, 1) := dk_104 (dk_at dksX0_judged_9 0 rfl rfl)
theorem dX0_judged_214 : decode cX0_judged 214 = .ok (.iload 11, 2) := dk_21 11 (dk_at dksX0_judged_9 1 rfl rfl)
theorem dX0_judged_216 : decode cX0_judged 216 = .ok (.iadd, 1) := dk_96 (dk_at dksX0_judged_9 3 rfl rfl)
theorem dX0_judged_217 : decode cX0_judged 217 = .ok (.goto 5, 3) := dk_167 0 5 (dk_at dksX0_judged_9 4 rfl rfl)
theorem dX0_judged_220 : decode cX0_judged 220 = .ok (.iload 9, 2) := dk_21 9 (dk_at dksX0_judged_9 7 rfl rfl)
theorem dX0_judged_222 : decode cX0_judged 222 = .ok (.istore 9, 2) := dk_54 9 (dk_at dksX0_judged_9 9 rfl rfl)
theorem dX0_judged_224 : decode cX0_judged 224 = .ok (.iinc 8 1, 3) := dk_132 8 1 (dk_at dksX0_judged_9 11 rfl rfl)
theorem dX0_judged_227 : decode cX0_judged 227 = .ok (.iinc 11 1, 3) := dk_132 11 1 (dk_at dksX0_judged_9 14 rfl rfl)
theorem dX0_judged_230 : decode cX0_judged 230 = .ok (.goto (-63), 3) := dk_167 255 193 (dk_at dksX0_judged_9 17 rfl rfl)
theorem dX0_judged_233 : decode cX0_judged 233 = .ok (.iinc 10 1, 3) := dk_132 10 1 (dk_at dksX0_judged_9 20 rfl rfl)
theorem dX0_judged_236 : decode cX0_judged 236 = .ok (.goto (-81), 3) := dk_167 255 175 (dk_at dksX0_judged_10 0 rfl rfl)
theorem dX0_judged_239 : decode cX0_judged 239 = .ok (.aload_n 0, 1) := dk_42 (dk_at dksX0_judged_10 3 rfl rfl)
theorem dX0_judged_240 : decode cX0_judged 240 = .ok (.getfield 44, 3) := dk_180 0 44 (dk_at dksX0_judged_10 4 rfl rfl)
theorem dX0_judged_243 : decode cX0_judged 243 = .ok (.iconst 1, 1) := dk_4 (dk_at dksX0_judged_10 7 rfl rfl)
theorem dX0_judged_244 : decode cX0_judged 244 = .ok (.iload 5, 2) := dk_21 5 (dk_at dksX0_judged_10 8 rfl rfl)
theorem dX0_judged_246 : decode cX0_judged 246 = .ok (.iadd, 1) := dk_96 (dk_at dksX0_judged_10 10 rfl rfl)
theorem dX0_judged_247 : decode cX0_judged 247 = .ok (.iload 6, 2) := dk_21 6 (dk_at dksX0_judged_10 11 rfl rfl)
theorem dX0_judged_249 : decode cX0_judged 249 = .ok (.iastore, 1) := dk_79 (dk_at dksX0_judged_10 13 rfl rfl)
theorem dX0_judged_250 : decode cX0_judged 250 = .ok (.aload_n 0, 1) := dk_42 (dk_at dksX0_judged_10 14 rfl rfl)
theorem dX0_judged_251 : decode cX0_judged 251 = .ok (.getfield 44, 3) := dk_180 0 44 (dk_at dksX0_judged_10 15 rfl rfl)
theorem dX0_judged_254 : decode cX0_judged 254 = .ok (.iconst 5, 1) := dk_8 (dk_at dksX0_judged_10 18 rfl rfl)
theorem dX0_judged_255 : decode cX0_judged 255 = .ok (.iload 5, 2) := dk_21 5 (dk_at dksX0_judged_10 19 rfl rfl)
theorem dX0_judged_257 : decode cX0_judged 257 = .ok (.iadd, 1) := dk_96 (dk_at dksX0_judged_10 21 rfl rfl)
theorem dX0_judged_258 : decode cX0_judged 258 = .ok (.iload 7, 2) := dk_21 7 (dk_at dksX0_judged_10 22 rfl rfl)
theorem dX0_judged_260 : decode cX0_judged 260 = .ok (.iastore, 1) := dk_79 (dk_at dksX0_judged_11 0 rfl rfl)
theorem dX0_judged_261 : decode cX0_judged 261 = .ok (.aload_n 0, 1) := dk_42 (dk_at dksX0_judged_11 1 rfl rfl)
theorem dX0_judged_262 : decode cX0_judged 262 = .ok (.iload 9, 2) := dk_21 9 (dk_at dksX0_judged_11 2 rfl rfl)
theorem dX0_judged_264 : decode cX0_judged 264 = .ok (.iload 8, 2) := dk_21 8 (dk_at dksX0_judged_11 4 rfl rfl)
theorem dX0_judged_266 : decode cX0_judged 266 = .ok (.invokevirtual 80, 3) := dk_182 0 80 (dk_at dksX0_judged_11 6 rfl rfl)
theorem dX0_judged_269 : decode cX0_judged 269 = .ok (.ireturn, 1) := dk_172 (dk_at dksX0_judged_11 9 rfl rfl)
abbrev cX0_isJudged : ByteArray := prog_1_method_91_code
def yX0_isJudged : MethodName := ⟨RX0, "isJudged", "(I[I)Z"⟩
def dkwX0_isJudged_2 : List UInt8 := [160, 0, 7, 4, 167, 0, 4, 3, 126, 54, 4, 132, 5, 2, 167, 255, 208, 21, 4, 172]
abbrev dktX0_isJudged_2 : List UInt8 := dkwX0_isJudged_2 ++ []
def dkwX0_isJudged_1 : List UInt8 := [21, 5, 46, 185, 0, 182, 2, 0, 44, 21, 5, 4, 96, 46, 4, 160, 0, 7, 4, 167, 0, 4, 3]
abbrev dktX0_isJudged_1 : List UInt8 := dkwX0_isJudged_1 ++ dktX0_isJudged_2
def dkwX0_isJudged_0 : List UInt8 := [42, 180, 0, 40, 27, 50, 78, 4, 54, 4, 3, 54, 5, 21, 5, 44, 190, 162, 0, 47, 21, 4, 45, 44]
abbrev dktX0_isJudged_0 : List UInt8 := dkwX0_isJudged_0 ++ dktX0_isJudged_1
theorem dksX0_isJudged_0 : cX0_isJudged.data.toList.drop 0 = dktX0_isJudged_0 := by decide +kernel
theorem dksX0_isJudged_1 : cX0_isJudged.data.toList.drop 24 = dktX0_isJudged_1 := dk_seg dksX0_isJudged_0 24 rfl rfl
theorem dksX0_isJudged_2 : cX0_isJudged.data.toList.drop 47 = dktX0_isJudged_2 := dk_seg dksX0_isJudged_1 23 rfl rfl
theorem dX0_isJudged_0 : decode cX0_isJudged 0 = .ok (.aload_n 0, 1) := dk_42 (dk_at dksX0_isJudged_0 0 rfl rfl)
theorem dX0_isJudged_1 : decode cX0_isJudged 1 = .ok (.getfield 40, 3) := dk_180 0 40 (dk_at dksX0_isJudged_0 1 rfl rfl)
theorem dX0_isJudged_4 : decode cX0_isJudged 4 = .ok (.iload_n 1, 1) := dk_27 (dk_at dksX0_isJudged_0 4 rfl rfl)
theorem dX0_isJudged_5 : decode cX0_isJudged 5 = .ok (.aaload, 1) := dk_50 (dk_at dksX0_isJudged_0 5 rfl rfl)
theorem dX0_isJudged_6 : decode cX0_isJudged 6 = .ok (.astore_n 3, 1) := dk_78 (dk_at dksX0_isJudged_0 6 rfl rfl)
theorem dX0_isJudged_7 : decode cX0_isJudged 7 = .ok (.iconst 1, 1) := dk_4 (dk_at dksX0_isJudged_0 7 rfl rfl)
theorem dX0_isJudged_8 : decode cX0_isJudged 8 = .ok (.istore 4, 2) := dk_54 4 (dk_at dksX0_isJudged_0 8 rfl rfl)
theorem dX0_isJudged_10 : decode cX0_isJudged 10 = .ok (.iconst 0, 1) := dk_3 (dk_at dksX0_isJudged_0 10 rfl rfl)
theorem dX0_isJudged_11 : decode cX0_isJudged 11 = .ok (.istore 5, 2) := dk_54 5 (dk_at dksX0_isJudged_0 11 rfl rfl)
theorem dX0_isJudged_13 : decode cX0_isJudged 13 = .ok (.iload 5, 2) := dk_21 5 (dk_at dksX0_isJudged_0 13 rfl rfl)
theorem dX0_isJudged_15 : decode cX0_isJudged 15 = .ok (.aload_n 2, 1) := dk_44 (dk_at dksX0_isJudged_0 15 rfl rfl)
theorem dX0_isJudged_16 : decode cX0_isJudged 16 = .ok (.arraylength, 1) := dk_190 (dk_at dksX0_isJudged_0 16 rfl rfl)
theorem dX0_isJudged_17 : decode cX0_isJudged 17 = .ok (.if_icmp .ge 47, 3) := dk_162 0 47 (dk_at dksX0_isJudged_0 17 rfl rfl)
theorem dX0_isJudged_20 : decode cX0_isJudged 20 = .ok (.iload 4, 2) := dk_21 4 (dk_at dksX0_isJudged_0 20 rfl rfl)
theorem dX0_isJudged_22 : decode cX0_isJudged 22 = .ok (.aload_n 3, 1) := dk_45 (dk_at dksX0_isJudged_0 22 rfl rfl)
theorem dX0_isJudged_23 : decode cX0_isJudged 23 = .ok (.aload_n 2, 1) := dk_44 (dk_at dksX0_isJudged_0 23 rfl rfl)
theorem dX0_isJudged_24 : decode cX0_isJudged 24 = .ok (.iload 5, 2) := dk_21 5 (dk_at dksX0_isJudged_1 0 rfl rfl)
theorem dX0_isJudged_26 : decode cX0_isJudged 26 = .ok (.iaload, 1) := dk_46 (dk_at dksX0_isJudged_1 2 rfl rfl)
theorem dX0_isJudged_27 : decode cX0_isJudged 27 = .ok (.invokeinterface 182 2, 5) := by decide +kernel
theorem dX0_isJudged_32 : decode cX0_isJudged 32 = .ok (.aload_n 2, 1) := dk_44 (dk_at dksX0_isJudged_1 8 rfl rfl)
theorem dX0_isJudged_33 : decode cX0_isJudged 33 = .ok (.iload 5, 2) := dk_21 5 (dk_at dksX0_isJudged_1 9 rfl rfl)
theorem dX0_isJudged_35 : decode cX0_isJudged 35 = .ok (.iconst 1, 1) := dk_4 (dk_at dksX0_isJudged_1 11 rfl rfl)
theorem dX0_isJudged_36 : decode cX0_isJudged 36 = .ok (.iadd, 1) := dk_96 (dk_at dksX0_isJudged_1 12 rfl rfl)
theorem dX0_isJudged_37 : decode cX0_isJudged 37 = .ok (.iaload, 1) := dk_46 (dk_at dksX0_isJudged_1 13 rfl rfl)
theorem dX0_isJudged_38 : decode cX0_isJudged 38 = .ok (.iconst 1, 1) := dk_4 (dk_at dksX0_isJudged_1 14 rfl rfl)
theorem dX0_isJudged_39 : decode cX0_isJudged 39 = .ok (.if_icmp .ne 7, 3) := dk_160 0 7 (dk_at dksX0_isJudged_1 15 rfl rfl)
theorem dX0_isJudged_42 : decode cX0_isJudged 42 = .ok (.iconst 1, 1) := dk_4 (dk_at dksX0_isJudged_1 18 rfl rfl)
theorem dX0_isJudged_43 : decode cX0_isJudged 43 = .ok (.goto 4, 3) := dk_167 0 4 (dk_at dksX0_isJudged_1 19 rfl rfl)
theorem dX0_isJudged_46 : decode cX0_isJudged 46 = .ok (.iconst 0, 1) := dk_3 (dk_at dksX0_isJudged_1 22 rfl rfl)
theorem dX0_isJudged_47 : decode cX0_isJudged 47 = .ok (.if_icmp .ne 7, 3) := dk_160 0 7 (dk_at dksX0_isJudged_2 0 rfl rfl)
theorem dX0_isJudged_50 : decode cX0_isJudged 50 = .ok (.iconst 1, 1) := dk_4 (dk_at dksX0_isJudged_2 3 rfl rfl)
theorem dX0_isJudged_51 : decode cX0_isJudged 51 = .ok (.goto 4, 3) := dk_167 0 4 (dk_at dksX0_isJudged_2 4 rfl rfl)
theorem dX0_isJudged_54 : decode cX0_isJudged 54 = .ok (.iconst 0, 1) := dk_3 (dk_at dksX0_isJudged_2 7 rfl rfl)
theorem dX0_isJudged_55 : decode cX0_isJudged 55 = .ok (.iand, 1) := dk_126 (dk_at dksX0_isJudged_2 8 rfl rfl)
theorem dX0_isJudged_56 : decode cX0_isJudged 56 = .ok (.istore 4, 2) := dk_54 4 (dk_at dksX0_isJudged_2 9 rfl rfl)
theorem dX0_isJudged_58 : decode cX0_isJudged 58 = .ok (.iinc 5 2, 3) := dk_132 5 2 (dk_at dksX0_isJudged_2 11 rfl rfl)
theorem dX0_isJudged_61 : decode cX0_isJudged 61 = .ok (.goto (-48), 3) := dk_167 255 208 (dk_at dksX0_isJudged_2 14 rfl rfl)
theorem dX0_isJudged_64 : decode cX0_isJudged 64 = .ok (.iload 4, 2) := dk_21 4 (dk_at dksX0_isJudged_2 17 rfl rfl)
theorem dX0_isJudged_66 : decode cX0_isJudged 66 = .ok (.ireturn, 1) := dk_172 (dk_at dksX0_isJudged_2 19 rfl rfl)
abbrev cX0_odds : ByteArray := prog_1_method_92_code
def yX0_odds : MethodName := ⟨RX0, "odds", "(II)I"⟩
def dkwX0_odds_3 : List UInt8 := [182, 1, 66, 172]
abbrev dktX0_odds_3 : List UInt8 := dkwX0_odds_3 ++ []
def dkwX0_odds_2 : List UInt8 := [33, 28, 133, 105, 66, 22, 5, 20, 1, 64, 105, 55, 5, 132, 7, 255, 167, 255, 235, 42, 33, 22, 5]
abbrev dktX0_odds_2 : List UInt8 := dkwX0_odds_2 ++ dktX0_odds_3
def dkwX0_odds_1 : List UInt8 := [55, 5, 42, 182, 0, 236, 42, 27, 182, 0, 255, 2, 130, 126, 184, 0, 239, 54, 7, 21, 7, 158, 0, 22]
abbrev dktX0_odds_1 : List UInt8 := dkwX0_odds_1 ++ dktX0_odds_2
def dkwX0_odds_0 : List UInt8 := [42, 27, 182, 0, 249, 153, 0, 13, 28, 3, 16, 12, 184, 0, 66, 154, 0, 5, 2, 172, 10, 66, 10]
abbrev dktX0_odds_0 : List UInt8 := dkwX0_odds_0 ++ dktX0_odds_1
theorem dksX0_odds_0 : cX0_odds.data.toList.drop 0 = dktX0_odds_0 := by decide +kernel
theorem dksX0_odds_1 : cX0_odds.data.toList.drop 23 = dktX0_odds_1 := dk_seg dksX0_odds_0 23 rfl rfl
theorem dksX0_odds_2 : cX0_odds.data.toList.drop 47 = dktX0_odds_2 := dk_seg dksX0_odds_1 24 rfl rfl
theorem dksX0_odds_3 : cX0_odds.data.toList.drop 70 = dktX0_odds_3 := dk_seg dksX0_odds_2 23 rfl rfl
theorem dX0_odds_0 : decode cX0_odds 0 = .ok (.aload_n 0, 1) := dk_42 (dk_at dksX0_odds_0 0 rfl rfl)
theorem dX0_odds_1 : decode cX0_odds 1 = .ok (.iload_n 1, 1) := dk_27 (dk_at dksX0_odds_0 1 rfl rfl)
theorem dX0_odds_2 : decode cX0_odds 2 = .ok (.invokevirtual 249, 3) := dk_182 0 249 (dk_at dksX0_odds_0 2 rfl rfl)
theorem dX0_odds_5 : decode cX0_odds 5 = .ok (.ifCond .eq 13, 3) := dk_153 0 13 (dk_at dksX0_odds_0 5 rfl rfl)
theorem dX0_odds_8 : decode cX0_odds 8 = .ok (.iload_n 2, 1) := dk_28 (dk_at dksX0_odds_0 8 rfl rfl)
theorem dX0_odds_9 : decode cX0_odds 9 = .ok (.iconst 0, 1) := dk_3 (dk_at dksX0_odds_0 9 rfl rfl)
theorem dX0_odds_10 : decode cX0_odds 10 = .ok (.bipush 12, 2) := dk_16 12 (dk_at dksX0_odds_0 10 rfl rfl)
theorem dX0_odds_12 : decode cX0_odds 12 = .ok (.invokestatic 66, 3) := dk_184 0 66 (dk_at dksX0_odds_0 12 rfl rfl)
theorem dX0_odds_15 : decode cX0_odds 15 = .ok (.ifCond .ne 5, 3) := dk_154 0 5 (dk_at dksX0_odds_0 15 rfl rfl)
theorem dX0_odds_18 : decode cX0_odds 18 = .ok (.iconst (-1), 1) := dk_2 (dk_at dksX0_odds_0 18 rfl rfl)
theorem dX0_odds_19 : decode cX0_odds 19 = .ok (.ireturn, 1) := dk_172 (dk_at dksX0_odds_0 19 rfl rfl)
theorem dX0_odds_20 : decode cX0_odds 20 = .ok (.lconst 1, 1) := dk_10 (dk_at dksX0_odds_0 20 rfl rfl)
theorem dX0_odds_21 : decode cX0_odds 21 = .ok (.lstore_n 3, 1) := dk_66 (dk_at dksX0_odds_0 21 rfl rfl)
theorem dX0_odds_22 : decode cX0_odds 22 = .ok (.lconst 1, 1) := dk_10 (dk_at dksX0_odds_0 22 rfl rfl)
theorem dX0_odds_23 : decode cX0_odds 23 = .ok (.lstore 5, 2) := dk_55 5 (dk_at dksX0_odds_1 0 rfl rfl)
theorem dX0_odds_25 : decode cX0_odds 25 = .ok (.aload_n 0, 1) := dk_42 (dk_at dksX0_odds_1 2 rfl rfl)
theorem dX0_odds_26 : decode cX0_odds 26 = .ok (.invokevirtual 236, 3) := dk_182 0 236 (dk_at dksX0_odds_1 3 rfl rfl)
theorem dX0_odds_29 : decode cX0_odds 29 = .ok (.aload_n 0, 1) := dk_42 (dk_at dksX0_odds_1 6 rfl rfl)
theorem dX0_odds_30 : decode cX0_odds 30 = .ok (.iload_n 1, 1) := dk_27 (dk_at dksX0_odds_1 7 rfl rfl)
theorem dX0_odds_31 : decode cX0_odds 31 = .ok (.invokevirtual 255, 3) := dk_182 0 255 (dk_at dksX0_odds_1 8 rfl rfl)
theorem dX0_odds_34 : decode cX0_odds 34 = .ok (.iconst (-1), 1) := dk_2 (dk_at dksX0_odds_1 11 rfl rfl)
theorem dX0_odds_35 : decode cX0_odds 35 = .ok (.ixor, 1) := dk_130 (dk_at dksX0_odds_1 12 rfl rfl)
theorem dX0_odds_36 : decode cX0_odds 36 = .ok (.iand, 1) := dk_126 (dk_at dksX0_odds_1 13 rfl rfl)
theorem dX0_odds_37 : decode cX0_odds 37 = .ok (.invokestatic 239, 3) := dk_184 0 239 (dk_at dksX0_odds_1 14 rfl rfl)
theorem dX0_odds_40 : decode cX0_odds 40 = .ok (.istore 7, 2) := dk_54 7 (dk_at dksX0_odds_1 17 rfl rfl)
theorem dX0_odds_42 : decode cX0_odds 42 = .ok (.iload 7, 2) := dk_21 7 (dk_at dksX0_odds_1 19 rfl rfl)
theorem dX0_odds_44 : decode cX0_odds 44 = .ok (.ifCond .le 22, 3) := dk_158 0 22 (dk_at dksX0_odds_1 21 rfl rfl)
theorem dX0_odds_47 : decode cX0_odds 47 = .ok (.lload_n 3, 1) := dk_33 (dk_at dksX0_odds_2 0 rfl rfl)
theorem dX0_odds_48 : decode cX0_odds 48 = .ok (.iload_n 2, 1) := dk_28 (dk_at dksX0_odds_2 1 rfl rfl)
theorem dX0_odds_49 : decode cX0_odds 49 = .ok (.i2l, 1) := dk_133 (dk_at dksX0_odds_2 2 rfl rfl)
theorem dX0_odds_50 : decode cX0_odds 50 = .ok (.lmul, 1) := dk_105 (dk_at dksX0_odds_2 3 rfl rfl)
theorem dX0_odds_51 : decode cX0_odds 51 = .ok (.lstore_n 3, 1) := dk_66 (dk_at dksX0_odds_2 4 rfl rfl)
theorem dX0_odds_52 : decode cX0_odds 52 = .ok (.lload 5, 2) := dk_22 5 (dk_at dksX0_odds_2 5 rfl rfl)
theorem dX0_odds_54 : decode cX0_odds 54 = .ok (.ldc2_w 320, 3) := dk_20 1 64 (dk_at dksX0_odds_2 7 rfl rfl)
theorem dX0_odds_57 : decode cX0_odds 57 = .ok (.lmul, 1) := dk_105 (dk_at dksX0_odds_2 10 rfl rfl)
theorem dX0_odds_58 : decode cX0_odds 58 = .ok (.lstore 5, 2) := dk_55 5 (dk_at dksX0_odds_2 11 rfl rfl)
theorem dX0_odds_60 : decode cX0_odds 60 = .ok (.iinc 7 (-1), 3) := dk_132 7 255 (dk_at dksX0_odds_2 13 rfl rfl)
theorem dX0_odds_63 : decode cX0_odds 63 = .ok (.goto (-21), 3) := dk_167 255 235 (dk_at dksX0_odds_2 16 rfl rfl)
theorem dX0_odds_66 : decode cX0_odds 66 = .ok (.aload_n 0, 1) := dk_42 (dk_at dksX0_odds_2 19 rfl rfl)
theorem dX0_odds_67 : decode cX0_odds 67 = .ok (.lload_n 3, 1) := dk_33 (dk_at dksX0_odds_2 20 rfl rfl)
theorem dX0_odds_68 : decode cX0_odds 68 = .ok (.lload 5, 2) := dk_22 5 (dk_at dksX0_odds_2 21 rfl rfl)
theorem dX0_odds_70 : decode cX0_odds 70 = .ok (.invokevirtual 322, 3) := dk_182 1 66 (dk_at dksX0_odds_3 0 rfl rfl)
theorem dX0_odds_73 : decode cX0_odds 73 = .ok (.ireturn, 1) := dk_172 (dk_at dksX0_odds_3 3 rfl rfl)
abbrev cX0_fraction : ByteArray := prog_1_method_7_code
def yX0_fraction : MethodName := ⟨RX0, "fraction", "(JJ)I"⟩
def dkwX0_fraction_2 : List UInt8 := [172]
abbrev dktX0_fraction_2 : List UInt8 := dkwX0_fraction_2 ++ []
def dkwX0_fraction_1 : List UInt8 := [22, 9, 55, 7, 167, 255, 234, 42, 31, 22, 5, 109, 181, 0, 63, 42, 33, 22, 5, 109, 181, 0, 20, 4]
abbrev dktX0_fraction_1 : List UInt8 := dkwX0_fraction_1 ++ dktX0_fraction_2
def dkwX0_fraction_0 : List UInt8 := [31, 55, 5, 33, 55, 7, 22, 7, 9, 148, 153, 0, 21, 22, 5, 22, 7, 113, 55, 9, 22, 7, 55, 5]
abbrev dktX0_fraction_0 : List UInt8 := dkwX0_fraction_0 ++ dktX0_fraction_1
theorem dksX0_fraction_0 : cX0_fraction.data.toList.drop 0 = dktX0_fraction_0 := by decide +kernel
theorem dksX0_fraction_1 : cX0_fraction.data.toList.drop 24 = dktX0_fraction_1 := dk_seg dksX0_fraction_0 24 rfl rfl
theorem dksX0_fraction_2 : cX0_fraction.data.toList.drop 48 = dktX0_fraction_2 := dk_seg dksX0_fraction_1 24 rfl rfl
theorem dX0_fraction_0 : decode cX0_fraction 0 = .ok (.lload_n 1, 1) := dk_31 (dk_at dksX0_fraction_0 0 rfl rfl)
theorem dX0_fraction_1 : decode cX0_fraction 1 = .ok (.lstore 5, 2) := dk_55 5 (dk_at dksX0_fraction_0 1 rfl rfl)
theorem dX0_fraction_3 : decode cX0_fraction 3 = .ok (.lload_n 3, 1) := dk_33 (dk_at dksX0_fraction_0 3 rfl rfl)
theorem dX0_fraction_4 : decode cX0_fraction 4 = .ok (.lstore 7, 2) := dk_55 7 (dk_at dksX0_fraction_0 4 rfl rfl)
theorem dX0_fraction_6 : decode cX0_fraction 6 = .ok (.lload 7, 2) := dk_22 7 (dk_at dksX0_fraction_0 6 rfl rfl)
theorem dX0_fraction_8 : decode cX0_fraction 8 = .ok (.lconst 0, 1) := dk_9 (dk_at dksX0_fraction_0 8 rfl rfl)
theorem dX0_fraction_9 : decode cX0_fraction 9 = .ok (.lcmp, 1) := dk_148 (dk_at dksX0_fraction_0 9 rfl rfl)
theorem dX0_fraction_10 : decode cX0_fraction 10 = .ok (.ifCond .eq 21, 3) := dk_153 0 21 (dk_at dksX0_fraction_0 10 rfl rfl)
theorem dX0_fraction_13 : decode cX0_fraction 13 = .ok (.lload 5, 2) := dk_22 5 (dk_at dksX0_fraction_0 13 rfl rfl)
theorem dX0_fraction_15 : decode cX0_fraction 15 = .ok (.lload 7, 2) := dk_22 7 (dk_at dksX0_fraction_0 15 rfl rfl)
theorem dX0_fraction_17 : decode cX0_fraction 17 = .ok (.lrem, 1) := dk_113 (dk_at dksX0_fraction_0 17 rfl rfl)
theorem dX0_fraction_18 : decode cX0_fraction 18 = .ok (.lstore 9, 2) := dk_55 9 (dk_at dksX0_fraction_0 18 rfl rfl)
theorem dX0_fraction_20 : decode cX0_fraction 20 = .ok (.lload 7, 2) := dk_22 7 (dk_at dksX0_fraction_0 20 rfl rfl)
theorem dX0_fraction_22 : decode cX0_fraction 22 = .ok (.lstore 5, 2) := dk_55 5 (dk_at dksX0_fraction_0 22 rfl rfl)
theorem dX0_fraction_24 : decode cX0_fraction 24 = .ok (.lload 9, 2) := dk_22 9 (dk_at dksX0_fraction_1 0 rfl rfl)
theorem dX0_fraction_26 : decode cX0_fraction 26 = .ok (.lstore 7, 2) := dk_55 7 (dk_at dksX0_fraction_1 2 rfl rfl)
theorem dX0_fraction_28 : decode cX0_fraction 28 = .ok (.goto (-22), 3) := dk_167 255 234 (dk_at dksX0_fraction_1 4 rfl rfl)
theorem dX0_fraction_31 : decode cX0_fraction 31 = .ok (.aload_n 0, 1) := dk_42 (dk_at dksX0_fraction_1 7 rfl rfl)
theorem dX0_fraction_32 : decode cX0_fraction 32 = .ok (.lload_n 1, 1) := dk_31 (dk_at dksX0_fraction_1 8 rfl rfl)
theorem dX0_fraction_33 : decode cX0_fraction 33 = .ok (.lload 5, 2) := dk_22 5 (dk_at dksX0_fraction_1 9 rfl rfl)
theorem dX0_fraction_35 : decode cX0_fraction 35 = .ok (.ldiv, 1) := dk_109 (dk_at dksX0_fraction_1 11 rfl rfl)
theorem dX0_fraction_36 : decode cX0_fraction 36 = .ok (.putfield 63, 3) := dk_181 0 63 (dk_at dksX0_fraction_1 12 rfl rfl)
theorem dX0_fraction_39 : decode cX0_fraction 39 = .ok (.aload_n 0, 1) := dk_42 (dk_at dksX0_fraction_1 15 rfl rfl)
theorem dX0_fraction_40 : decode cX0_fraction 40 = .ok (.lload_n 3, 1) := dk_33 (dk_at dksX0_fraction_1 16 rfl rfl)
theorem dX0_fraction_41 : decode cX0_fraction 41 = .ok (.lload 5, 2) := dk_22 5 (dk_at dksX0_fraction_1 17 rfl rfl)
theorem dX0_fraction_43 : decode cX0_fraction 43 = .ok (.ldiv, 1) := dk_109 (dk_at dksX0_fraction_1 19 rfl rfl)
theorem dX0_fraction_44 : decode cX0_fraction 44 = .ok (.putfield 20, 3) := dk_181 0 20 (dk_at dksX0_fraction_1 20 rfl rfl)
theorem dX0_fraction_47 : decode cX0_fraction 47 = .ok (.iconst 1, 1) := dk_4 (dk_at dksX0_fraction_1 23 rfl rfl)
theorem dX0_fraction_48 : decode cX0_fraction 48 = .ok (.ireturn, 1) := dk_172 (dk_at dksX0_fraction_2 0 rfl rfl)
abbrev cX0_luck : ByteArray := prog_1_method_93_code
def yX0_luck : MethodName := ⟨RX0, "luck", "()I"⟩
def dkwX0_luck_1 : List UInt8 := [182, 0, 125, 133, 182, 1, 66, 172]
abbrev dktX0_luck_1 : List UInt8 := dkwX0_luck_1 ++ []
def dkwX0_luck_0 : List UInt8 := [42, 180, 0, 119, 154, 0, 8, 16, 252, 167, 0, 20, 42, 42, 182, 1, 18, 184, 0, 203, 133, 42]
abbrev dktX0_luck_0 : List UInt8 := dkwX0_luck_0 ++ dktX0_luck_1
theorem dksX0_luck_0 : cX0_luck.data.toList.drop 0 = dktX0_luck_0 := by decide +kernel
theorem dksX0_luck_1 : cX0_luck.data.toList.drop 22 = dktX0_luck_1 := dk_seg dksX0_luck_0 22 rfl rfl
theorem dX0_luck_0 : decode cX0_luck 0 = .ok (.aload_n 0, 1) := dk_42 (dk_at dksX0_luck_0 0 rfl rfl)
theorem dX0_luck_1 : decode cX0_luck 1 = .ok (.getfield 119, 3) := dk_180 0 119 (dk_at dksX0_luck_0 1 rfl rfl)
theorem dX0_luck_4 : decode cX0_luck 4 = .ok (.ifCond .ne 8, 3) := dk_154 0 8 (dk_at dksX0_luck_0 4 rfl rfl)
theorem dX0_luck_7 : decode cX0_luck 7 = .ok (.bipush (-4), 2) := dk_16 252 (dk_at dksX0_luck_0 7 rfl rfl)
theorem dX0_luck_9 : decode cX0_luck 9 = .ok (.goto 20, 3) := dk_167 0 20 (dk_at dksX0_luck_0 9 rfl rfl)
theorem dX0_luck_12 : decode cX0_luck 12 = .ok (.aload_n 0, 1) := dk_42 (dk_at dksX0_luck_0 12 rfl rfl)
theorem dX0_luck_13 : decode cX0_luck 13 = .ok (.aload_n 0, 1) := dk_42 (dk_at dksX0_luck_0 13 rfl rfl)
theorem dX0_luck_14 : decode cX0_luck 14 = .ok (.invokevirtual 274, 3) := dk_182 1 18 (dk_at dksX0_luck_0 14 rfl rfl)
theorem dX0_luck_17 : decode cX0_luck 17 = .ok (.invokestatic 203, 3) := dk_184 0 203 (dk_at dksX0_luck_0 17 rfl rfl)
theorem dX0_luck_20 : decode cX0_luck 20 = .ok (.i2l, 1) := dk_133 (dk_at dksX0_luck_0 20 rfl rfl)
theorem dX0_luck_21 : decode cX0_luck 21 = .ok (.aload_n 0, 1) := dk_42 (dk_at dksX0_luck_0 21 rfl rfl)
theorem dX0_luck_22 : decode cX0_luck 22 = .ok (.invokevirtual 125, 3) := dk_182 0 125 (dk_at dksX0_luck_1 0 rfl rfl)
theorem dX0_luck_25 : decode cX0_luck 25 = .ok (.i2l, 1) := dk_133 (dk_at dksX0_luck_1 3 rfl rfl)
theorem dX0_luck_26 : decode cX0_luck 26 = .ok (.invokevirtual 322, 3) := dk_182 1 66 (dk_at dksX0_luck_1 4 rfl rfl)
theorem dX0_luck_29 : decode cX0_luck 29 = .ok (.ireturn, 1) := dk_172 (dk_at dksX0_luck_1 7 rfl rfl)
abbrev cX0_lots : ByteArray := prog_1_method_94_code
def yX0_lots : MethodName := ⟨RX0, "lots", "(II)I"⟩
def dkwX0_lots_4 : List UInt8 := [54, 7, 132, 8, 1, 167, 255, 205, 21, 7, 172]
abbrev dktX0_lots_4 : List UInt8 := dkwX0_lots_4 ++ []
def dkwX0_lots_3 : List UInt8 := [20, 1, 75, 109, 42, 182, 0, 125, 133, 113, 136, 184, 1, 25, 153, 0, 7, 4, 167, 0, 4, 3, 96]
abbrev dktX0_lots_3 : List UInt8 := dkwX0_lots_3 ++ dktX0_lots_4
def dkwX0_lots_2 : List UInt8 := [21, 8, 27, 162, 0, 51, 20, 1, 71, 22, 5, 105, 20, 1, 73, 113, 55, 5, 21, 7, 33, 22, 5]
abbrev dktX0_lots_2 : List UInt8 := dkwX0_lots_2 ++ dktX0_lots_3
def dkwX0_lots_1 : List UInt8 := [180, 0, 119, 154, 0, 6, 16, 252, 172, 42, 182, 1, 18, 66, 28, 133, 55, 5, 3, 54, 7, 3, 54, 8]
abbrev dktX0_lots_1 : List UInt8 := dkwX0_lots_1 ++ dktX0_lots_2
def dkwX0_lots_0 : List UInt8 := [27, 4, 16, 40, 184, 0, 66, 153, 0, 14, 28, 4, 19, 1, 70, 184, 0, 66, 154, 0, 5, 2, 172, 42]
abbrev dktX0_lots_0 : List UInt8 := dkwX0_lots_0 ++ dktX0_lots_1
theorem dksX0_lots_0 : cX0_lots.data.toList.drop 0 = dktX0_lots_0 := by decide +kernel
theorem dksX0_lots_1 : cX0_lots.data.toList.drop 24 = dktX0_lots_1 := dk_seg dksX0_lots_0 24 rfl rfl
theorem dksX0_lots_2 : cX0_lots.data.toList.drop 48 = dktX0_lots_2 := dk_seg dksX0_lots_1 24 rfl rfl
theorem dksX0_lots_3 : cX0_lots.data.toList.drop 71 = dktX0_lots_3 := dk_seg dksX0_lots_2 23 rfl rfl
theorem dksX0_lots_4 : cX0_lots.data.toList.drop 94 = dktX0_lots_4 := dk_seg dksX0_lots_3 23 rfl rfl
theorem dX0_lots_0 : decode cX0_lots 0 = .ok (.iload_n 1, 1) := dk_27 (dk_at dksX0_lots_0 0 rfl rfl)
theorem dX0_lots_1 : decode cX0_lots 1 = .ok (.iconst 1, 1) := dk_4 (dk_at dksX0_lots_0 1 rfl rfl)
theorem dX0_lots_2 : decode cX0_lots 2 = .ok (.bipush 40, 2) := dk_16 40 (dk_at dksX0_lots_0 2 rfl rfl)
theorem dX0_lots_4 : decode cX0_lots 4 = .ok (.invokestatic 66, 3) := dk_184 0 66 (dk_at dksX0_lots_0 4 rfl rfl)
theorem dX0_lots_7 : decode cX0_lots 7 = .ok (.ifCond .eq 14, 3) := dk_153 0 14 (dk_at dksX0_lots_0 7 rfl rfl)
theorem dX0_lots_10 : decode cX0_lots 10 = .ok (.iload_n 2, 1) := dk_28 (dk_at dksX0_lots_0 10 rfl rfl)
theorem dX0_lots_11 : decode cX0_lots 11 = .ok (.iconst 1, 1) := dk_4 (dk_at dksX0_lots_0 11 rfl rfl)
theorem dX0_lots_12 : decode cX0_lots 12 = .ok (.ldc_w 326, 3) := dk_19 1 70 (dk_at dksX0_lots_0 12 rfl rfl)
theorem dX0_lots_15 : decode cX0_lots 15 = .ok (.invokestatic 66, 3) := dk_184 0 66 (dk_at dksX0_lots_0 15 rfl rfl)
theorem dX0_lots_18 : decode cX0_lots 18 = .ok (.ifCond .ne 5, 3) := dk_154 0 5 (dk_at dksX0_lots_0 18 rfl rfl)
theorem dX0_lots_21 : decode cX0_lots 21 = .ok (.iconst (-1), 1) := dk_2 (dk_at dksX0_lots_0 21 rfl rfl)
theorem dX0_lots_22 : decode cX0_lots 22 = .ok (.ireturn, 1) := dk_172 (dk_at dksX0_lots_0 22 rfl rfl)
theorem dX0_lots_23 : decode cX0_lots 23 = .ok (.aload_n 0, 1) := dk_42 (dk_at dksX0_lots_0 23 rfl rfl)
theorem dX0_lots_24 : decode cX0_lots 24 = .ok (.getfield 119, 3) := dk_180 0 119 (dk_at dksX0_lots_1 0 rfl rfl)
theorem dX0_lots_27 : decode cX0_lots 27 = .ok (.ifCond .ne 6, 3) := dk_154 0 6 (dk_at dksX0_lots_1 3 rfl rfl)
theorem dX0_lots_30 : decode cX0_lots 30 = .ok (.bipush (-4), 2) := dk_16 252 (dk_at dksX0_lots_1 6 rfl rfl)
theorem dX0_lots_32 : decode cX0_lots 32 = .ok (.ireturn, 1) := dk_172 (dk_at dksX0_lots_1 8 rfl rfl)
theorem dX0_lots_33 : decode cX0_lots 33 = .ok (.aload_n 0, 1) := dk_42 (dk_at dksX0_lots_1 9 rfl rfl)
theorem dX0_lots_34 : decode cX0_lots 34 = .ok (.invokevirtual 274, 3) := dk_182 1 18 (dk_at dksX0_lots_1 10 rfl rfl)
theorem dX0_lots_37 : decode cX0_lots 37 = .ok (.lstore_n 3, 1) := dk_66 (dk_at dksX0_lots_1 13 rfl rfl)
theorem dX0_lots_38 : decode cX0_lots 38 = .ok (.iload_n 2, 1) := dk_28 (dk_at dksX0_lots_1 14 rfl rfl)
theorem dX0_lots_39 : decode cX0_lots 39 = .ok (.i2l, 1) := dk_133 (dk_at dksX0_lots_1 15 rfl rfl)
theorem dX0_lots_40 : decode cX0_lots 40 = .ok (.lstore 5, 2) := dk_55 5 (dk_at dksX0_lots_1 16 rfl rfl)
theorem dX0_lots_42 : decode cX0_lots 42 = .ok (.iconst 0, 1) := dk_3 (dk_at dksX0_lots_1 18 rfl rfl)
theorem dX0_lots_43 : decode cX0_lots 43 = .ok (.istore 7, 2) := dk_54 7 (dk_at dksX0_lots_1 19 rfl rfl)
theorem dX0_lots_45 : decode cX0_lots 45 = .ok (.iconst 0, 1) := dk_3 (dk_at dksX0_lots_1 21 rfl rfl)
theorem dX0_lots_46 : decode cX0_lots 46 = .ok (.istore 8, 2) := dk_54 8 (dk_at dksX0_lots_1 22 rfl rfl)
theorem dX0_lots_48 : decode cX0_lots 48 = .ok (.iload 8, 2) := dk_21 8 (dk_at dksX0_lots_2 0 rfl rfl)
theorem dX0_lots_50 : decode cX0_lots 50 = .ok (.iload_n 1, 1) := dk_27 (dk_at dksX0_lots_2 2 rfl rfl)
theorem dX0_lots_51 : decode cX0_lots 51 = .ok (.if_icmp .ge 51, 3) := dk_162 0 51 (dk_at dksX0_lots_2 3 rfl rfl)
theorem dX0_lots_54 : decode cX0_lots 54 = .ok (.ldc2_w 327, 3) := dk_20 1 71 (dk_at dksX0_lots_2 6 rfl rfl)
theorem dX0_lots_57 : decode cX0_lots 57 = .ok (.lload 5, 2) := dk_22 5 (dk_at dksX0_lots_2 9 rfl rfl)
theorem dX0_lots_59 : decode cX0_lots 59 = .ok (.lmul, 1) := dk_105 (dk_at dksX0_lots_2 11 rfl rfl)
theorem dX0_lots_60 : decode cX0_lots 60 = .ok (.ldc2_w 329, 3) := dk_20 1 73 (dk_at dksX0_lots_2 12 rfl rfl)
theorem dX0_lots_63 : decode cX0_lots 63 = .ok (.lrem, 1) := dk_113 (dk_at dksX0_lots_2 15 rfl rfl)
theorem dX0_lots_64 : decode cX0_lots 64 = .ok (.lstore 5, 2) := dk_55 5 (dk_at dksX0_lots_2 16 rfl rfl)
theorem dX0_lots_66 : decode cX0_lots 66 = .ok (.iload 7, 2) := dk_21 7 (dk_at dksX0_lots_2 18 rfl rfl)
theorem dX0_lots_68 : decode cX0_lots 68 = .ok (.lload_n 3, 1) := dk_33 (dk_at dksX0_lots_2 20 rfl rfl)
theorem dX0_lots_69 : decode cX0_lots 69 = .ok (.lload 5, 2) := dk_22 5 (dk_at dksX0_lots_2 21 rfl rfl)
theorem dX0_lots_71 : decode cX0_lots 71 = .ok (.ldc2_w 331, 3) := dk_20 1 75 (dk_at dksX0_lots_3 0 rfl rfl)
theorem dX0_lots_74 : decode cX0_lots 74 = .ok (.ldiv, 1) := dk_109 (dk_at dksX0_lots_3 3 rfl rfl)
theorem dX0_lots_75 : decode cX0_lots 75 = .ok (.aload_n 0, 1) := dk_42 (dk_at dksX0_lots_3 4 rfl rfl)
theorem dX0_lots_76 : decode cX0_lots 76 = .ok (.invokevirtual 125, 3) := dk_182 0 125 (dk_at dksX0_lots_3 5 rfl rfl)
theorem dX0_lots_79 : decode cX0_lots 79 = .ok (.i2l, 1) := dk_133 (dk_at dksX0_lots_3 8 rfl rfl)
theorem dX0_lots_80 : decode cX0_lots 80 = .ok (.lrem, 1) := dk_113 (dk_at dksX0_lots_3 9 rfl rfl)
theorem dX0_lots_81 : decode cX0_lots 81 = .ok (.l2i, 1) := dk_136 (dk_at dksX0_lots_3 10 rfl rfl)
theorem dX0_lots_82 : decode cX0_lots 82 = .ok (.invokestatic 281, 3) := dk_184 1 25 (dk_at dksX0_lots_3 11 rfl rfl)
theorem dX0_lots_85 : decode cX0_lots 85 = .ok (.ifCond .eq 7, 3) := dk_153 0 7 (dk_at dksX0_lots_3 14 rfl rfl)
theorem dX0_lots_88 : decode cX0_lots 88 = .ok (.iconst 1, 1) := dk_4 (dk_at dksX0_lots_3 17 rfl rfl)
theorem dX0_lots_89 : decode cX0_lots 89 = .ok (.goto 4, 3) := dk_167 0 4 (dk_at dksX0_lots_3 18 rfl rfl)
theorem dX0_lots_92 : decode cX0_lots 92 = .ok (.iconst 0, 1) := dk_3 (dk_at dksX0_lots_3 21 rfl rfl)
theorem dX0_lots_93 : decode cX0_lots 93 = .ok (.iadd, 1) := dk_96 (dk_at dksX0_lots_3 22 rfl rfl)
theorem dX0_lots_94 : decode cX0_lots 94 = .ok (.istore 7, 2) := dk_54 7 (dk_at dksX0_lots_4 0 rfl rfl)
theorem dX0_lots_96 : decode cX0_lots 96 = .ok (.iinc 8 1, 3) := dk_132 8 1 (dk_at dksX0_lots_4 2 rfl rfl)
theorem dX0_lots_99 : decode cX0_lots 99 = .ok (.goto (-51), 3) := dk_167 255 205 (dk_at dksX0_lots_4 5 rfl rfl)
theorem dX0_lots_102 : decode cX0_lots 102 = .ok (.iload 7, 2) := dk_21 7 (dk_at dksX0_lots_4 8 rfl rfl)
theorem dX0_lots_104 : decode cX0_lots 104 = .ok (.ireturn, 1) := dk_172 (dk_at dksX0_lots_4 10 rfl rfl)
abbrev cX0_count : ByteArray := prog_1_method_96_code
def yX0_count : MethodName := ⟨RX0, "count", "(I)I"⟩
def dkwX0_count_0 : List UInt8 := [27, 3, 16, 8, 184, 0, 66, 153, 0, 11, 42, 27, 182, 1, 77, 167, 0, 4, 2, 172]
abbrev dktX0_count_0 : List UInt8 := dkwX0_count_0 ++ []
theorem dksX0_count_0 : cX0_count.data.toList.drop 0 = dktX0_count_0 := by decide +kernel
theorem dX0_count_0 : decode cX0_count 0 = .ok (.iload_n 1, 1) := dk_27 (dk_at dksX0_count_0 0 rfl rfl)
theorem dX0_count_1 : decode cX0_count 1 = .ok (.iconst 0, 1) := dk_3 (dk_at dksX0_count_0 1 rfl rfl)
theorem dX0_count_2 : decode cX0_count 2 = .ok (.bipush 8, 2) := dk_16 8 (dk_at dksX0_count_0 2 rfl rfl)
theorem dX0_count_4 : decode cX0_count 4 = .ok (.invokestatic 66, 3) := dk_184 0 66 (dk_at dksX0_count_0 4 rfl rfl)
theorem dX0_count_7 : decode cX0_count 7 = .ok (.ifCond .eq 11, 3) := dk_153 0 11 (dk_at dksX0_count_0 7 rfl rfl)
theorem dX0_count_10 : decode cX0_count 10 = .ok (.aload_n 0, 1) := dk_42 (dk_at dksX0_count_0 10 rfl rfl)
theorem dX0_count_11 : decode cX0_count 11 = .ok (.iload_n 1, 1) := dk_27 (dk_at dksX0_count_0 11 rfl rfl)
theorem dX0_count_12 : decode cX0_count 12 = .ok (.invokevirtual 333, 3) := dk_182 1 77 (dk_at dksX0_count_0 12 rfl rfl)
theorem dX0_count_15 : decode cX0_count 15 = .ok (.goto 4, 3) := dk_167 0 4 (dk_at dksX0_count_0 15 rfl rfl)
theorem dX0_count_18 : decode cX0_count 18 = .ok (.iconst (-1), 1) := dk_2 (dk_at dksX0_count_0 18 rfl rfl)
theorem dX0_count_19 : decode cX0_count 19 = .ok (.ireturn, 1) := dk_172 (dk_at dksX0_count_0 19 rfl rfl)
abbrev cX0_counted : ByteArray := prog_1_method_95_code
def yX0_counted : MethodName := ⟨RX0, "counted", "(I)I"⟩
def dkwX0_counted_10 : List UInt8 := [172]
abbrev dktX0_counted_10 : List UInt8 := dkwX0_counted_10 ++ []
def dkwX0_counted_9 : List UInt8 := [42, 180, 0, 119, 172, 42, 180, 0, 122, 172, 42, 182, 0, 236, 184, 0, 239, 172, 42, 180, 0, 176, 172, 28]
abbrev dktX0_counted_9 : List UInt8 := dkwX0_counted_9 ++ dktX0_counted_10
def dkwX0_counted_8 : List UInt8 := [170, 0, 0, 0, 0, 53, 0, 0, 0, 0, 0, 0, 0, 3, 0, 0, 0, 30, 0, 0, 0, 35, 0, 0, 0, 40, 0, 0, 0, 48]
abbrev dktX0_counted_8 : List UInt8 := dkwX0_counted_8 ++ dktX0_counted_9
def dkwX0_counted_7 : List UInt8 := [96, 61, 132, 3, 1, 167, 255, 221, 27]
abbrev dktX0_counted_7 : List UInt8 := dkwX0_counted_7 ++ dktX0_counted_8
def dkwX0_counted_6 : List UInt8 := [162, 0, 32, 28, 27, 16, 8, 160, 0, 16, 42, 180, 0, 56, 29, 50, 198, 0, 7, 4, 167, 0, 4, 3]
abbrev dktX0_counted_6 : List UInt8 := dkwX0_counted_6 ++ dktX0_counted_7
def dkwX0_counted_5 : List UInt8 := [198, 0, 7, 4, 167, 0, 4, 3, 96, 61, 132, 3, 1, 167, 255, 225, 3, 62, 29, 42, 180, 0, 56, 190]
abbrev dktX0_counted_5 : List UInt8 := dkwX0_counted_5 ++ dktX0_counted_6
def dkwX0_counted_4 : List UInt8 := [167, 255, 224, 3, 62, 29, 7, 162, 0, 32, 28, 27, 16, 7, 160, 0, 16, 42, 180, 0, 31, 29, 50]
abbrev dktX0_counted_4 : List UInt8 := dkwX0_counted_4 ++ dktX0_counted_5
def dkwX0_counted_3 : List UInt8 := [160, 0, 16, 42, 180, 0, 25, 29, 50, 198, 0, 7, 4, 167, 0, 4, 3, 96, 61, 132, 3, 1]
abbrev dktX0_counted_3 : List UInt8 := dkwX0_counted_3 ++ dktX0_counted_4
def dkwX0_counted_2 : List UInt8 := [167, 0, 4, 3, 96, 61, 132, 3, 1, 167, 255, 203, 3, 62, 29, 16, 6, 162, 0, 32, 28, 27, 16, 6]
abbrev dktX0_counted_2 : List UInt8 := dkwX0_counted_2 ++ dktX0_counted_3
def dkwX0_counted_1 : List UInt8 := [193, 0, 102, 154, 0, 20, 27, 8, 160, 0, 19, 42, 180, 0, 40, 29, 50, 193, 0, 105, 153, 0, 7, 4]
abbrev dktX0_counted_1 : List UInt8 := dkwX0_counted_1 ++ dktX0_counted_2
def dkwX0_counted_0 : List UInt8 := [3, 61, 3, 62, 29, 42, 180, 0, 122, 162, 0, 51, 28, 27, 7, 160, 0, 15, 42, 180, 0, 40, 29, 50]
abbrev dktX0_counted_0 : List UInt8 := dkwX0_counted_0 ++ dktX0_counted_1
theorem dksX0_counted_0 : cX0_counted.data.toList.drop 0 = dktX0_counted_0 := by decide +kernel
theorem dksX0_counted_1 : cX0_counted.data.toList.drop 24 = dktX0_counted_1 := dk_seg dksX0_counted_0 24 rfl rfl
theorem dksX0_counted_2 : cX0_counted.data.toList.drop 48 = dktX0_counted_2 := dk_seg dksX0_counted_1 24 rfl rfl
theorem dksX0_counted_3 : cX0_counted.data.toList.drop 72 = dktX0_counted_3 := dk_seg dksX0_counted_2 24 rfl rfl
theorem dksX0_counted_4 : cX0_counted.data.toList.drop 94 = dktX0_counted_4 := dk_seg dksX0_counted_3 22 rfl rfl
theorem dksX0_counted_5 : cX0_counted.data.toList.drop 117 = dktX0_counted_5 := dk_seg dksX0_counted_4 23 rfl rfl
theorem dksX0_counted_6 : cX0_counted.data.toList.drop 141 = dktX0_counted_6 := dk_seg dksX0_counted_5 24 rfl rfl
theorem dksX0_counted_7 : cX0_counted.data.toList.drop 165 = dktX0_counted_7 := dk_seg dksX0_counted_6 24 rfl rfl
theorem dksX0_counted_8 : cX0_counted.data.toList.drop 174 = dktX0_counted_8 := dk_seg dksX0_counted_7 9 rfl rfl
theorem dksX0_counted_9 : cX0_counted.data.toList.drop 204 = dktX0_counted_9 := dk_seg dksX0_counted_8 30 rfl rfl
theorem dksX0_counted_10 : cX0_counted.data.toList.drop 228 = dktX0_counted_10 := dk_seg dksX0_counted_9 24 rfl rfl
theorem dX0_counted_0 : decode cX0_counted 0 = .ok (.iconst 0, 1) := dk_3 (dk_at dksX0_counted_0 0 rfl rfl)
theorem dX0_counted_1 : decode cX0_counted 1 = .ok (.istore_n 2, 1) := dk_61 (dk_at dksX0_counted_0 1 rfl rfl)
theorem dX0_counted_2 : decode cX0_counted 2 = .ok (.iconst 0, 1) := dk_3 (dk_at dksX0_counted_0 2 rfl rfl)
theorem dX0_counted_3 : decode cX0_counted 3 = .ok (.istore_n 3, 1) := dk_62 (dk_at dksX0_counted_0 3 rfl rfl)
theorem dX0_counted_4 : decode cX0_counted 4 = .ok (.iload_n 3, 1) := dk_29 (dk_at dksX0_counted_0 4 rfl rfl)
theorem dX0_counted_5 : decode cX0_counted 5 = .ok (.aload_n 0, 1) := dk_42 (dk_at dksX0_counted_0 5 rfl rfl)
theorem dX0_counted_6 : decode cX0_counted 6 = .ok (.getfield 122, 3) := dk_180 0 122 (dk_at dksX0_counted_0 6 rfl rfl)
theorem dX0_counted_9 : decode cX0_counted 9 = .ok (.if_icmp .ge 51, 3) := dk_162 0 51 (dk_at dksX0_counted_0 9 rfl rfl)
theorem dX0_counted_12 : decode cX0_counted 12 = .ok (.iload_n 2, 1) := dk_28 (dk_at dksX0_counted_0 12 rfl rfl)
theorem dX0_counted_13 : decode cX0_counted 13 = .ok (.iload_n 1, 1) := dk_27 (dk_at dksX0_counted_0 13 rfl rfl)
theorem dX0_counted_14 : decode cX0_counted 14 = .ok (.iconst 4, 1) := dk_7 (dk_at dksX0_counted_0 14 rfl rfl)
theorem dX0_counted_15 : decode cX0_counted 15 = .ok (.if_icmp .ne 15, 3) := dk_160 0 15 (dk_at dksX0_counted_0 15 rfl rfl)
theorem dX0_counted_18 : decode cX0_counted 18 = .ok (.aload_n 0, 1) := dk_42 (dk_at dksX0_counted_0 18 rfl rfl)
theorem dX0_counted_19 : decode cX0_counted 19 = .ok (.getfield 40, 3) := dk_180 0 40 (dk_at dksX0_counted_0 19 rfl rfl)
theorem dX0_counted_22 : decode cX0_counted 22 = .ok (.iload_n 3, 1) := dk_29 (dk_at dksX0_counted_0 22 rfl rfl)
theorem dX0_counted_23 : decode cX0_counted 23 = .ok (.aaload, 1) := dk_50 (dk_at dksX0_counted_0 23 rfl rfl)
theorem dX0_counted_24 : decode cX0_counted 24 = .ok (.instanceof 102, 3) := dk_193 0 102 (dk_at dksX0_counted_1 0 rfl rfl)
theorem dX0_counted_27 : decode cX0_counted 27 = .ok (.ifCond .ne 20, 3) := dk_154 0 20 (dk_at dksX0_counted_1 3 rfl rfl)
theorem dX0_counted_30 : decode cX0_counted 30 = .ok (.iload_n 1, 1) := dk_27 (dk_at dksX0_counted_1 6 rfl rfl)
theorem dX0_counted_31 : decode cX0_counted 31 = .ok (.iconst 5, 1) := dk_8 (dk_at dksX0_counted_1 7 rfl rfl)
theorem dX0_counted_32 : decode cX0_counted 32 = .ok (.if_icmp .ne 19, 3) := dk_160 0 19 (dk_at dksX0_counted_1 8 rfl rfl)
theorem dX0_counted_35 : decode cX0_counted 35 = .ok (.aload_n 0, 1) := dk_42 (dk_at dksX0_counted_1 11 rfl rfl)
theorem dX0_counted_36 : decode cX0_counted 36 = .ok (.getfield 40, 3) := dk_180 0 40 (dk_at dksX0_counted_1 12 rfl rfl)
theorem dX0_counted_39 : decode cX0_counted 39 = .ok (.iload_n 3, 1) := dk_29 (dk_at dksX0_counted_1 15 rfl rfl)
theorem dX0_counted_40 : decode cX0_counted 40 = .ok (.aaload, 1) := dk_50 (dk_at dksX0_counted_1 16 rfl rfl)
theorem dX0_counted_41 : decode cX0_counted 41 = .ok (.instanceof 105, 3) := dk_193 0 105 (dk_at dksX0_counted_1 17 rfl rfl)
theorem dX0_counted_44 : decode cX0_counted 44 = .ok (.ifCond .eq 7, 3) := dk_153 0 7 (dk_at dksX0_counted_1 20 rfl rfl)
theorem dX0_counted_47 : decode cX0_counted 47 = .ok (.iconst 1, 1) := dk_4 (dk_at dksX0_counted_1 23 rfl rfl)
theorem dX0_counted_48 : decode cX0_counted 48 = .ok (.goto 4, 3) := dk_167 0 4 (dk_at dksX0_counted_2 0 rfl rfl)
theorem dX0_counted_51 : decode cX0_counted 51 = .ok (.iconst 0, 1) := dk_3 (dk_at dksX0_counted_2 3 rfl rfl)
theorem dX0_counted_52 : decode cX0_counted 52 = .ok (.iadd, 1) := dk_96 (dk_at dksX0_counted_2 4 rfl rfl)
theorem dX0_counted_53 : decode cX0_counted 53 = .ok (.istore_n 2, 1) := dk_61 (dk_at dksX0_counted_2 5 rfl rfl)
theorem dX0_counted_54 : decode cX0_counted 54 = .ok (.iinc 3 1, 3) := dk_132 3 1 (dk_at dksX0_counted_2 6 rfl rfl)
theorem dX0_counted_57 : decode cX0_counted 57 = .ok (.goto (-53), 3) := dk_167 255 203 (dk_at dksX0_counted_2 9 rfl rfl)
theorem dX0_counted_60 : decode cX0_counted 60 = .ok (.iconst 0, 1) := dk_3 (dk_at dksX0_counted_2 12 rfl rfl)
theorem dX0_counted_61 : decode cX0_counted 61 = .ok (.istore_n 3, 1) := dk_62 (dk_at dksX0_counted_2 13 rfl rfl)
theorem dX0_counted_62 : decode cX0_counted 62 = .ok (.iload_n 3, 1) := dk_29 (dk_at dksX0_counted_2 14 rfl rfl)
theorem dX0_counted_63 : decode cX0_counted 63 = .ok (.bipush 6, 2) := dk_16 6 (dk_at dksX0_counted_2 15 rfl rfl)
theorem dX0_counted_65 : decode cX0_counted 65 = .ok (.if_icmp .ge 32, 3) := dk_162 0 32 (dk_at dksX0_counted_2 17 rfl rfl)
theorem dX0_counted_68 : decode cX0_counted 68 = .ok (.iload_n 2, 1) := dk_28 (dk_at dksX0_counted_2 20 rfl rfl)
theorem dX0_counted_69 : decode cX0_counted 69 = .ok (.iload_n 1, 1) := dk_27 (dk_at dksX0_counted_2 21 rfl rfl)
theorem dX0_counted_70 : decode cX0_counted 70 = .ok (.bipush 6, 2) := dk_16 6 (dk_at dksX0_counted_2 22 rfl rfl)
theorem dX0_counted_72 : decode cX0_counted 72 = .ok (.if_icmp .ne 16, 3) := dk_160 0 16 (dk_at dksX0_counted_3 0 rfl rfl)
theorem dX0_counted_75 : decode cX0_counted 75 = .ok (.aload_n 0, 1) := dk_42 (dk_at dksX0_counted_3 3 rfl rfl)
theorem dX0_counted_76 : decode cX0_counted 76 = .ok (.getfield 25, 3) := dk_180 0 25 (dk_at dksX0_counted_3 4 rfl rfl)
theorem dX0_counted_79 : decode cX0_counted 79 = .ok (.iload_n 3, 1) := dk_29 (dk_at dksX0_counted_3 7 rfl rfl)
theorem dX0_counted_80 : decode cX0_counted 80 = .ok (.aaload, 1) := dk_50 (dk_at dksX0_counted_3 8 rfl rfl)
theorem dX0_counted_81 : decode cX0_counted 81 = .ok (.ifnull 7, 3) := dk_198 0 7 (dk_at dksX0_counted_3 9 rfl rfl)
theorem dX0_counted_84 : decode cX0_counted 84 = .ok (.iconst 1, 1) := dk_4 (dk_at dksX0_counted_3 12 rfl rfl)
theorem dX0_counted_85 : decode cX0_counted 85 = .ok (.goto 4, 3) := dk_167 0 4 (dk_at dksX0_counted_3 13 rfl rfl)
theorem dX0_counted_88 : decode cX0_counted 88 = .ok (.iconst 0, 1) := dk_3 (dk_at dksX0_counted_3 16 rfl rfl)
theorem dX0_counted_89 : decode cX0_counted 89 = .ok (.iadd, 1) := dk_96 (dk_at dksX0_counted_3 17 rfl rfl)
theorem dX0_counted_90 : decode cX0_counted 90 = .ok (.istore_n 2, 1) := dk_61 (dk_at dksX0_counted_3 18 rfl rfl)
theorem dX0_counted_91 : decode cX0_counted 91 = .ok (.iinc 3 1, 3) := dk_132 3 1 (dk_at dksX0_counted_3 19 rfl rfl)
theorem dX0_counted_94 : decode cX0_counted 94 = .ok (.goto (-32), 3) := dk_167 255 224 (dk_at dksX0_counted_4 0 rfl rfl)
theorem dX0_counted_97 : decode cX0_counted 97 = .ok (.iconst 0, 1) := dk_3 (dk_at dksX0_counted_4 3 rfl rfl)
theorem dX0_counted_98 : decode cX0_counted 98 = .ok (.istore_n 3, 1) := dk_62 (dk_at dksX0_counted_4 4 rfl rfl)
theorem dX0_counted_99 : decode cX0_counted 99 = .ok (.iload_n 3, 1) := dk_29 (dk_at dksX0_counted_4 5 rfl rfl)
theorem dX0_counted_100 : decode cX0_counted 100 = .ok (.iconst 4, 1) := dk_7 (dk_at dksX0_counted_4 6 rfl rfl)
theorem dX0_counted_101 : decode cX0_counted 101 = .ok (.if_icmp .ge 32, 3) := dk_162 0 32 (dk_at dksX0_counted_4 7 rfl rfl)
theorem dX0_counted_104 : decode cX0_counted 104 = .ok (.iload_n 2, 1) := dk_28 (dk_at dksX0_counted_4 10 rfl rfl)
theorem dX0_counted_105 : decode cX0_counted 105 = .ok (.iload_n 1, 1) := dk_27 (dk_at dksX0_counted_4 11 rfl rfl)
theorem dX0_counted_106 : decode cX0_counted 106 = .ok (.bipush 7, 2) := dk_16 7 (dk_at dksX0_counted_4 12 rfl rfl)
theorem dX0_counted_108 : decode cX0_counted 108 = .ok (.if_icmp .ne 16, 3) := dk_160 0 16 (dk_at dksX0_counted_4 14 rfl rfl)
theorem dX0_counted_111 : decode cX0_counted 111 = .ok (.aload_n 0, 1) := dk_42 (dk_at dksX0_counted_4 17 rfl rfl)
theorem dX0_counted_112 : decode cX0_counted 112 = .ok (.getfield 31, 3) := dk_180 0 31 (dk_at dksX0_counted_4 18 rfl rfl)
theorem dX0_counted_115 : decode cX0_counted 115 = .ok (.iload_n 3, 1) := dk_29 (dk_at dksX0_counted_4 21 rfl rfl)
theorem dX0_counted_116 : decode cX0_counted 116 = .ok (.aaload, 1) := dk_50 (dk_at dksX0_counted_4 22 rfl rfl)
theorem dX0_counted_117 : decode cX0_counted 117 = .ok (.ifnull 7, 3) := dk_198 0 7 (dk_at dksX0_counted_5 0 rfl rfl)
theorem dX0_counted_120 : decode cX0_counted 120 = .ok (.iconst 1, 1) := dk_4 (dk_at dksX0_counted_5 3 rfl rfl)
theorem dX0_counted_121 : decode cX0_counted 121 = .ok (.goto 4, 3) := dk_167 0 4 (dk_at dksX0_counted_5 4 rfl rfl)
theorem dX0_counted_124 : decode cX0_counted 124 = .ok (.iconst 0, 1) := dk_3 (dk_at dksX0_counted_5 7 rfl rfl)
theorem dX0_counted_125 : decode cX0_counted 125 = .ok (.iadd, 1) := dk_96 (dk_at dksX0_counted_5 8 rfl rfl)
theorem dX0_counted_126 : decode cX0_counted 126 = .ok (.istore_n 2, 1) := dk_61 (dk_at dksX0_counted_5 9 rfl rfl)
theorem dX0_counted_127 : decode cX0_counted 127 = .ok (.iinc 3 1, 3) := dk_132 3 1 (dk_at dksX0_counted_5 10 rfl rfl)
theorem dX0_counted_130 : decode cX0_counted 130 = .ok (.goto (-31), 3) := dk_167 255 225 (dk_at dksX0_counted_5 13 rfl rfl)
theorem dX0_counted_133 : decode cX0_counted 133 = .ok (.iconst 0, 1) := dk_3 (dk_at dksX0_counted_5 16 rfl rfl)
theorem dX0_counted_134 : decode cX0_counted 134 = .ok (.istore_n 3, 1) := dk_62 (dk_at dksX0_counted_5 17 rfl rfl)
theorem dX0_counted_135 : decode cX0_counted 135 = .ok (.iload_n 3, 1) := dk_29 (dk_at dksX0_counted_5 18 rfl rfl)
theorem dX0_counted_136 : decode cX0_counted 136 = .ok (.aload_n 0, 1) := dk_42 (dk_at dksX0_counted_5 19 rfl rfl)
theorem dX0_counted_137 : decode cX0_counted 137 = .ok (.getfield 56, 3) := dk_180 0 56 (dk_at dksX0_counted_5 20 rfl rfl)
theorem dX0_counted_140 : decode cX0_counted 140 = .ok (.arraylength, 1) := dk_190 (dk_at dksX0_counted_5 23 rfl rfl)
theorem dX0_counted_141 : decode cX0_counted 141 = .ok (.if_icmp .ge 32, 3) := dk_162 0 32 (dk_at dksX0_counted_6 0 rfl rfl)
theorem dX0_counted_144 : decode cX0_counted 144 = .ok (.iload_n 2, 1) := dk_28 (dk_at dksX0_counted_6 3 rfl rfl)
theorem dX0_counted_145 : decode cX0_counted 145 = .ok (.iload_n 1, 1) := dk_27 (dk_at dksX0_counted_6 4 rfl rfl)
theorem dX0_counted_146 : decode cX0_counted 146 = .ok (.bipush 8, 2) := dk_16 8 (dk_at dksX0_counted_6 5 rfl rfl)
theorem dX0_counted_148 : decode cX0_counted 148 = .ok (.if_icmp .ne 16, 3) := dk_160 0 16 (dk_at dksX0_counted_6 7 rfl rfl)
theorem dX0_counted_151 : decode cX0_counted 151 = .ok (.aload_n 0, 1) := dk_42 (dk_at dksX0_counted_6 10 rfl rfl)
theorem dX0_counted_152 : decode cX0_counted 152 = .ok (.getfield 56, 3) := dk_180 0 56 (dk_at dksX0_counted_6 11 rfl rfl)
theorem dX0_counted_155 : decode cX0_counted 155 = .ok (.iload_n 3, 1) := dk_29 (dk_at dksX0_counted_6 14 rfl rfl)
theorem dX0_counted_156 : decode cX0_counted 156 = .ok (.aaload, 1) := dk_50 (dk_at dksX0_counted_6 15 rfl rfl)
theorem dX0_counted_157 : decode cX0_counted 157 = .ok (.ifnull 7, 3) := dk_198 0 7 (dk_at dksX0_counted_6 16 rfl rfl)
theorem dX0_counted_160 : decode cX0_counted 160 = .ok (.iconst 1, 1) := dk_4 (dk_at dksX0_counted_6 19 rfl rfl)
theorem dX0_counted_161 : decode cX0_counted 161 = .ok (.goto 4, 3) := dk_167 0 4 (dk_at dksX0_counted_6 20 rfl rfl)
theorem dX0_counted_164 : decode cX0_counted 164 = .ok (.iconst 0, 1) := dk_3 (dk_at dksX0_counted_6 23 rfl rfl)
theorem dX0_counted_165 : decode cX0_counted 165 = .ok (.iadd, 1) := dk_96 (dk_at dksX0_counted_7 0 rfl rfl)
theorem dX0_counted_166 : decode cX0_counted 166 = .ok (.istore_n 2, 1) := dk_61 (dk_at dksX0_counted_7 1 rfl rfl)
theorem dX0_counted_167 : decode cX0_counted 167 = .ok (.iinc 3 1, 3) := dk_132 3 1 (dk_at dksX0_counted_7 2 rfl rfl)
theorem dX0_counted_170 : decode cX0_counted 170 = .ok (.goto (-35), 3) := dk_167 255 221 (dk_at dksX0_counted_7 5 rfl rfl)
theorem dX0_counted_173 : decode cX0_counted 173 = .ok (.iload_n 1, 1) := dk_27 (dk_at dksX0_counted_7 8 rfl rfl)
theorem dX0_counted_174 : decode cX0_counted 174 = .ok (.tableswitch 53 0 3 #[30, 35, 40, 48], 30) := by decide +kernel
theorem dX0_counted_204 : decode cX0_counted 204 = .ok (.aload_n 0, 1) := dk_42 (dk_at dksX0_counted_9 0 rfl rfl)
theorem dX0_counted_205 : decode cX0_counted 205 = .ok (.getfield 119, 3) := dk_180 0 119 (dk_at dksX0_counted_9 1 rfl rfl)
theorem dX0_counted_208 : decode cX0_counted 208 = .ok (.ireturn, 1) := dk_172 (dk_at dksX0_counted_9 4 rfl rfl)
theorem dX0_counted_209 : decode cX0_counted 209 = .ok (.aload_n 0, 1) := dk_42 (dk_at dksX0_counted_9 5 rfl rfl)
theorem dX0_counted_210 : decode cX0_counted 210 = .ok (.getfield 122, 3) := dk_180 0 122 (dk_at dksX0_counted_9 6 rfl rfl)
theorem dX0_counted_213 : decode cX0_counted 213 = .ok (.ireturn, 1) := dk_172 (dk_at dksX0_counted_9 9 rfl rfl)
theorem dX0_counted_214 : decode cX0_counted 214 = .ok (.aload_n 0, 1) := dk_42 (dk_at dksX0_counted_9 10 rfl rfl)
theorem dX0_counted_215 : decode cX0_counted 215 = .ok (.invokevirtual 236, 3) := dk_182 0 236 (dk_at dksX0_counted_9 11 rfl rfl)
theorem dX0_counted_218 : decode cX0_counted 218 = .ok (.invokestatic 239, 3) := dk_184 0 239 (dk_at dksX0_counted_9 14 rfl rfl)
theorem dX0_counted_221 : decode cX0_counted 221 = .ok (.ireturn, 1) := dk_172 (dk_at dksX0_counted_9 17 rfl rfl)
theorem dX0_counted_222 : decode cX0_counted 222 = .ok (.aload_n 0, 1) := dk_42 (dk_at dksX0_counted_9 18 rfl rfl)
theorem dX0_counted_223 : decode cX0_counted 223 = .ok (.getfield 176, 3) := dk_180 0 176 (dk_at dksX0_counted_9 19 rfl rfl)
theorem dX0_counted_226 : decode cX0_counted 226 = .ok (.ireturn, 1) := dk_172 (dk_at dksX0_counted_9 22 rfl rfl)
theorem dX0_counted_227 : decode cX0_counted 227 = .ok (.iload_n 2, 1) := dk_28 (dk_at dksX0_counted_9 23 rfl rfl)
theorem dX0_counted_228 : decode cX0_counted 228 = .ok (.ireturn, 1) := dk_172 (dk_at dksX0_counted_10 0 rfl rfl)
abbrev cX0_finding : ByteArray := prog_1_method_97_code
def yX0_finding : MethodName := ⟨RX0, "finding", "()I"⟩
theorem dX0_finding_0 : decode cX0_finding 0 = .ok (.aload_n 0, 1) := by decide +kernel
theorem dX0_finding_1 : decode cX0_finding 1 = .ok (.getfield 3, 3) := by decide +kernel
theorem dX0_finding_4 : decode cX0_finding 4 = .ok (.ireturn, 1) := by decide +kernel
abbrev cX0_findings : ByteArray := prog_1_method_98_code
def yX0_findings : MethodName := ⟨RX0, "findings", "(I)I"⟩
def dkwX0_findings_0 : List UInt8 := [27, 4, 8, 184, 0, 66, 153, 0, 12, 42, 180, 0, 7, 27, 46, 167, 0, 4, 2, 172]
abbrev dktX0_findings_0 : List UInt8 := dkwX0_findings_0 ++ []
theorem dksX0_findings_0 : cX0_findings.data.toList.drop 0 = dktX0_findings_0 := by decide +kernel
theorem dX0_findings_0 : decode cX0_findings 0 = .ok (.iload_n 1, 1) := dk_27 (dk_at dksX0_findings_0 0 rfl rfl)
theorem dX0_findings_1 : decode cX0_findings 1 = .ok (.iconst 1, 1) := dk_4 (dk_at dksX0_findings_0 1 rfl rfl)
theorem dX0_findings_2 : decode cX0_findings 2 = .ok (.iconst 5, 1) := dk_8 (dk_at dksX0_findings_0 2 rfl rfl)
theorem dX0_findings_3 : decode cX0_findings 3 = .ok (.invokestatic 66, 3) := dk_184 0 66 (dk_at dksX0_findings_0 3 rfl rfl)
theorem dX0_findings_6 : decode cX0_findings 6 = .ok (.ifCond .eq 12, 3) := dk_153 0 12 (dk_at dksX0_findings_0 6 rfl rfl)
theorem dX0_findings_9 : decode cX0_findings 9 = .ok (.aload_n 0, 1) := dk_42 (dk_at dksX0_findings_0 9 rfl rfl)
theorem dX0_findings_10 : decode cX0_findings 10 = .ok (.getfield 7, 3) := dk_180 0 7 (dk_at dksX0_findings_0 10 rfl rfl)
theorem dX0_findings_13 : decode cX0_findings 13 = .ok (.iload_n 1, 1) := dk_27 (dk_at dksX0_findings_0 13 rfl rfl)
theorem dX0_findings_14 : decode cX0_findings 14 = .ok (.iaload, 1) := dk_46 (dk_at dksX0_findings_0 14 rfl rfl)
theorem dX0_findings_15 : decode cX0_findings 15 = .ok (.goto 4, 3) := dk_167 0 4 (dk_at dksX0_findings_0 15 rfl rfl)
theorem dX0_findings_18 : decode cX0_findings 18 = .ok (.iconst (-1), 1) := dk_2 (dk_at dksX0_findings_0 18 rfl rfl)
theorem dX0_findings_19 : decode cX0_findings 19 = .ok (.ireturn, 1) := dk_172 (dk_at dksX0_findings_0 19 rfl rfl)
abbrev cX0_digest : ByteArray := prog_1_method_101_code
def yX0_digest : MethodName := ⟨RX0, "digest", "()J"⟩
def dkwX0_digest_7 : List UInt8 := [42, 180, 1, 82, 173]
abbrev dktX0_digest_7 : List UInt8 := dkwX0_digest_7 ++ []
def dkwX0_digest_6 : List UInt8 := [190, 162, 0, 17, 42, 44, 29, 51, 133, 182, 1, 85, 132, 3, 1, 167, 255, 235, 132, 1, 1, 167, 255, 198]
abbrev dktX0_digest_6 : List UInt8 := dkwX0_digest_6 ++ dktX0_digest_7
def dkwX0_digest_5 : List UInt8 := [44, 199, 0, 9, 20, 1, 5, 167, 0, 6, 44, 190, 133, 182, 1, 85, 3, 62, 44, 198, 0, 23, 29, 44]
abbrev dktX0_digest_5 : List UInt8 := dkwX0_digest_5 ++ dktX0_digest_6
def dkwX0_digest_4 : List UInt8 := [167, 255, 235, 132, 1, 1, 167, 255, 197, 3, 60, 27, 7, 162, 0, 59, 42, 180, 0, 31, 27, 50, 77, 42]
abbrev dktX0_digest_4 : List UInt8 := dkwX0_digest_4 ++ dktX0_digest_5
def dkwX0_digest_3 : List UInt8 := [62, 44, 198, 0, 23, 29, 44, 190, 162, 0, 17, 42, 44, 29, 46, 133, 182, 1, 85, 132, 3, 1]
abbrev dktX0_digest_3 : List UInt8 := dkwX0_digest_3 ++ dktX0_digest_4
def dkwX0_digest_2 : List UInt8 := [180, 0, 25, 27, 50, 77, 42, 44, 199, 0, 9, 20, 1, 5, 167, 0, 6, 44, 190, 133, 182, 1, 85, 3]
abbrev dktX0_digest_2 : List UInt8 := dkwX0_digest_2 ++ dktX0_digest_3
def dkwX0_digest_1 : List UInt8 := [182, 1, 85, 132, 1, 1, 167, 255, 237, 42, 182, 1, 91, 3, 60, 27, 16, 6, 162, 0, 59, 42]
abbrev dktX0_digest_1 : List UInt8 := dkwX0_digest_1 ++ dktX0_digest_2
def dkwX0_digest_0 : List UInt8 := [42, 20, 1, 89, 181, 1, 82, 3, 60, 27, 16, 9, 162, 0, 19, 42, 42, 27, 182, 1, 77, 133]
abbrev dktX0_digest_0 : List UInt8 := dkwX0_digest_0 ++ dktX0_digest_1
theorem dksX0_digest_0 : cX0_digest.data.toList.drop 0 = dktX0_digest_0 := by decide +kernel
theorem dksX0_digest_1 : cX0_digest.data.toList.drop 22 = dktX0_digest_1 := dk_seg dksX0_digest_0 22 rfl rfl
theorem dksX0_digest_2 : cX0_digest.data.toList.drop 44 = dktX0_digest_2 := dk_seg dksX0_digest_1 22 rfl rfl
theorem dksX0_digest_3 : cX0_digest.data.toList.drop 68 = dktX0_digest_3 := dk_seg dksX0_digest_2 24 rfl rfl
theorem dksX0_digest_4 : cX0_digest.data.toList.drop 90 = dktX0_digest_4 := dk_seg dksX0_digest_3 22 rfl rfl
theorem dksX0_digest_5 : cX0_digest.data.toList.drop 114 = dktX0_digest_5 := dk_seg dksX0_digest_4 24 rfl rfl
theorem dksX0_digest_6 : cX0_digest.data.toList.drop 138 = dktX0_digest_6 := dk_seg dksX0_digest_5 24 rfl rfl
theorem dksX0_digest_7 : cX0_digest.data.toList.drop 162 = dktX0_digest_7 := dk_seg dksX0_digest_6 24 rfl rfl
theorem dX0_digest_0 : decode cX0_digest 0 = .ok (.aload_n 0, 1) := dk_42 (dk_at dksX0_digest_0 0 rfl rfl)
theorem dX0_digest_1 : decode cX0_digest 1 = .ok (.ldc2_w 345, 3) := dk_20 1 89 (dk_at dksX0_digest_0 1 rfl rfl)
theorem dX0_digest_4 : decode cX0_digest 4 = .ok (.putfield 338, 3) := dk_181 1 82 (dk_at dksX0_digest_0 4 rfl rfl)
theorem dX0_digest_7 : decode cX0_digest 7 = .ok (.iconst 0, 1) := dk_3 (dk_at dksX0_digest_0 7 rfl rfl)
theorem dX0_digest_8 : decode cX0_digest 8 = .ok (.istore_n 1, 1) := dk_60 (dk_at dksX0_digest_0 8 rfl rfl)
theorem dX0_digest_9 : decode cX0_digest 9 = .ok (.iload_n 1, 1) := dk_27 (dk_at dksX0_digest_0 9 rfl rfl)
theorem dX0_digest_10 : decode cX0_digest 10 = .ok (.bipush 9, 2) := dk_16 9 (dk_at dksX0_digest_0 10 rfl rfl)
theorem dX0_digest_12 : decode cX0_digest 12 = .ok (.if_icmp .ge 19, 3) := dk_162 0 19 (dk_at dksX0_digest_0 12 rfl rfl)
theorem dX0_digest_15 : decode cX0_digest 15 = .ok (.aload_n 0, 1) := dk_42 (dk_at dksX0_digest_0 15 rfl rfl)
theorem dX0_digest_16 : decode cX0_digest 16 = .ok (.aload_n 0, 1) := dk_42 (dk_at dksX0_digest_0 16 rfl rfl)
theorem dX0_digest_17 : decode cX0_digest 17 = .ok (.iload_n 1, 1) := dk_27 (dk_at dksX0_digest_0 17 rfl rfl)
theorem dX0_digest_18 : decode cX0_digest 18 = .ok (.invokevirtual 333, 3) := dk_182 1 77 (dk_at dksX0_digest_0 18 rfl rfl)
theorem dX0_digest_21 : decode cX0_digest 21 = .ok (.i2l, 1) := dk_133 (dk_at dksX0_digest_0 21 rfl rfl)
theorem dX0_digest_22 : decode cX0_digest 22 = .ok (.invokevirtual 341, 3) := dk_182 1 85 (dk_at dksX0_digest_1 0 rfl rfl)
theorem dX0_digest_25 : decode cX0_digest 25 = .ok (.iinc 1 1, 3) := dk_132 1 1 (dk_at dksX0_digest_1 3 rfl rfl)
theorem dX0_digest_28 : decode cX0_digest 28 = .ok (.goto (-19), 3) := dk_167 255 237 (dk_at dksX0_digest_1 6 rfl rfl)
theorem dX0_digest_31 : decode cX0_digest 31 = .ok (.aload_n 0, 1) := dk_42 (dk_at dksX0_digest_1 9 rfl rfl)
theorem dX0_digest_32 : decode cX0_digest 32 = .ok (.invokevirtual 347, 3) := dk_182 1 91 (dk_at dksX0_digest_1 10 rfl rfl)
theorem dX0_digest_35 : decode cX0_digest 35 = .ok (.iconst 0, 1) := dk_3 (dk_at dksX0_digest_1 13 rfl rfl)
theorem dX0_digest_36 : decode cX0_digest 36 = .ok (.istore_n 1, 1) := dk_60 (dk_at dksX0_digest_1 14 rfl rfl)
theorem dX0_digest_37 : decode cX0_digest 37 = .ok (.iload_n 1, 1) := dk_27 (dk_at dksX0_digest_1 15 rfl rfl)
theorem dX0_digest_38 : decode cX0_digest 38 = .ok (.bipush 6, 2) := dk_16 6 (dk_at dksX0_digest_1 16 rfl rfl)
theorem dX0_digest_40 : decode cX0_digest 40 = .ok (.if_icmp .ge 59, 3) := dk_162 0 59 (dk_at dksX0_digest_1 18 rfl rfl)
theorem dX0_digest_43 : decode cX0_digest 43 = .ok (.aload_n 0, 1) := dk_42 (dk_at dksX0_digest_1 21 rfl rfl)
theorem dX0_digest_44 : decode cX0_digest 44 = .ok (.getfield 25, 3) := dk_180 0 25 (dk_at dksX0_digest_2 0 rfl rfl)
theorem dX0_digest_47 : decode cX0_digest 47 = .ok (.iload_n 1, 1) := dk_27 (dk_at dksX0_digest_2 3 rfl rfl)
theorem dX0_digest_48 : decode cX0_digest 48 = .ok (.aaload, 1) := dk_50 (dk_at dksX0_digest_2 4 rfl rfl)
theorem dX0_digest_49 : decode cX0_digest 49 = .ok (.astore_n 2, 1) := dk_77 (dk_at dksX0_digest_2 5 rfl rfl)
theorem dX0_digest_50 : decode cX0_digest 50 = .ok (.aload_n 0, 1) := dk_42 (dk_at dksX0_digest_2 6 rfl rfl)
theorem dX0_digest_51 : decode cX0_digest 51 = .ok (.aload_n 2, 1) := dk_44 (dk_at dksX0_digest_2 7 rfl rfl)
theorem dX0_digest_52 : decode cX0_digest 52 = .ok (.ifnonnull 9, 3) := dk_199 0 9 (dk_at dksX0_digest_2 8 rfl rfl)
theorem dX0_digest_55 : decode cX0_digest 55 = .ok (.ldc2_w 261, 3) := dk_20 1 5 (dk_at dksX0_digest_2 11 rfl rfl)
theorem dX0_digest_58 : decode cX0_digest 58 = .ok (.goto 6, 3) := dk_167 0 6 (dk_at dksX0_digest_2 14 rfl rfl)
theorem dX0_digest_61 : decode cX0_digest 61 = .ok (.aload_n 2, 1) := dk_44 (dk_at dksX0_digest_2 17 rfl rfl)
theorem dX0_digest_62 : decode cX0_digest 62 = .ok (.arraylength, 1) := dk_190 (dk_at dksX0_digest_2 18 rfl rfl)
theorem dX0_digest_63 : decode cX0_digest 63 = .ok (.i2l, 1) := dk_133 (dk_at dksX0_digest_2 19 rfl rfl)
theorem dX0_digest_64 : decode cX0_digest 64 = .ok (.invokevirtual 341, 3) := dk_182 1 85 (dk_at dksX0_digest_2 20 rfl rfl)
theorem dX0_digest_67 : decode cX0_digest 67 = .ok (.iconst 0, 1) := dk_3 (dk_at dksX0_digest_2 23 rfl rfl)
theorem dX0_digest_68 : decode cX0_digest 68 = .ok (.istore_n 3, 1) := dk_62 (dk_at dksX0_digest_3 0 rfl rfl)
theorem dX0_digest_69 : decode cX0_digest 69 = .ok (.aload_n 2, 1) := dk_44 (dk_at dksX0_digest_3 1 rfl rfl)
theorem dX0_digest_70 : decode cX0_digest 70 = .ok (.ifnull 23, 3) := dk_198 0 23 (dk_at dksX0_digest_3 2 rfl rfl)
theorem dX0_digest_73 : decode cX0_digest 73 = .ok (.iload_n 3, 1) := dk_29 (dk_at dksX0_digest_3 5 rfl rfl)
theorem dX0_digest_74 : decode cX0_digest 74 = .ok (.aload_n 2, 1) := dk_44 (dk_at dksX0_digest_3 6 rfl rfl)
theorem dX0_digest_75 : decode cX0_digest 75 = .ok (.arraylength, 1) := dk_190 (dk_at dksX0_digest_3 7 rfl rfl)
theorem dX0_digest_76 : decode cX0_digest 76 = .ok (.if_icmp .ge 17, 3) := dk_162 0 17 (dk_at dksX0_digest_3 8 rfl rfl)
theorem dX0_digest_79 : decode cX0_digest 79 = .ok (.aload_n 0, 1) := dk_42 (dk_at dksX0_digest_3 11 rfl rfl)
theorem dX0_digest_80 : decode cX0_digest 80 = .ok (.aload_n 2, 1) := dk_44 (dk_at dksX0_digest_3 12 rfl rfl)
theorem dX0_digest_81 : decode cX0_digest 81 = .ok (.iload_n 3, 1) := dk_29 (dk_at dksX0_digest_3 13 rfl rfl)
theorem dX0_digest_82 : decode cX0_digest 82 = .ok (.iaload, 1) := dk_46 (dk_at dksX0_digest_3 14 rfl rfl)
theorem dX0_digest_83 : decode cX0_digest 83 = .ok (.i2l, 1) := dk_133 (dk_at dksX0_digest_3 15 rfl rfl)
theorem dX0_digest_84 : decode cX0_digest 84 = .ok (.invokevirtual 341, 3) := dk_182 1 85 (dk_at dksX0_digest_3 16 rfl rfl)
theorem dX0_digest_87 : decode cX0_digest 87 = .ok (.iinc 3 1, 3) := dk_132 3 1 (dk_at dksX0_digest_3 19 rfl rfl)
theorem dX0_digest_90 : decode cX0_digest 90 = .ok (.goto (-21), 3) := dk_167 255 235 (dk_at dksX0_digest_4 0 rfl rfl)
theorem dX0_digest_93 : decode cX0_digest 93 = .ok (.iinc 1 1, 3) := dk_132 1 1 (dk_at dksX0_digest_4 3 rfl rfl)
theorem dX0_digest_96 : decode cX0_digest 96 = .ok (.goto (-59), 3) := dk_167 255 197 (dk_at dksX0_digest_4 6 rfl rfl)
theorem dX0_digest_99 : decode cX0_digest 99 = .ok (.iconst 0, 1) := dk_3 (dk_at dksX0_digest_4 9 rfl rfl)
theorem dX0_digest_100 : decode cX0_digest 100 = .ok (.istore_n 1, 1) := dk_60 (dk_at dksX0_digest_4 10 rfl rfl)
theorem dX0_digest_101 : decode cX0_digest 101 = .ok (.iload_n 1, 1) := dk_27 (dk_at dksX0_digest_4 11 rfl rfl)
theorem dX0_digest_102 : decode cX0_digest 102 = .ok (.iconst 4, 1) := dk_7 (dk_at dksX0_digest_4 12 rfl rfl)
theorem dX0_digest_103 : decode cX0_digest 103 = .ok (.if_icmp .ge 59, 3) := dk_162 0 59 (dk_at dksX0_digest_4 13 rfl rfl)
theorem dX0_digest_106 : decode cX0_digest 106 = .ok (.aload_n 0, 1) := dk_42 (dk_at dksX0_digest_4 16 rfl rfl)
theorem dX0_digest_107 : decode cX0_digest 107 = .ok (.getfield 31, 3) := dk_180 0 31 (dk_at dksX0_digest_4 17 rfl rfl)
theorem dX0_digest_110 : decode cX0_digest 110 = .ok (.iload_n 1, 1) := dk_27 (dk_at dksX0_digest_4 20 rfl rfl)
theorem dX0_digest_111 : decode cX0_digest 111 = .ok (.aaload, 1) := dk_50 (dk_at dksX0_digest_4 21 rfl rfl)
theorem dX0_digest_112 : decode cX0_digest 112 = .ok (.astore_n 2, 1) := dk_77 (dk_at dksX0_digest_4 22 rfl rfl)
theorem dX0_digest_113 : decode cX0_digest 113 = .ok (.aload_n 0, 1) := dk_42 (dk_at dksX0_digest_4 23 rfl rfl)
theorem dX0_digest_114 : decode cX0_digest 114 = .ok (.aload_n 2, 1) := dk_44 (dk_at dksX0_digest_5 0 rfl rfl)
theorem dX0_digest_115 : decode cX0_digest 115 = .ok (.ifnonnull 9, 3) := dk_199 0 9 (dk_at dksX0_digest_5 1 rfl rfl)
theorem dX0_digest_118 : decode cX0_digest 118 = .ok (.ldc2_w 261, 3) := dk_20 1 5 (dk_at dksX0_digest_5 4 rfl rfl)
theorem dX0_digest_121 : decode cX0_digest 121 = .ok (.goto 6, 3) := dk_167 0 6 (dk_at dksX0_digest_5 7 rfl rfl)
theorem dX0_digest_124 : decode cX0_digest 124 = .ok (.aload_n 2, 1) := dk_44 (dk_at dksX0_digest_5 10 rfl rfl)
theorem dX0_digest_125 : decode cX0_digest 125 = .ok (.arraylength, 1) := dk_190 (dk_at dksX0_digest_5 11 rfl rfl)
theorem dX0_digest_126 : decode cX0_digest 126 = .ok (.i2l, 1) := dk_133 (dk_at dksX0_digest_5 12 rfl rfl)
theorem dX0_digest_127 : decode cX0_digest 127 = .ok (.invokevirtual 341, 3) := dk_182 1 85 (dk_at dksX0_digest_5 13 rfl rfl)
theorem dX0_digest_130 : decode cX0_digest 130 = .ok (.iconst 0, 1) := dk_3 (dk_at dksX0_digest_5 16 rfl rfl)
theorem dX0_digest_131 : decode cX0_digest 131 = .ok (.istore_n 3, 1) := dk_62 (dk_at dksX0_digest_5 17 rfl rfl)
theorem dX0_digest_132 : decode cX0_digest 132 = .ok (.aload_n 2, 1) := dk_44 (dk_at dksX0_digest_5 18 rfl rfl)
theorem dX0_digest_133 : decode cX0_digest 133 = .ok (.ifnull 23, 3) := dk_198 0 23 (dk_at dksX0_digest_5 19 rfl rfl)
theorem dX0_digest_136 : decode cX0_digest 136 = .ok (.iload_n 3, 1) := dk_29 (dk_at dksX0_digest_5 22 rfl rfl)
theorem dX0_digest_137 : decode cX0_digest 137 = .ok (.aload_n 2, 1) := dk_44 (dk_at dksX0_digest_5 23 rfl rfl)
theorem dX0_digest_138 : decode cX0_digest 138 = .ok (.arraylength, 1) := dk_190 (dk_at dksX0_digest_6 0 rfl rfl)
theorem dX0_digest_139 : decode cX0_digest 139 = .ok (.if_icmp .ge 17, 3) := dk_162 0 17 (dk_at dksX0_digest_6 1 rfl rfl)
theorem dX0_digest_142 : decode cX0_digest 142 = .ok (.aload_n 0, 1) := dk_42 (dk_at dksX0_digest_6 4 rfl rfl)
theorem dX0_digest_143 : decode cX0_digest 143 = .ok (.aload_n 2, 1) := dk_44 (dk_at dksX0_digest_6 5 rfl rfl)
theorem dX0_digest_144 : decode cX0_digest 144 = .ok (.iload_n 3, 1) := dk_29 (dk_at dksX0_digest_6 6 rfl rfl)
theorem dX0_digest_145 : decode cX0_digest 145 = .ok (.baload, 1) := dk_51 (dk_at dksX0_digest_6 7 rfl rfl)
theorem dX0_digest_146 : decode cX0_digest 146 = .ok (.i2l, 1) := dk_133 (dk_at dksX0_digest_6 8 rfl rfl)
theorem dX0_digest_147 : decode cX0_digest 147 = .ok (.invokevirtual 341, 3) := dk_182 1 85 (dk_at dksX0_digest_6 9 rfl rfl)
theorem dX0_digest_150 : decode cX0_digest 150 = .ok (.iinc 3 1, 3) := dk_132 3 1 (dk_at dksX0_digest_6 12 rfl rfl)
theorem dX0_digest_153 : decode cX0_digest 153 = .ok (.goto (-21), 3) := dk_167 255 235 (dk_at dksX0_digest_6 15 rfl rfl)
theorem dX0_digest_156 : decode cX0_digest 156 = .ok (.iinc 1 1, 3) := dk_132 1 1 (dk_at dksX0_digest_6 18 rfl rfl)
theorem dX0_digest_159 : decode cX0_digest 159 = .ok (.goto (-58), 3) := dk_167 255 198 (dk_at dksX0_digest_6 21 rfl rfl)
theorem dX0_digest_162 : decode cX0_digest 162 = .ok (.aload_n 0, 1) := dk_42 (dk_at dksX0_digest_7 0 rfl rfl)
theorem dX0_digest_163 : decode cX0_digest 163 = .ok (.getfield 338, 3) := dk_180 1 82 (dk_at dksX0_digest_7 1 rfl rfl)
theorem dX0_digest_166 : decode cX0_digest 166 = .ok (.lreturn, 1) := dk_173 (dk_at dksX0_digest_7 4 rfl rfl)
abbrev cX0_add : ByteArray := prog_1_method_99_code
def yX0_add : MethodName := ⟨RX0, "add", "(J)V"⟩
def dkwX0_add_0 : List UInt8 := [42, 20, 1, 80, 42, 180, 1, 82, 105, 31, 97, 181, 1, 82, 177]
abbrev dktX0_add_0 : List UInt8 := dkwX0_add_0 ++ []
theorem dksX0_add_0 : cX0_add.data.toList.drop 0 = dktX0_add_0 := by decide +kernel
theorem dX0_add_0 : decode cX0_add 0 = .ok (.aload_n 0, 1) := dk_42 (dk_at dksX0_add_0 0 rfl rfl)
theorem dX0_add_1 : decode cX0_add 1 = .ok (.ldc2_w 336, 3) := dk_20 1 80 (dk_at dksX0_add_0 1 rfl rfl)
theorem dX0_add_4 : decode cX0_add 4 = .ok (.aload_n 0, 1) := dk_42 (dk_at dksX0_add_0 4 rfl rfl)
theorem dX0_add_5 : decode cX0_add 5 = .ok (.getfield 338, 3) := dk_180 1 82 (dk_at dksX0_add_0 5 rfl rfl)
theorem dX0_add_8 : decode cX0_add 8 = .ok (.lmul, 1) := dk_105 (dk_at dksX0_add_0 8 rfl rfl)
theorem dX0_add_9 : decode cX0_add 9 = .ok (.lload_n 1, 1) := dk_31 (dk_at dksX0_add_0 9 rfl rfl)
theorem dX0_add_10 : decode cX0_add 10 = .ok (.ladd, 1) := dk_97 (dk_at dksX0_add_0 10 rfl rfl)
theorem dX0_add_11 : decode cX0_add 11 = .ok (.putfield 338, 3) := dk_181 1 82 (dk_at dksX0_add_0 11 rfl rfl)
theorem dX0_add_14 : decode cX0_add 14 = .ok (.return_, 1) := dk_177 (dk_at dksX0_add_0 14 rfl rfl)
abbrev cX0_addCourt : ByteArray := prog_1_method_100_code
def yX0_addCourt : MethodName := ⟨RX0, "addCourt", "()V"⟩
def dkwX0_addCourt_6 : List UInt8 := [50, 3, 46, 133, 182, 1, 85, 132, 1, 1, 167, 255, 216, 177]
abbrev dktX0_addCourt_6 : List UInt8 := dkwX0_addCourt_6 ++ []
def dkwX0_addCourt_5 : List UInt8 := [162, 0, 37, 42, 42, 180, 0, 56, 27, 50, 199, 0, 9, 20, 1, 5, 167, 0, 12, 42, 180, 0, 56, 27]
abbrev dktX0_addCourt_5 : List UInt8 := dkwX0_addCourt_5 ++ dktX0_addCourt_6
def dkwX0_addCourt_4 : List UInt8 := [133, 182, 1, 85, 132, 2, 1, 167, 255, 237, 132, 1, 1, 167, 255, 221, 3, 60, 27, 42, 180, 0, 56, 190]
abbrev dktX0_addCourt_4 : List UInt8 := dkwX0_addCourt_4 ++ dktX0_addCourt_5
def dkwX0_addCourt_3 : List UInt8 := [3, 60, 27, 42, 180, 0, 122, 162, 0, 33, 3, 61, 28, 8, 162, 0, 20, 42, 42, 27, 28, 182, 0, 212]
abbrev dktX0_addCourt_3 : List UInt8 := dkwX0_addCourt_3 ++ dktX0_addCourt_4
def dkwX0_addCourt_2 : List UInt8 := [180, 0, 119, 104, 162, 0, 20, 42, 42, 180, 0, 35, 27, 46, 133, 182, 1, 85, 132, 1, 1, 167, 255, 232]
abbrev dktX0_addCourt_2 : List UInt8 := dkwX0_addCourt_2 ++ dktX0_addCourt_3
def dkwX0_addCourt_1 : List UInt8 := [180, 0, 44, 8, 27, 96, 46, 133, 182, 1, 85, 132, 1, 1, 167, 255, 222, 3, 60, 27, 8, 42]
abbrev dktX0_addCourt_1 : List UInt8 := dkwX0_addCourt_1 ++ dktX0_addCourt_2
def dkwX0_addCourt_0 : List UInt8 := [3, 60, 27, 7, 162, 0, 35, 42, 42, 180, 0, 44, 4, 27, 96, 46, 133, 182, 1, 85, 42, 42]
abbrev dktX0_addCourt_0 : List UInt8 := dkwX0_addCourt_0 ++ dktX0_addCourt_1
theorem dksX0_addCourt_0 : cX0_addCourt.data.toList.drop 0 = dktX0_addCourt_0 := by decide +kernel
theorem dksX0_addCourt_1 : cX0_addCourt.data.toList.drop 22 = dktX0_addCourt_1 := dk_seg dksX0_addCourt_0 22 rfl rfl
theorem dksX0_addCourt_2 : cX0_addCourt.data.toList.drop 44 = dktX0_addCourt_2 := dk_seg dksX0_addCourt_1 22 rfl rfl
theorem dksX0_addCourt_3 : cX0_addCourt.data.toList.drop 68 = dktX0_addCourt_3 := dk_seg dksX0_addCourt_2 24 rfl rfl
theorem dksX0_addCourt_4 : cX0_addCourt.data.toList.drop 92 = dktX0_addCourt_4 := dk_seg dksX0_addCourt_3 24 rfl rfl
theorem dksX0_addCourt_5 : cX0_addCourt.data.toList.drop 116 = dktX0_addCourt_5 := dk_seg dksX0_addCourt_4 24 rfl rfl
theorem dksX0_addCourt_6 : cX0_addCourt.data.toList.drop 140 = dktX0_addCourt_6 := dk_seg dksX0_addCourt_5 24 rfl rfl
theorem dX0_addCourt_0 : decode cX0_addCourt 0 = .ok (.iconst 0, 1) := dk_3 (dk_at dksX0_addCourt_0 0 rfl rfl)
theorem dX0_addCourt_1 : decode cX0_addCourt 1 = .ok (.istore_n 1, 1) := dk_60 (dk_at dksX0_addCourt_0 1 rfl rfl)
theorem dX0_addCourt_2 : decode cX0_addCourt 2 = .ok (.iload_n 1, 1) := dk_27 (dk_at dksX0_addCourt_0 2 rfl rfl)
theorem dX0_addCourt_3 : decode cX0_addCourt 3 = .ok (.iconst 4, 1) := dk_7 (dk_at dksX0_addCourt_0 3 rfl rfl)
theorem dX0_addCourt_4 : decode cX0_addCourt 4 = .ok (.if_icmp .ge 35, 3) := dk_162 0 35 (dk_at dksX0_addCourt_0 4 rfl rfl)
theorem dX0_addCourt_7 : decode cX0_addCourt 7 = .ok (.aload_n 0, 1) := dk_42 (dk_at dksX0_addCourt_0 7 rfl rfl)
theorem dX0_addCourt_8 : decode cX0_addCourt 8 = .ok (.aload_n 0, 1) := dk_42 (dk_at dksX0_addCourt_0 8 rfl rfl)
theorem dX0_addCourt_9 : decode cX0_addCourt 9 = .ok (.getfield 44, 3) := dk_180 0 44 (dk_at dksX0_addCourt_0 9 rfl rfl)
theorem dX0_addCourt_12 : decode cX0_addCourt 12 = .ok (.iconst 1, 1) := dk_4 (dk_at dksX0_addCourt_0 12 rfl rfl)
theorem dX0_addCourt_13 : decode cX0_addCourt 13 = .ok (.iload_n 1, 1) := dk_27 (dk_at dksX0_addCourt_0 13 rfl rfl)
theorem dX0_addCourt_14 : decode cX0_addCourt 14 = .ok (.iadd, 1) := dk_96 (dk_at dksX0_addCourt_0 14 rfl rfl)
theorem dX0_addCourt_15 : decode cX0_addCourt 15 = .ok (.iaload, 1) := dk_46 (dk_at dksX0_addCourt_0 15 rfl rfl)
theorem dX0_addCourt_16 : decode cX0_addCourt 16 = .ok (.i2l, 1) := dk_133 (dk_at dksX0_addCourt_0 16 rfl rfl)
theorem dX0_addCourt_17 : decode cX0_addCourt 17 = .ok (.invokevirtual 341, 3) := dk_182 1 85 (dk_at dksX0_addCourt_0 17 rfl rfl)
theorem dX0_addCourt_20 : decode cX0_addCourt 20 = .ok (.aload_n 0, 1) := dk_42 (dk_at dksX0_addCourt_0 20 rfl rfl)
theorem dX0_addCourt_21 : decode cX0_addCourt 21 = .ok (.aload_n 0, 1) := dk_42 (dk_at dksX0_addCourt_0 21 rfl rfl)
theorem dX0_addCourt_22 : decode cX0_addCourt 22 = .ok (.getfield 44, 3) := dk_180 0 44 (dk_at dksX0_addCourt_1 0 rfl rfl)
theorem dX0_addCourt_25 : decode cX0_addCourt 25 = .ok (.iconst 5, 1) := dk_8 (dk_at dksX0_addCourt_1 3 rfl rfl)
theorem dX0_addCourt_26 : decode cX0_addCourt 26 = .ok (.iload_n 1, 1) := dk_27 (dk_at dksX0_addCourt_1 4 rfl rfl)
theorem dX0_addCourt_27 : decode cX0_addCourt 27 = .ok (.iadd, 1) := dk_96 (dk_at dksX0_addCourt_1 5 rfl rfl)
theorem dX0_addCourt_28 : decode cX0_addCourt 28 = .ok (.iaload, 1) := dk_46 (dk_at dksX0_addCourt_1 6 rfl rfl)
theorem dX0_addCourt_29 : decode cX0_addCourt 29 = .ok (.i2l, 1) := dk_133 (dk_at dksX0_addCourt_1 7 rfl rfl)
theorem dX0_addCourt_30 : decode cX0_addCourt 30 = .ok (.invokevirtual 341, 3) := dk_182 1 85 (dk_at dksX0_addCourt_1 8 rfl rfl)
theorem dX0_addCourt_33 : decode cX0_addCourt 33 = .ok (.iinc 1 1, 3) := dk_132 1 1 (dk_at dksX0_addCourt_1 11 rfl rfl)
theorem dX0_addCourt_36 : decode cX0_addCourt 36 = .ok (.goto (-34), 3) := dk_167 255 222 (dk_at dksX0_addCourt_1 14 rfl rfl)
theorem dX0_addCourt_39 : decode cX0_addCourt 39 = .ok (.iconst 0, 1) := dk_3 (dk_at dksX0_addCourt_1 17 rfl rfl)
theorem dX0_addCourt_40 : decode cX0_addCourt 40 = .ok (.istore_n 1, 1) := dk_60 (dk_at dksX0_addCourt_1 18 rfl rfl)
theorem dX0_addCourt_41 : decode cX0_addCourt 41 = .ok (.iload_n 1, 1) := dk_27 (dk_at dksX0_addCourt_1 19 rfl rfl)
theorem dX0_addCourt_42 : decode cX0_addCourt 42 = .ok (.iconst 5, 1) := dk_8 (dk_at dksX0_addCourt_1 20 rfl rfl)
theorem dX0_addCourt_43 : decode cX0_addCourt 43 = .ok (.aload_n 0, 1) := dk_42 (dk_at dksX0_addCourt_1 21 rfl rfl)
theorem dX0_addCourt_44 : decode cX0_addCourt 44 = .ok (.getfield 119, 3) := dk_180 0 119 (dk_at dksX0_addCourt_2 0 rfl rfl)
theorem dX0_addCourt_47 : decode cX0_addCourt 47 = .ok (.imul, 1) := dk_104 (dk_at dksX0_addCourt_2 3 rfl rfl)
theorem dX0_addCourt_48 : decode cX0_addCourt 48 = .ok (.if_icmp .ge 20, 3) := dk_162 0 20 (dk_at dksX0_addCourt_2 4 rfl rfl)
theorem dX0_addCourt_51 : decode cX0_addCourt 51 = .ok (.aload_n 0, 1) := dk_42 (dk_at dksX0_addCourt_2 7 rfl rfl)
theorem dX0_addCourt_52 : decode cX0_addCourt 52 = .ok (.aload_n 0, 1) := dk_42 (dk_at dksX0_addCourt_2 8 rfl rfl)
theorem dX0_addCourt_53 : decode cX0_addCourt 53 = .ok (.getfield 35, 3) := dk_180 0 35 (dk_at dksX0_addCourt_2 9 rfl rfl)
theorem dX0_addCourt_56 : decode cX0_addCourt 56 = .ok (.iload_n 1, 1) := dk_27 (dk_at dksX0_addCourt_2 12 rfl rfl)
theorem dX0_addCourt_57 : decode cX0_addCourt 57 = .ok (.iaload, 1) := dk_46 (dk_at dksX0_addCourt_2 13 rfl rfl)
theorem dX0_addCourt_58 : decode cX0_addCourt 58 = .ok (.i2l, 1) := dk_133 (dk_at dksX0_addCourt_2 14 rfl rfl)
theorem dX0_addCourt_59 : decode cX0_addCourt 59 = .ok (.invokevirtual 341, 3) := dk_182 1 85 (dk_at dksX0_addCourt_2 15 rfl rfl)
theorem dX0_addCourt_62 : decode cX0_addCourt 62 = .ok (.iinc 1 1, 3) := dk_132 1 1 (dk_at dksX0_addCourt_2 18 rfl rfl)
theorem dX0_addCourt_65 : decode cX0_addCourt 65 = .ok (.goto (-24), 3) := dk_167 255 232 (dk_at dksX0_addCourt_2 21 rfl rfl)
theorem dX0_addCourt_68 : decode cX0_addCourt 68 = .ok (.iconst 0, 1) := dk_3 (dk_at dksX0_addCourt_3 0 rfl rfl)
theorem dX0_addCourt_69 : decode cX0_addCourt 69 = .ok (.istore_n 1, 1) := dk_60 (dk_at dksX0_addCourt_3 1 rfl rfl)
theorem dX0_addCourt_70 : decode cX0_addCourt 70 = .ok (.iload_n 1, 1) := dk_27 (dk_at dksX0_addCourt_3 2 rfl rfl)
theorem dX0_addCourt_71 : decode cX0_addCourt 71 = .ok (.aload_n 0, 1) := dk_42 (dk_at dksX0_addCourt_3 3 rfl rfl)
theorem dX0_addCourt_72 : decode cX0_addCourt 72 = .ok (.getfield 122, 3) := dk_180 0 122 (dk_at dksX0_addCourt_3 4 rfl rfl)
theorem dX0_addCourt_75 : decode cX0_addCourt 75 = .ok (.if_icmp .ge 33, 3) := dk_162 0 33 (dk_at dksX0_addCourt_3 7 rfl rfl)
theorem dX0_addCourt_78 : decode cX0_addCourt 78 = .ok (.iconst 0, 1) := dk_3 (dk_at dksX0_addCourt_3 10 rfl rfl)
theorem dX0_addCourt_79 : decode cX0_addCourt 79 = .ok (.istore_n 2, 1) := dk_61 (dk_at dksX0_addCourt_3 11 rfl rfl)
theorem dX0_addCourt_80 : decode cX0_addCourt 80 = .ok (.iload_n 2, 1) := dk_28 (dk_at dksX0_addCourt_3 12 rfl rfl)
theorem dX0_addCourt_81 : decode cX0_addCourt 81 = .ok (.iconst 5, 1) := dk_8 (dk_at dksX0_addCourt_3 13 rfl rfl)
theorem dX0_addCourt_82 : decode cX0_addCourt 82 = .ok (.if_icmp .ge 20, 3) := dk_162 0 20 (dk_at dksX0_addCourt_3 14 rfl rfl)
theorem dX0_addCourt_85 : decode cX0_addCourt 85 = .ok (.aload_n 0, 1) := dk_42 (dk_at dksX0_addCourt_3 17 rfl rfl)
theorem dX0_addCourt_86 : decode cX0_addCourt 86 = .ok (.aload_n 0, 1) := dk_42 (dk_at dksX0_addCourt_3 18 rfl rfl)
theorem dX0_addCourt_87 : decode cX0_addCourt 87 = .ok (.iload_n 1, 1) := dk_27 (dk_at dksX0_addCourt_3 19 rfl rfl)
theorem dX0_addCourt_88 : decode cX0_addCourt 88 = .ok (.iload_n 2, 1) := dk_28 (dk_at dksX0_addCourt_3 20 rfl rfl)
theorem dX0_addCourt_89 : decode cX0_addCourt 89 = .ok (.invokevirtual 212, 3) := dk_182 0 212 (dk_at dksX0_addCourt_3 21 rfl rfl)
theorem dX0_addCourt_92 : decode cX0_addCourt 92 = .ok (.i2l, 1) := dk_133 (dk_at dksX0_addCourt_4 0 rfl rfl)
theorem dX0_addCourt_93 : decode cX0_addCourt 93 = .ok (.invokevirtual 341, 3) := dk_182 1 85 (dk_at dksX0_addCourt_4 1 rfl rfl)
theorem dX0_addCourt_96 : decode cX0_addCourt 96 = .ok (.iinc 2 1, 3) := dk_132 2 1 (dk_at dksX0_addCourt_4 4 rfl rfl)
theorem dX0_addCourt_99 : decode cX0_addCourt 99 = .ok (.goto (-19), 3) := dk_167 255 237 (dk_at dksX0_addCourt_4 7 rfl rfl)
theorem dX0_addCourt_102 : decode cX0_addCourt 102 = .ok (.iinc 1 1, 3) := dk_132 1 1 (dk_at dksX0_addCourt_4 10 rfl rfl)
theorem dX0_addCourt_105 : decode cX0_addCourt 105 = .ok (.goto (-35), 3) := dk_167 255 221 (dk_at dksX0_addCourt_4 13 rfl rfl)
theorem dX0_addCourt_108 : decode cX0_addCourt 108 = .ok (.iconst 0, 1) := dk_3 (dk_at dksX0_addCourt_4 16 rfl rfl)
theorem dX0_addCourt_109 : decode cX0_addCourt 109 = .ok (.istore_n 1, 1) := dk_60 (dk_at dksX0_addCourt_4 17 rfl rfl)
theorem dX0_addCourt_110 : decode cX0_addCourt 110 = .ok (.iload_n 1, 1) := dk_27 (dk_at dksX0_addCourt_4 18 rfl rfl)
theorem dX0_addCourt_111 : decode cX0_addCourt 111 = .ok (.aload_n 0, 1) := dk_42 (dk_at dksX0_addCourt_4 19 rfl rfl)
theorem dX0_addCourt_112 : decode cX0_addCourt 112 = .ok (.getfield 56, 3) := dk_180 0 56 (dk_at dksX0_addCourt_4 20 rfl rfl)
theorem dX0_addCourt_115 : decode cX0_addCourt 115 = .ok (.arraylength, 1) := dk_190 (dk_at dksX0_addCourt_4 23 rfl rfl)
theorem dX0_addCourt_116 : decode cX0_addCourt 116 = .ok (.if_icmp .ge 37, 3) := dk_162 0 37 (dk_at dksX0_addCourt_5 0 rfl rfl)
theorem dX0_addCourt_119 : decode cX0_addCourt 119 = .ok (.aload_n 0, 1) := dk_42 (dk_at dksX0_addCourt_5 3 rfl rfl)
theorem dX0_addCourt_120 : decode cX0_addCourt 120 = .ok (.aload_n 0, 1) := dk_42 (dk_at dksX0_addCourt_5 4 rfl rfl)
theorem dX0_addCourt_121 : decode cX0_addCourt 121 = .ok (.getfield 56, 3) := dk_180 0 56 (dk_at dksX0_addCourt_5 5 rfl rfl)
theorem dX0_addCourt_124 : decode cX0_addCourt 124 = .ok (.iload_n 1, 1) := dk_27 (dk_at dksX0_addCourt_5 8 rfl rfl)
theorem dX0_addCourt_125 : decode cX0_addCourt 125 = .ok (.aaload, 1) := dk_50 (dk_at dksX0_addCourt_5 9 rfl rfl)
theorem dX0_addCourt_126 : decode cX0_addCourt 126 = .ok (.ifnonnull 9, 3) := dk_199 0 9 (dk_at dksX0_addCourt_5 10 rfl rfl)
theorem dX0_addCourt_129 : decode cX0_addCourt 129 = .ok (.ldc2_w 261, 3) := dk_20 1 5 (dk_at dksX0_addCourt_5 13 rfl rfl)
theorem dX0_addCourt_132 : decode cX0_addCourt 132 = .ok (.goto 12, 3) := dk_167 0 12 (dk_at dksX0_addCourt_5 16 rfl rfl)
theorem dX0_addCourt_135 : decode cX0_addCourt 135 = .ok (.aload_n 0, 1) := dk_42 (dk_at dksX0_addCourt_5 19 rfl rfl)
theorem dX0_addCourt_136 : decode cX0_addCourt 136 = .ok (.getfield 56, 3) := dk_180 0 56 (dk_at dksX0_addCourt_5 20 rfl rfl)
theorem dX0_addCourt_139 : decode cX0_addCourt 139 = .ok (.iload_n 1, 1) := dk_27 (dk_at dksX0_addCourt_5 23 rfl rfl)
theorem dX0_addCourt_140 : decode cX0_addCourt 140 = .ok (.aaload, 1) := dk_50 (dk_at dksX0_addCourt_6 0 rfl rfl)
theorem dX0_addCourt_141 : decode cX0_addCourt 141 = .ok (.iconst 0, 1) := dk_3 (dk_at dksX0_addCourt_6 1 rfl rfl)
theorem dX0_addCourt_142 : decode cX0_addCourt 142 = .ok (.iaload, 1) := dk_46 (dk_at dksX0_addCourt_6 2 rfl rfl)
theorem dX0_addCourt_143 : decode cX0_addCourt 143 = .ok (.i2l, 1) := dk_133 (dk_at dksX0_addCourt_6 3 rfl rfl)
theorem dX0_addCourt_144 : decode cX0_addCourt 144 = .ok (.invokevirtual 341, 3) := dk_182 1 85 (dk_at dksX0_addCourt_6 4 rfl rfl)
theorem dX0_addCourt_147 : decode cX0_addCourt 147 = .ok (.iinc 1 1, 3) := dk_132 1 1 (dk_at dksX0_addCourt_6 7 rfl rfl)
theorem dX0_addCourt_150 : decode cX0_addCourt 150 = .ok (.goto (-40), 3) := dk_167 255 216 (dk_at dksX0_addCourt_6 10 rfl rfl)
theorem dX0_addCourt_153 : decode cX0_addCourt 153 = .ok (.return_, 1) := dk_177 (dk_at dksX0_addCourt_6 13 rfl rfl)
theorem q92 : (Jvm.Cond.initialized "NeitherBare") ∈ lw_all := lw_g (lw_at lw_m1 1 rfl) rfl
theorem q115 : (Jvm.Cond.instanceMethod ({ cls := "NeitherBare", name := "asked", desc := "()I" } : Jvm.MethodName)) ∈ lw_all := lw_g (lw_at lw_m1 24 rfl) rfl
theorem q116 : (Jvm.Cond.selects "NeitherBare" ({ cls := "NeitherBare", name := "asked", desc := "()I" } : Jvm.MethodName) ({ cls := "NeitherBare", name := "asked", desc := "()I" } : Jvm.MethodName)) ∈ lw_all := lw_g (lw_at lw_m1 25 rfl) rfl
theorem q117 : (Jvm.Cond.code ({ cls := "NeitherBare", name := "asked", desc := "()I" } : Jvm.MethodName) prog_1_method_5_code (1 : Nat) (Option.some Jvm.ClassFile.FieldType.int)) ∈ lw_all := lw_g (lw_at lw_m1 26 rfl) rfl
theorem q119 : (Jvm.Cond.instantiable "NeitherBare" (23 : Nat)) ∈ lw_all := lw_g (lw_at lw_m1 28 rfl) rfl
theorem q121 : (Jvm.Cond.instanceMethod ({ cls := "NeitherBare", name := "<init>", desc := "()V" } : Jvm.MethodName)) ∈ lw_all := lw_g (lw_at lw_m1 30 rfl) rfl
theorem q122 : (Jvm.Cond.code ({ cls := "NeitherBare", name := "<init>", desc := "()V" } : Jvm.MethodName) prog_1_method_6_code (2 : Nat) (Option.none : Option Jvm.ClassFile.FieldType)) ∈ lw_all := lw_g (lw_at lw_m1 31 rfl) rfl
theorem q123 : (Jvm.Cond.methodLink "NeitherBare" (14 : Nat) ({ cls := "java/lang/Object", name := "<init>", desc := "()V" } : Jvm.MethodName)) ∈ lw_all := lw_g (lw_at lw_m1 32 rfl) rfl
theorem q126 : (Jvm.Cond.classLink "NeitherBare" (24 : Nat) "[I") ∈ lw_all := lw_g (lw_at lw_m1 35 rfl) rfl
theorem q128 : (Jvm.Cond.classLink "NeitherBare" (29 : Nat) "[B") ∈ lw_all := lw_g (lw_at lw_m1 37 rfl) rfl
theorem q130 : (Jvm.Cond.classLink "NeitherBare" (38 : Nat) "NeitherBare$Clause") ∈ lw_all := lw_g (lw_at lw_m1 39 rfl) rfl
theorem q132 : (Jvm.Cond.fieldLink "NeitherBare" (3 : Nat) "NeitherBare" "latest" "I") ∈ lw_all := lw_g (lw_at lw_m1 41 rfl) rfl
theorem q133 : (Jvm.Cond.fieldLink "NeitherBare" (7 : Nat) "NeitherBare" "came" "[I") ∈ lw_all := lw_g (lw_at lw_m1 42 rfl) rfl
theorem q134 : (Jvm.Cond.fieldLink "NeitherBare" (11 : Nat) "NeitherBare" "asked" "I") ∈ lw_all := lw_g (lw_at lw_m1 43 rfl) rfl
theorem q135 : (Jvm.Cond.fieldLink "NeitherBare" (63 : Nat) "NeitherBare" "upper" "J") ∈ lw_all := lw_g (lw_at lw_m1 44 rfl) rfl
theorem q136 : (Jvm.Cond.fieldLink "NeitherBare" (20 : Nat) "NeitherBare" "lower" "J") ∈ lw_all := lw_g (lw_at lw_m1 45 rfl) rfl
theorem q137 : (Jvm.Cond.fieldLink "NeitherBare" (25 : Nat) "NeitherBare" "rows" "[[I") ∈ lw_all := lw_g (lw_at lw_m1 46 rfl) rfl
theorem q138 : (Jvm.Cond.fieldLink "NeitherBare" (31 : Nat) "NeitherBare" "texts" "[[B") ∈ lw_all := lw_g (lw_at lw_m1 47 rfl) rfl
theorem q140 : (Jvm.Cond.fieldLink "NeitherBare" (119 : Nat) "NeitherBare" "thingMany" "I") ∈ lw_all := lw_g (lw_at lw_m1 49 rfl) rfl
theorem q141 : (Jvm.Cond.fieldLink "NeitherBare" (122 : Nat) "NeitherBare" "clauseMany" "I") ∈ lw_all := lw_g (lw_at lw_m1 50 rfl) rfl
theorem q142 : (Jvm.Cond.fieldLink "NeitherBare" (35 : Nat) "NeitherBare" "things" "[I") ∈ lw_all := lw_g (lw_at lw_m1 51 rfl) rfl
theorem q143 : (Jvm.Cond.fieldLink "NeitherBare" (40 : Nat) "NeitherBare" "clauses" "[LNeitherBare$Clause;") ∈ lw_all := lw_g (lw_at lw_m1 52 rfl) rfl
theorem q147 : (Jvm.Cond.fieldLink "NeitherBare" (44 : Nat) "NeitherBare" "now" "[I") ∈ lw_all := lw_g (lw_at lw_m1 56 rfl) rfl
theorem q148 : (Jvm.Cond.fieldLink "NeitherBare" (147 : Nat) "NeitherBare" "readAt" "I") ∈ lw_all := lw_g (lw_at lw_m1 57 rfl) rfl
theorem q149 : (Jvm.Cond.fieldLink "NeitherBare" (141 : Nat) "NeitherBare" "readThings" "I") ∈ lw_all := lw_g (lw_at lw_m1 58 rfl) rfl
theorem q150 : (Jvm.Cond.fieldLink "NeitherBare" (144 : Nat) "NeitherBare" "readClauses" "I") ∈ lw_all := lw_g (lw_at lw_m1 59 rfl) rfl
theorem q151 : (Jvm.Cond.fieldLink "NeitherBare" (47 : Nat) "NeitherBare" "readThing" "[I") ∈ lw_all := lw_g (lw_at lw_m1 60 rfl) rfl
theorem q152 : (Jvm.Cond.fieldLink "NeitherBare" (50 : Nat) "NeitherBare" "readClause" "[I") ∈ lw_all := lw_g (lw_at lw_m1 61 rfl) rfl
theorem q153 : (Jvm.Cond.fieldLink "NeitherBare" (176 : Nat) "NeitherBare" "deedMany" "I") ∈ lw_all := lw_g (lw_at lw_m1 62 rfl) rfl
theorem q154 : (Jvm.Cond.fieldLink "NeitherBare" (53 : Nat) "NeitherBare" "log" "[I") ∈ lw_all := lw_g (lw_at lw_m1 63 rfl) rfl
theorem q155 : (Jvm.Cond.fieldLink "NeitherBare" (56 : Nat) "NeitherBare" "kept" "[[I") ∈ lw_all := lw_g (lw_at lw_m1 64 rfl) rfl
theorem q156 : (Jvm.Cond.fieldLink "NeitherBare" (59 : Nat) "NeitherBare" "waySets" "[J") ∈ lw_all := lw_g (lw_at lw_m1 65 rfl) rfl
theorem q157 : (Jvm.Cond.fieldLink "NeitherBare" (295 : Nat) "NeitherBare" "firstNamed" "I") ∈ lw_all := lw_g (lw_at lw_m1 66 rfl) rfl
theorem q158 : (Jvm.Cond.fieldLink "NeitherBare" (338 : Nat) "NeitherBare" "h" "J") ∈ lw_all := lw_g (lw_at lw_m1 67 rfl) rfl
theorem q159 : (Jvm.Cond.lays "NeitherBare" "NeitherBare" "latest" "I") ∈ lw_all := lw_g (lw_at lw_m1 68 rfl) rfl
theorem q160 : (Jvm.Cond.soleField "NeitherBare" "latest") ∈ lw_all := lw_g (lw_at lw_m1 69 rfl) rfl
theorem q161 : (Jvm.Cond.laysFinal "NeitherBare" "NeitherBare" "came" "[I") ∈ lw_all := lw_g (lw_at lw_m1 70 rfl) rfl
theorem q162 : (Jvm.Cond.soleField "NeitherBare" "came") ∈ lw_all := lw_g (lw_at lw_m1 71 rfl) rfl
theorem q163 : (Jvm.Cond.lays "NeitherBare" "NeitherBare" "asked" "I") ∈ lw_all := lw_g (lw_at lw_m1 72 rfl) rfl
theorem q164 : (Jvm.Cond.soleField "NeitherBare" "asked") ∈ lw_all := lw_g (lw_at lw_m1 73 rfl) rfl
theorem q165 : (Jvm.Cond.lays "NeitherBare" "NeitherBare" "upper" "J") ∈ lw_all := lw_g (lw_at lw_m1 74 rfl) rfl
theorem q166 : (Jvm.Cond.soleField "NeitherBare" "upper") ∈ lw_all := lw_g (lw_at lw_m1 75 rfl) rfl
theorem q167 : (Jvm.Cond.lays "NeitherBare" "NeitherBare" "lower" "J") ∈ lw_all := lw_g (lw_at lw_m1 76 rfl) rfl
theorem q168 : (Jvm.Cond.soleField "NeitherBare" "lower") ∈ lw_all := lw_g (lw_at lw_m1 77 rfl) rfl
theorem q169 : (Jvm.Cond.laysFinal "NeitherBare" "NeitherBare" "rows" "[[I") ∈ lw_all := lw_g (lw_at lw_m1 78 rfl) rfl
theorem q170 : (Jvm.Cond.soleField "NeitherBare" "rows") ∈ lw_all := lw_g (lw_at lw_m1 79 rfl) rfl
theorem q171 : (Jvm.Cond.laysFinal "NeitherBare" "NeitherBare" "texts" "[[B") ∈ lw_all := lw_g (lw_at lw_m1 80 rfl) rfl
theorem q172 : (Jvm.Cond.soleField "NeitherBare" "texts") ∈ lw_all := lw_g (lw_at lw_m1 81 rfl) rfl
theorem q173 : (Jvm.Cond.lays "NeitherBare" "NeitherBare" "thingMany" "I") ∈ lw_all := lw_g (lw_at lw_m1 82 rfl) rfl
theorem q174 : (Jvm.Cond.soleField "NeitherBare" "thingMany") ∈ lw_all := lw_g (lw_at lw_m1 83 rfl) rfl
theorem q175 : (Jvm.Cond.lays "NeitherBare" "NeitherBare" "clauseMany" "I") ∈ lw_all := lw_g (lw_at lw_m1 84 rfl) rfl
theorem q176 : (Jvm.Cond.soleField "NeitherBare" "clauseMany") ∈ lw_all := lw_g (lw_at lw_m1 85 rfl) rfl
theorem q177 : (Jvm.Cond.laysFinal "NeitherBare" "NeitherBare" "things" "[I") ∈ lw_all := lw_g (lw_at lw_m1 86 rfl) rfl
theorem q178 : (Jvm.Cond.soleField "NeitherBare" "things") ∈ lw_all := lw_g (lw_at lw_m1 87 rfl) rfl
theorem q179 : (Jvm.Cond.laysFinal "NeitherBare" "NeitherBare" "clauses" "[LNeitherBare$Clause;") ∈ lw_all := lw_g (lw_at lw_m1 88 rfl) rfl
theorem q180 : (Jvm.Cond.soleField "NeitherBare" "clauses") ∈ lw_all := lw_g (lw_at lw_m1 89 rfl) rfl
theorem q181 : (Jvm.Cond.laysFinal "NeitherBare" "NeitherBare" "now" "[I") ∈ lw_all := lw_g (lw_at lw_m1 90 rfl) rfl
theorem q182 : (Jvm.Cond.soleField "NeitherBare" "now") ∈ lw_all := lw_g (lw_at lw_m1 91 rfl) rfl
theorem q183 : (Jvm.Cond.lays "NeitherBare" "NeitherBare" "readAt" "I") ∈ lw_all := lw_g (lw_at lw_m1 92 rfl) rfl
theorem q184 : (Jvm.Cond.soleField "NeitherBare" "readAt") ∈ lw_all := lw_g (lw_at lw_m1 93 rfl) rfl
theorem q185 : (Jvm.Cond.lays "NeitherBare" "NeitherBare" "readThings" "I") ∈ lw_all := lw_g (lw_at lw_m1 94 rfl) rfl
theorem q186 : (Jvm.Cond.soleField "NeitherBare" "readThings") ∈ lw_all := lw_g (lw_at lw_m1 95 rfl) rfl
theorem q187 : (Jvm.Cond.lays "NeitherBare" "NeitherBare" "readClauses" "I") ∈ lw_all := lw_g (lw_at lw_m1 96 rfl) rfl
theorem q188 : (Jvm.Cond.soleField "NeitherBare" "readClauses") ∈ lw_all := lw_g (lw_at lw_m1 97 rfl) rfl
theorem q189 : (Jvm.Cond.laysFinal "NeitherBare" "NeitherBare" "readThing" "[I") ∈ lw_all := lw_g (lw_at lw_m1 98 rfl) rfl
theorem q190 : (Jvm.Cond.soleField "NeitherBare" "readThing") ∈ lw_all := lw_g (lw_at lw_m1 99 rfl) rfl
theorem q191 : (Jvm.Cond.laysFinal "NeitherBare" "NeitherBare" "readClause" "[I") ∈ lw_all := lw_g (lw_at lw_m1 100 rfl) rfl
theorem q192 : (Jvm.Cond.soleField "NeitherBare" "readClause") ∈ lw_all := lw_g (lw_at lw_m1 101 rfl) rfl
theorem q193 : (Jvm.Cond.lays "NeitherBare" "NeitherBare" "deedMany" "I") ∈ lw_all := lw_g (lw_at lw_m1 102 rfl) rfl
theorem q194 : (Jvm.Cond.soleField "NeitherBare" "deedMany") ∈ lw_all := lw_g (lw_at lw_m1 103 rfl) rfl
theorem q195 : (Jvm.Cond.laysFinal "NeitherBare" "NeitherBare" "log" "[I") ∈ lw_all := lw_g (lw_at lw_m1 104 rfl) rfl
theorem q196 : (Jvm.Cond.soleField "NeitherBare" "log") ∈ lw_all := lw_g (lw_at lw_m1 105 rfl) rfl
theorem q197 : (Jvm.Cond.laysFinal "NeitherBare" "NeitherBare" "kept" "[[I") ∈ lw_all := lw_g (lw_at lw_m1 106 rfl) rfl
theorem q198 : (Jvm.Cond.soleField "NeitherBare" "kept") ∈ lw_all := lw_g (lw_at lw_m1 107 rfl) rfl
theorem q199 : (Jvm.Cond.laysFinal "NeitherBare" "NeitherBare" "waySets" "[J") ∈ lw_all := lw_g (lw_at lw_m1 108 rfl) rfl
theorem q200 : (Jvm.Cond.soleField "NeitherBare" "waySets") ∈ lw_all := lw_g (lw_at lw_m1 109 rfl) rfl
theorem q201 : (Jvm.Cond.lays "NeitherBare" "NeitherBare" "firstNamed" "I") ∈ lw_all := lw_g (lw_at lw_m1 110 rfl) rfl
theorem q202 : (Jvm.Cond.soleField "NeitherBare" "firstNamed") ∈ lw_all := lw_g (lw_at lw_m1 111 rfl) rfl
theorem q203 : (Jvm.Cond.lays "NeitherBare" "NeitherBare" "h" "J") ∈ lw_all := lw_g (lw_at lw_m1 112 rfl) rfl
theorem q204 : (Jvm.Cond.soleField "NeitherBare" "h") ∈ lw_all := lw_g (lw_at lw_m1 113 rfl) rfl
theorem q205 : (Jvm.Cond.superclass "NeitherBare" "java/lang/Object") ∈ lw_all := lw_g (lw_at lw_m1 114 rfl) rfl
theorem q209 : (Jvm.Cond.instanceMethod ({ cls := "NeitherBare", name := "upper", desc := "()J" } : Jvm.MethodName)) ∈ lw_all := lw_g (lw_at lw_m1 118 rfl) rfl
theorem q210 : (Jvm.Cond.selects "NeitherBare" ({ cls := "NeitherBare", name := "upper", desc := "()J" } : Jvm.MethodName) ({ cls := "NeitherBare", name := "upper", desc := "()J" } : Jvm.MethodName)) ∈ lw_all := lw_g (lw_at lw_m1 119 rfl) rfl
theorem q211 : (Jvm.Cond.code ({ cls := "NeitherBare", name := "upper", desc := "()J" } : Jvm.MethodName) prog_1_method_8_code (1 : Nat) (Option.some Jvm.ClassFile.FieldType.long)) ∈ lw_all := lw_g (lw_at lw_m1 120 rfl) rfl
theorem q213 : (Jvm.Cond.instanceMethod ({ cls := "NeitherBare", name := "lower", desc := "()J" } : Jvm.MethodName)) ∈ lw_all := lw_g (lw_at lw_m1 122 rfl) rfl
theorem q214 : (Jvm.Cond.selects "NeitherBare" ({ cls := "NeitherBare", name := "lower", desc := "()J" } : Jvm.MethodName) ({ cls := "NeitherBare", name := "lower", desc := "()J" } : Jvm.MethodName)) ∈ lw_all := lw_g (lw_at lw_m1 123 rfl) rfl
theorem q215 : (Jvm.Cond.code ({ cls := "NeitherBare", name := "lower", desc := "()J" } : Jvm.MethodName) prog_1_method_9_code (1 : Nat) (Option.some Jvm.ClassFile.FieldType.long)) ∈ lw_all := lw_g (lw_at lw_m1 124 rfl) rfl
theorem q217 : (Jvm.Cond.instanceMethod ({ cls := "NeitherBare", name := "row", desc := "(II)I" } : Jvm.MethodName)) ∈ lw_all := lw_g (lw_at lw_m1 126 rfl) rfl
theorem q218 : (Jvm.Cond.selects "NeitherBare" ({ cls := "NeitherBare", name := "row", desc := "(II)I" } : Jvm.MethodName) ({ cls := "NeitherBare", name := "row", desc := "(II)I" } : Jvm.MethodName)) ∈ lw_all := lw_g (lw_at lw_m1 127 rfl) rfl
theorem q219 : (Jvm.Cond.codeWith ({ cls := "NeitherBare", name := "row", desc := "(II)I" } : Jvm.MethodName) prog_1_method_11_code (4 : Nat) (Option.some Jvm.ClassFile.FieldType.int) [((15 : Nat), (25 : Nat), (26 : Nat), (74 : Nat))]) ∈ lw_all := lw_g (lw_at lw_m1 128 rfl) rfl
theorem q220 : (Jvm.Cond.classLink "NeitherBare" (74 : Nat) "java/lang/NegativeArraySizeException") ∈ lw_all := lw_g (lw_at lw_m1 129 rfl) rfl
theorem q306 : (Jvm.Cond.methodLink "NeitherBare" (70 : Nat) ({ cls := "NeitherBare", name := "isRow", desc := "(I)Z" } : Jvm.MethodName)) ∈ lw_all := lw_g (lw_at lw_m1 215 rfl) rfl
theorem q307 : (Jvm.Cond.static ({ cls := "NeitherBare", name := "isRow", desc := "(I)Z" } : Jvm.MethodName)) ∈ lw_all := lw_g (lw_at lw_m1 216 rfl) rfl
theorem q308 : (Jvm.Cond.code ({ cls := "NeitherBare", name := "isRow", desc := "(I)Z" } : Jvm.MethodName) prog_1_method_10_code (1 : Nat) (Option.some Jvm.ClassFile.FieldType.boolean)) ∈ lw_all := lw_g (lw_at lw_m1 217 rfl) rfl
theorem q309 : (Jvm.Cond.methodLink "NeitherBare" (66 : Nat) ({ cls := "NeitherBare", name := "in", desc := "(III)Z" } : Jvm.MethodName)) ∈ lw_all := lw_g (lw_at lw_m1 218 rfl) rfl
theorem q310 : (Jvm.Cond.static ({ cls := "NeitherBare", name := "in", desc := "(III)Z" } : Jvm.MethodName)) ∈ lw_all := lw_g (lw_at lw_m1 219 rfl) rfl
theorem q311 : (Jvm.Cond.code ({ cls := "NeitherBare", name := "in", desc := "(III)Z" } : Jvm.MethodName) prog_1_method_1_code (3 : Nat) (Option.some Jvm.ClassFile.FieldType.boolean)) ∈ lw_all := lw_g (lw_at lw_m1 220 rfl) rfl
theorem q312 : (Jvm.Cond.methodLink "NeitherBare" (76 : Nat) ({ cls := "NeitherBare", name := "found", desc := "(I)I" } : Jvm.MethodName)) ∈ lw_all := lw_g (lw_at lw_m1 221 rfl) rfl
theorem q313 : (Jvm.Cond.privateMethod ({ cls := "NeitherBare", name := "found", desc := "(I)I" } : Jvm.MethodName)) ∈ lw_tbl := lw_at lw_m1 222 rfl
theorem q314 : (Jvm.Cond.instanceMethod ({ cls := "NeitherBare", name := "found", desc := "(I)I" } : Jvm.MethodName)) ∈ lw_all := lw_g (lw_at lw_m1 223 rfl) rfl
theorem q315 : (Jvm.Cond.code ({ cls := "NeitherBare", name := "found", desc := "(I)I" } : Jvm.MethodName) prog_1_method_3_code (2 : Nat) (Option.some Jvm.ClassFile.FieldType.int)) ∈ lw_all := lw_g (lw_at lw_m1 224 rfl) rfl
theorem q317 : (Jvm.Cond.instanceMethod ({ cls := "NeitherBare", name := "lay", desc := "(III)I" } : Jvm.MethodName)) ∈ lw_all := lw_g (lw_at lw_m1 226 rfl) rfl
theorem q318 : (Jvm.Cond.selects "NeitherBare" ({ cls := "NeitherBare", name := "lay", desc := "(III)I" } : Jvm.MethodName) ({ cls := "NeitherBare", name := "lay", desc := "(III)I" } : Jvm.MethodName)) ∈ lw_all := lw_g (lw_at lw_m1 227 rfl) rfl
theorem q319 : (Jvm.Cond.codeWith ({ cls := "NeitherBare", name := "lay", desc := "(III)I" } : Jvm.MethodName) prog_1_method_12_code (5 : Nat) (Option.some Jvm.ClassFile.FieldType.int) [((9 : Nat), (35 : Nat), (36 : Nat), (84 : Nat)), ((9 : Nat), (35 : Nat), (44 : Nat), (86 : Nat))]) ∈ lw_all := lw_g (lw_at lw_m1 228 rfl) rfl
theorem q320 : (Jvm.Cond.classLink "NeitherBare" (84 : Nat) "java/lang/NullPointerException") ∈ lw_all := lw_g (lw_at lw_m1 229 rfl) rfl
theorem q345 : (Jvm.Cond.classLink "NeitherBare" (86 : Nat) "java/lang/IndexOutOfBoundsException") ∈ lw_all := lw_g (lw_at lw_m2 14 rfl) rfl
theorem q364 : (Jvm.Cond.methodLink "NeitherBare" (80 : Nat) ({ cls := "NeitherBare", name := "say", desc := "(II)I" } : Jvm.MethodName)) ∈ lw_all := lw_g (lw_at lw_m2 33 rfl) rfl
theorem q365 : (Jvm.Cond.privateMethod ({ cls := "NeitherBare", name := "say", desc := "(II)I" } : Jvm.MethodName)) ∈ lw_tbl := lw_at lw_m2 34 rfl
theorem q366 : (Jvm.Cond.instanceMethod ({ cls := "NeitherBare", name := "say", desc := "(II)I" } : Jvm.MethodName)) ∈ lw_all := lw_g (lw_at lw_m2 35 rfl) rfl
theorem q367 : (Jvm.Cond.code ({ cls := "NeitherBare", name := "say", desc := "(II)I" } : Jvm.MethodName) prog_1_method_4_code (3 : Nat) (Option.some Jvm.ClassFile.FieldType.int)) ∈ lw_all := lw_g (lw_at lw_m2 36 rfl) rfl
theorem q369 : (Jvm.Cond.instanceMethod ({ cls := "NeitherBare", name := "at", desc := "(II)I" } : Jvm.MethodName)) ∈ lw_all := lw_g (lw_at lw_m2 38 rfl) rfl
theorem q370 : (Jvm.Cond.selects "NeitherBare" ({ cls := "NeitherBare", name := "at", desc := "(II)I" } : Jvm.MethodName) ({ cls := "NeitherBare", name := "at", desc := "(II)I" } : Jvm.MethodName)) ∈ lw_all := lw_g (lw_at lw_m2 39 rfl) rfl
theorem q371 : (Jvm.Cond.codeWith ({ cls := "NeitherBare", name := "at", desc := "(II)I" } : Jvm.MethodName) prog_1_method_13_code (4 : Nat) (Option.some Jvm.ClassFile.FieldType.int) [((9 : Nat), (22 : Nat), (23 : Nat), (84 : Nat)), ((9 : Nat), (22 : Nat), (30 : Nat), (86 : Nat))]) ∈ lw_all := lw_g (lw_at lw_m2 40 rfl) rfl
theorem q373 : (Jvm.Cond.instanceMethod ({ cls := "NeitherBare", name := "tear", desc := "(I)I" } : Jvm.MethodName)) ∈ lw_all := lw_g (lw_at lw_m2 42 rfl) rfl
theorem q374 : (Jvm.Cond.selects "NeitherBare" ({ cls := "NeitherBare", name := "tear", desc := "(I)I" } : Jvm.MethodName) ({ cls := "NeitherBare", name := "tear", desc := "(I)I" } : Jvm.MethodName)) ∈ lw_all := lw_g (lw_at lw_m2 43 rfl) rfl
theorem q375 : (Jvm.Cond.code ({ cls := "NeitherBare", name := "tear", desc := "(I)I" } : Jvm.MethodName) prog_1_method_14_code (2 : Nat) (Option.some Jvm.ClassFile.FieldType.int)) ∈ lw_all := lw_g (lw_at lw_m2 44 rfl) rfl
theorem q377 : (Jvm.Cond.instanceMethod ({ cls := "NeitherBare", name := "copy", desc := "(IIIII)I" } : Jvm.MethodName)) ∈ lw_all := lw_g (lw_at lw_m2 46 rfl) rfl
theorem q378 : (Jvm.Cond.selects "NeitherBare" ({ cls := "NeitherBare", name := "copy", desc := "(IIIII)I" } : Jvm.MethodName) ({ cls := "NeitherBare", name := "copy", desc := "(IIIII)I" } : Jvm.MethodName)) ∈ lw_all := lw_g (lw_at lw_m2 47 rfl) rfl
theorem q379 : (Jvm.Cond.codeWith ({ cls := "NeitherBare", name := "copy", desc := "(IIIII)I" } : Jvm.MethodName) prog_1_method_15_code (7 : Nat) (Option.some Jvm.ClassFile.FieldType.int) [((27 : Nat), (48 : Nat), (49 : Nat), (84 : Nat)), ((27 : Nat), (48 : Nat), (57 : Nat), (86 : Nat))]) ∈ lw_all := lw_g (lw_at lw_m2 48 rfl) rfl
theorem q380 : (Jvm.Cond.methodLink "NeitherBare" (88 : Nat) ({ cls := "java/lang/System", name := "arraycopy", desc := "(Ljava/lang/Object;ILjava/lang/Object;II)V" } : Jvm.MethodName)) ∈ lw_all := lw_g (lw_at lw_m2 49 rfl) rfl
theorem q384 : (Jvm.Cond.instanceMethod ({ cls := "NeitherBare", name := "mean", desc := "(I)I" } : Jvm.MethodName)) ∈ lw_all := lw_g (lw_at lw_m2 53 rfl) rfl
theorem q385 : (Jvm.Cond.selects "NeitherBare" ({ cls := "NeitherBare", name := "mean", desc := "(I)I" } : Jvm.MethodName) ({ cls := "NeitherBare", name := "mean", desc := "(I)I" } : Jvm.MethodName)) ∈ lw_all := lw_g (lw_at lw_m2 54 rfl) rfl
theorem q386 : (Jvm.Cond.codeWith ({ cls := "NeitherBare", name := "mean", desc := "(I)I" } : Jvm.MethodName) prog_1_method_16_code (5 : Nat) (Option.some Jvm.ClassFile.FieldType.int) [((60 : Nat), (76 : Nat), (77 : Nat), (94 : Nat))]) ∈ lw_all := lw_g (lw_at lw_m2 55 rfl) rfl
theorem q387 : (Jvm.Cond.classLink "NeitherBare" (94 : Nat) "java/lang/ArithmeticException") ∈ lw_all := lw_g (lw_at lw_m2 56 rfl) rfl
theorem q402 : (Jvm.Cond.instanceMethod ({ cls := "NeitherBare", name := "text", desc := "(II)I" } : Jvm.MethodName)) ∈ lw_all := lw_g (lw_at lw_m2 71 rfl) rfl
theorem q403 : (Jvm.Cond.selects "NeitherBare" ({ cls := "NeitherBare", name := "text", desc := "(II)I" } : Jvm.MethodName) ({ cls := "NeitherBare", name := "text", desc := "(II)I" } : Jvm.MethodName)) ∈ lw_all := lw_g (lw_at lw_m2 72 rfl) rfl
theorem q404 : (Jvm.Cond.codeWith ({ cls := "NeitherBare", name := "text", desc := "(II)I" } : Jvm.MethodName) prog_1_method_18_code (5 : Nat) (Option.some Jvm.ClassFile.FieldType.int) [((15 : Nat), (48 : Nat), (49 : Nat), (74 : Nat))]) ∈ lw_all := lw_g (lw_at lw_m2 73 rfl) rfl
theorem q405 : (Jvm.Cond.methodLink "NeitherBare" (96 : Nat) ({ cls := "NeitherBare", name := "isText", desc := "(I)Z" } : Jvm.MethodName)) ∈ lw_all := lw_g (lw_at lw_m2 74 rfl) rfl
theorem q406 : (Jvm.Cond.static ({ cls := "NeitherBare", name := "isText", desc := "(I)Z" } : Jvm.MethodName)) ∈ lw_all := lw_g (lw_at lw_m2 75 rfl) rfl
theorem q407 : (Jvm.Cond.code ({ cls := "NeitherBare", name := "isText", desc := "(I)Z" } : Jvm.MethodName) prog_1_method_17_code (1 : Nat) (Option.some Jvm.ClassFile.FieldType.boolean)) ∈ lw_all := lw_g (lw_at lw_m2 76 rfl) rfl
theorem q409 : (Jvm.Cond.instanceMethod ({ cls := "NeitherBare", name := "put", desc := "(III)I" } : Jvm.MethodName)) ∈ lw_all := lw_g (lw_at lw_m2 78 rfl) rfl
theorem q410 : (Jvm.Cond.selects "NeitherBare" ({ cls := "NeitherBare", name := "put", desc := "(III)I" } : Jvm.MethodName) ({ cls := "NeitherBare", name := "put", desc := "(III)I" } : Jvm.MethodName)) ∈ lw_all := lw_g (lw_at lw_m2 79 rfl) rfl
theorem q411 : (Jvm.Cond.codeWith ({ cls := "NeitherBare", name := "put", desc := "(III)I" } : Jvm.MethodName) prog_1_method_19_code (5 : Nat) (Option.some Jvm.ClassFile.FieldType.int) [((9 : Nat), (35 : Nat), (36 : Nat), (84 : Nat)), ((9 : Nat), (35 : Nat), (44 : Nat), (86 : Nat))]) ∈ lw_all := lw_g (lw_at lw_m2 80 rfl) rfl
theorem q413 : (Jvm.Cond.instanceMethod ({ cls := "NeitherBare", name := "fault", desc := "(I)I" } : Jvm.MethodName)) ∈ lw_all := lw_g (lw_at lw_m2 82 rfl) rfl
theorem q414 : (Jvm.Cond.selects "NeitherBare" ({ cls := "NeitherBare", name := "fault", desc := "(I)I" } : Jvm.MethodName) ({ cls := "NeitherBare", name := "fault", desc := "(I)I" } : Jvm.MethodName)) ∈ lw_all := lw_g (lw_at lw_m2 83 rfl) rfl
theorem q415 : (Jvm.Cond.code ({ cls := "NeitherBare", name := "fault", desc := "(I)I" } : Jvm.MethodName) prog_1_method_36_code (2 : Nat) (Option.some Jvm.ClassFile.FieldType.int)) ∈ lw_all := lw_g (lw_at lw_m2 84 rfl) rfl
theorem q416 : (Jvm.Cond.methodLink "NeitherBare" (168 : Nat) ({ cls := "NeitherBare", name := "read", desc := "([B)I" } : Jvm.MethodName)) ∈ lw_all := lw_g (lw_at lw_m2 85 rfl) rfl
theorem q417 : (Jvm.Cond.privateMethod ({ cls := "NeitherBare", name := "read", desc := "([B)I" } : Jvm.MethodName)) ∈ lw_tbl := lw_at lw_m2 86 rfl
theorem q418 : (Jvm.Cond.instanceMethod ({ cls := "NeitherBare", name := "read", desc := "([B)I" } : Jvm.MethodName)) ∈ lw_all := lw_g (lw_at lw_m2 87 rfl) rfl
theorem q419 : (Jvm.Cond.code ({ cls := "NeitherBare", name := "read", desc := "([B)I" } : Jvm.MethodName) prog_1_method_35_code (2 : Nat) (Option.some Jvm.ClassFile.FieldType.int)) ∈ lw_all := lw_g (lw_at lw_m2 88 rfl) rfl
theorem q420 : (Jvm.Cond.methodLink "NeitherBare" (163 : Nat) ({ cls := "NeitherBare", name := "readThing", desc := "([B)Z" } : Jvm.MethodName)) ∈ lw_all := lw_g (lw_at lw_m2 89 rfl) rfl
theorem q421 : (Jvm.Cond.privateMethod ({ cls := "NeitherBare", name := "readThing", desc := "([B)Z" } : Jvm.MethodName)) ∈ lw_tbl := lw_at lw_m2 90 rfl
theorem q422 : (Jvm.Cond.instanceMethod ({ cls := "NeitherBare", name := "readThing", desc := "([B)Z" } : Jvm.MethodName)) ∈ lw_all := lw_g (lw_at lw_m2 91 rfl) rfl
theorem q423 : (Jvm.Cond.code ({ cls := "NeitherBare", name := "readThing", desc := "([B)Z" } : Jvm.MethodName) prog_1_method_33_code (4 : Nat) (Option.some Jvm.ClassFile.FieldType.boolean)) ∈ lw_all := lw_g (lw_at lw_m2 92 rfl) rfl
theorem q424 : (Jvm.Cond.methodLink "NeitherBare" (150 : Nat) ({ cls := "NeitherBare", name := "byteAt", desc := "([BI)I" } : Jvm.MethodName)) ∈ lw_all := lw_g (lw_at lw_m2 93 rfl) rfl
theorem q425 : (Jvm.Cond.static ({ cls := "NeitherBare", name := "byteAt", desc := "([BI)I" } : Jvm.MethodName)) ∈ lw_all := lw_g (lw_at lw_m2 94 rfl) rfl
theorem q426 : (Jvm.Cond.code ({ cls := "NeitherBare", name := "byteAt", desc := "([BI)I" } : Jvm.MethodName) prog_1_method_30_code (2 : Nat) (Option.some Jvm.ClassFile.FieldType.int)) ∈ lw_all := lw_g (lw_at lw_m2 95 rfl) rfl
theorem q427 : (Jvm.Cond.methodLink "NeitherBare" (166 : Nat) ({ cls := "NeitherBare", name := "readClause", desc := "([B)Z" } : Jvm.MethodName)) ∈ lw_all := lw_g (lw_at lw_m2 96 rfl) rfl
theorem q428 : (Jvm.Cond.privateMethod ({ cls := "NeitherBare", name := "readClause", desc := "([B)Z" } : Jvm.MethodName)) ∈ lw_tbl := lw_at lw_m2 97 rfl
theorem q429 : (Jvm.Cond.instanceMethod ({ cls := "NeitherBare", name := "readClause", desc := "([B)Z" } : Jvm.MethodName)) ∈ lw_all := lw_g (lw_at lw_m2 98 rfl) rfl
theorem q430 : (Jvm.Cond.code ({ cls := "NeitherBare", name := "readClause", desc := "([B)Z" } : Jvm.MethodName) prog_1_method_34_code (6 : Nat) (Option.some Jvm.ClassFile.FieldType.boolean)) ∈ lw_all := lw_g (lw_at lw_m2 99 rfl) rfl
theorem q431 : (Jvm.Cond.methodLink "NeitherBare" (154 : Nat) ({ cls := "NeitherBare", name := "kindOf", desc := "(I)I" } : Jvm.MethodName)) ∈ lw_all := lw_g (lw_at lw_m2 100 rfl) rfl
theorem q432 : (Jvm.Cond.static ({ cls := "NeitherBare", name := "kindOf", desc := "(I)I" } : Jvm.MethodName)) ∈ lw_all := lw_g (lw_at lw_m2 101 rfl) rfl
theorem q433 : (Jvm.Cond.code ({ cls := "NeitherBare", name := "kindOf", desc := "(I)I" } : Jvm.MethodName) prog_1_method_31_code (1 : Nat) (Option.some Jvm.ClassFile.FieldType.int)) ∈ lw_all := lw_g (lw_at lw_m2 102 rfl) rfl
theorem q434 : (Jvm.Cond.methodLink "NeitherBare" (157 : Nat) ({ cls := "NeitherBare", name := "isTwo", desc := "(I)Z" } : Jvm.MethodName)) ∈ lw_all := lw_g (lw_at lw_m2 103 rfl) rfl
theorem q435 : (Jvm.Cond.static ({ cls := "NeitherBare", name := "isTwo", desc := "(I)Z" } : Jvm.MethodName)) ∈ lw_all := lw_g (lw_at lw_m2 104 rfl) rfl
theorem q436 : (Jvm.Cond.code ({ cls := "NeitherBare", name := "isTwo", desc := "(I)Z" } : Jvm.MethodName) prog_1_method_32_code (1 : Nat) (Option.some Jvm.ClassFile.FieldType.boolean)) ∈ lw_all := lw_g (lw_at lw_m2 105 rfl) rfl
theorem q437 : (Jvm.Cond.methodLink "NeitherBare" (160 : Nat) ({ cls := "NeitherBare", name := "isTrait", desc := "(I)Z" } : Jvm.MethodName)) ∈ lw_all := lw_g (lw_at lw_m2 106 rfl) rfl
theorem q438 : (Jvm.Cond.static ({ cls := "NeitherBare", name := "isTrait", desc := "(I)Z" } : Jvm.MethodName)) ∈ lw_all := lw_g (lw_at lw_m2 107 rfl) rfl
theorem q439 : (Jvm.Cond.code ({ cls := "NeitherBare", name := "isTrait", desc := "(I)Z" } : Jvm.MethodName) prog_1_method_23_code (1 : Nat) (Option.some Jvm.ClassFile.FieldType.boolean)) ∈ lw_all := lw_g (lw_at lw_m2 108 rfl) rfl
theorem q441 : (Jvm.Cond.instanceMethod ({ cls := "NeitherBare", name := "court", desc := "(I)I" } : Jvm.MethodName)) ∈ lw_all := lw_g (lw_at lw_m2 110 rfl) rfl
theorem q442 : (Jvm.Cond.selects "NeitherBare" ({ cls := "NeitherBare", name := "court", desc := "(I)I" } : Jvm.MethodName) ({ cls := "NeitherBare", name := "court", desc := "(I)I" } : Jvm.MethodName)) ∈ lw_all := lw_g (lw_at lw_m2 111 rfl) rfl
theorem q443 : (Jvm.Cond.code ({ cls := "NeitherBare", name := "court", desc := "(I)I" } : Jvm.MethodName) prog_1_method_37_code (3 : Nat) (Option.some Jvm.ClassFile.FieldType.int)) ∈ lw_all := lw_g (lw_at lw_m2 112 rfl) rfl
theorem q444 : (Jvm.Cond.methodLink "NeitherBare" (172 : Nat) ({ cls := "NeitherBare", name := "make", desc := "(III)LNeitherBare$Clause;" } : Jvm.MethodName)) ∈ lw_all := lw_g (lw_at lw_m2 113 rfl) rfl
theorem q445 : (Jvm.Cond.privateMethod ({ cls := "NeitherBare", name := "make", desc := "(III)LNeitherBare$Clause;" } : Jvm.MethodName)) ∈ lw_tbl := lw_at lw_m2 114 rfl
theorem q446 : (Jvm.Cond.instanceMethod ({ cls := "NeitherBare", name := "make", desc := "(III)LNeitherBare$Clause;" } : Jvm.MethodName)) ∈ lw_all := lw_g (lw_at lw_m2 115 rfl) rfl
theorem q447 : (Jvm.Cond.code ({ cls := "NeitherBare", name := "make", desc := "(III)LNeitherBare$Clause;" } : Jvm.MethodName) prog_1_method_20_code (4 : Nat) (Option.some (Jvm.ClassFile.FieldType.object "NeitherBare$Clause"))) ∈ lw_all := lw_g (lw_at lw_m2 116 rfl) rfl
theorem q449 : (Jvm.Cond.methodLink "NeitherBare" (99 : Nat) ({ cls := "NeitherBare$Clause", name := "<init>", desc := "(LNeitherBare;I)V" } : Jvm.MethodName)) ∈ lw_all := lw_g (lw_at lw_m2 118 rfl) rfl
theorem q464 : (Jvm.Cond.fieldLink "NeitherBare" (190 : Nat) "NeitherBare$Clause" "trait" "I") ∈ lw_all := lw_g (lw_at lw_m2 133 rfl) rfl
theorem q471 : (Jvm.Cond.classLink "NeitherBare" (102 : Nat) "NeitherBare$Neither") ∈ lw_all := lw_g (lw_at lw_m2 140 rfl) rfl
theorem q473 : (Jvm.Cond.methodLink "NeitherBare" (104 : Nat) ({ cls := "NeitherBare$Neither", name := "<init>", desc := "(LNeitherBare;I)V" } : Jvm.MethodName)) ∈ lw_all := lw_g (lw_at lw_m2 142 rfl) rfl
theorem q483 : (Jvm.Cond.classLink "NeitherBare" (105 : Nat) "NeitherBare$Both") ∈ lw_all := lw_g (lw_at lw_m2 152 rfl) rfl
theorem q485 : (Jvm.Cond.methodLink "NeitherBare" (107 : Nat) ({ cls := "NeitherBare$Both", name := "<init>", desc := "(LNeitherBare;II)V" } : Jvm.MethodName)) ∈ lw_all := lw_g (lw_at lw_m2 154 rfl) rfl
theorem q500 : (Jvm.Cond.classLink "NeitherBare" (110 : Nat) "NeitherBare$Undone") ∈ lw_all := lw_g (lw_at lw_m2 169 rfl) rfl
theorem q502 : (Jvm.Cond.methodLink "NeitherBare" (112 : Nat) ({ cls := "NeitherBare$Undone", name := "<init>", desc := "(LNeitherBare;I)V" } : Jvm.MethodName)) ∈ lw_all := lw_g (lw_at lw_m2 171 rfl) rfl
theorem q512 : (Jvm.Cond.classLink "NeitherBare" (113 : Nat) "NeitherBare$Half") ∈ lw_all := lw_g (lw_at lw_m2 181 rfl) rfl
theorem q514 : (Jvm.Cond.methodLink "NeitherBare" (115 : Nat) ({ cls := "NeitherBare$Half", name := "<init>", desc := "(LNeitherBare;I)V" } : Jvm.MethodName)) ∈ lw_all := lw_g (lw_at lw_m2 183 rfl) rfl
theorem q525 : (Jvm.Cond.classLink "NeitherBare" (116 : Nat) "NeitherBare$But") ∈ lw_all := lw_g (lw_at lw_m2 194 rfl) rfl
theorem q527 : (Jvm.Cond.methodLink "NeitherBare" (118 : Nat) ({ cls := "NeitherBare$But", name := "<init>", desc := "(LNeitherBare;II)V" } : Jvm.MethodName)) ∈ lw_all := lw_g (lw_at lw_m2 196 rfl) rfl
theorem q540 : (Jvm.Cond.instanceMethod ({ cls := "NeitherBare", name := "thing", desc := "(II)I" } : Jvm.MethodName)) ∈ lw_all := lw_g (lw_at lw_m2 209 rfl) rfl
theorem q541 : (Jvm.Cond.selects "NeitherBare" ({ cls := "NeitherBare", name := "thing", desc := "(II)I" } : Jvm.MethodName) ({ cls := "NeitherBare", name := "thing", desc := "(II)I" } : Jvm.MethodName)) ∈ lw_all := lw_g (lw_at lw_m2 210 rfl) rfl
theorem q542 : (Jvm.Cond.code ({ cls := "NeitherBare", name := "thing", desc := "(II)I" } : Jvm.MethodName) prog_1_method_38_code (3 : Nat) (Option.some Jvm.ClassFile.FieldType.int)) ∈ lw_all := lw_g (lw_at lw_m2 211 rfl) rfl
theorem q543 : (Jvm.Cond.methodLink "NeitherBare" (179 : Nat) ({ cls := "NeitherBare", name := "isThing", desc := "(I)Z" } : Jvm.MethodName)) ∈ lw_all := lw_g (lw_at lw_m2 212 rfl) rfl
theorem q544 : (Jvm.Cond.privateMethod ({ cls := "NeitherBare", name := "isThing", desc := "(I)Z" } : Jvm.MethodName)) ∈ lw_tbl := lw_at lw_m2 213 rfl
theorem q545 : (Jvm.Cond.instanceMethod ({ cls := "NeitherBare", name := "isThing", desc := "(I)Z" } : Jvm.MethodName)) ∈ lw_all := lw_g (lw_at lw_m2 214 rfl) rfl
theorem q546 : (Jvm.Cond.code ({ cls := "NeitherBare", name := "isThing", desc := "(I)Z" } : Jvm.MethodName) prog_1_method_21_code (2 : Nat) (Option.some Jvm.ClassFile.FieldType.boolean)) ∈ lw_all := lw_g (lw_at lw_m2 215 rfl) rfl
theorem q548 : (Jvm.Cond.instanceMethod ({ cls := "NeitherBare", name := "clause", desc := "(II)I" } : Jvm.MethodName)) ∈ lw_all := lw_g (lw_at lw_m2 217 rfl) rfl
theorem q549 : (Jvm.Cond.selects "NeitherBare" ({ cls := "NeitherBare", name := "clause", desc := "(II)I" } : Jvm.MethodName) ({ cls := "NeitherBare", name := "clause", desc := "(II)I" } : Jvm.MethodName)) ∈ lw_all := lw_g (lw_at lw_m2 218 rfl) rfl
theorem q550 : (Jvm.Cond.code ({ cls := "NeitherBare", name := "clause", desc := "(II)I" } : Jvm.MethodName) prog_1_method_42_code (3 : Nat) (Option.some Jvm.ClassFile.FieldType.int)) ∈ lw_all := lw_g (lw_at lw_m2 219 rfl) rfl
theorem q551 : (Jvm.Cond.methodLink "NeitherBare" (209 : Nat) ({ cls := "NeitherBare", name := "isClause", desc := "(I)Z" } : Jvm.MethodName)) ∈ lw_all := lw_g (lw_at lw_m2 220 rfl) rfl
theorem q552 : (Jvm.Cond.privateMethod ({ cls := "NeitherBare", name := "isClause", desc := "(I)Z" } : Jvm.MethodName)) ∈ lw_tbl := lw_at lw_m2 221 rfl
theorem q553 : (Jvm.Cond.instanceMethod ({ cls := "NeitherBare", name := "isClause", desc := "(I)Z" } : Jvm.MethodName)) ∈ lw_all := lw_g (lw_at lw_m2 222 rfl) rfl
theorem q554 : (Jvm.Cond.code ({ cls := "NeitherBare", name := "isClause", desc := "(I)Z" } : Jvm.MethodName) prog_1_method_22_code (2 : Nat) (Option.some Jvm.ClassFile.FieldType.boolean)) ∈ lw_all := lw_g (lw_at lw_m2 223 rfl) rfl
theorem q555 : (Jvm.Cond.methodLink "NeitherBare" (212 : Nat) ({ cls := "NeitherBare", name := "clauseTells", desc := "(II)I" } : Jvm.MethodName)) ∈ lw_all := lw_g (lw_at lw_m2 224 rfl) rfl
theorem q556 : (Jvm.Cond.privateMethod ({ cls := "NeitherBare", name := "clauseTells", desc := "(II)I" } : Jvm.MethodName)) ∈ lw_tbl := lw_at lw_m2 225 rfl
theorem q557 : (Jvm.Cond.instanceMethod ({ cls := "NeitherBare", name := "clauseTells", desc := "(II)I" } : Jvm.MethodName)) ∈ lw_all := lw_g (lw_at lw_m2 226 rfl) rfl
theorem q558 : (Jvm.Cond.code ({ cls := "NeitherBare", name := "clauseTells", desc := "(II)I" } : Jvm.MethodName) prog_1_method_41_code (4 : Nat) (Option.some Jvm.ClassFile.FieldType.int)) ∈ lw_all := lw_g (lw_at lw_m2 227 rfl) rfl
theorem q559 : (Jvm.Cond.methodLink "NeitherBare" (187 : Nat) ({ cls := "NeitherBare$Clause", name := "kind", desc := "()I" } : Jvm.MethodName)) ∈ lw_all := lw_g (lw_at lw_m2 228 rfl) rfl
theorem q584 : (Jvm.Cond.interfaceEntry "NeitherBare" (193 : Nat)) ∈ lw_tbl := lw_at lw_m3 13 rfl
theorem q585 : (Jvm.Cond.methodLink "NeitherBare" (193 : Nat) ({ cls := "NeitherBare$Says", name := "other", desc := "()I" } : Jvm.MethodName)) ∈ lw_all := lw_g (lw_at lw_m3 14 rfl) rfl
theorem q608 : (Jvm.Cond.methodLink "NeitherBare" (196 : Nat) ({ cls := "NeitherBare", name := "isOn", desc := "(I)Z" } : Jvm.MethodName)) ∈ lw_all := lw_g (lw_at lw_m3 37 rfl) rfl
theorem q609 : (Jvm.Cond.privateMethod ({ cls := "NeitherBare", name := "isOn", desc := "(I)Z" } : Jvm.MethodName)) ∈ lw_tbl := lw_at lw_m3 38 rfl
theorem q610 : (Jvm.Cond.instanceMethod ({ cls := "NeitherBare", name := "isOn", desc := "(I)Z" } : Jvm.MethodName)) ∈ lw_all := lw_g (lw_at lw_m3 39 rfl) rfl
theorem q611 : (Jvm.Cond.code ({ cls := "NeitherBare", name := "isOn", desc := "(I)Z" } : Jvm.MethodName) prog_1_method_40_code (2 : Nat) (Option.some Jvm.ClassFile.FieldType.boolean)) ∈ lw_all := lw_g (lw_at lw_m3 40 rfl) rfl
theorem q612 : (Jvm.Cond.methodLink "NeitherBare" (129 : Nat) ({ cls := "NeitherBare", name := "has", desc := "(II)Z" } : Jvm.MethodName)) ∈ lw_all := lw_g (lw_at lw_m3 41 rfl) rfl
theorem q613 : (Jvm.Cond.static ({ cls := "NeitherBare", name := "has", desc := "(II)Z" } : Jvm.MethodName)) ∈ lw_all := lw_g (lw_at lw_m3 42 rfl) rfl
theorem q614 : (Jvm.Cond.code ({ cls := "NeitherBare", name := "has", desc := "(II)Z" } : Jvm.MethodName) prog_1_method_2_code (2 : Nat) (Option.some Jvm.ClassFile.FieldType.boolean)) ∈ lw_all := lw_g (lw_at lw_m3 43 rfl) rfl
theorem q615 : (Jvm.Cond.methodLink "NeitherBare" (199 : Nat) ({ cls := "NeitherBare", name := "waysOf", desc := "(LNeitherBare$Clause;)J" } : Jvm.MethodName)) ∈ lw_all := lw_g (lw_at lw_m3 44 rfl) rfl
theorem q616 : (Jvm.Cond.privateMethod ({ cls := "NeitherBare", name := "waysOf", desc := "(LNeitherBare$Clause;)J" } : Jvm.MethodName)) ∈ lw_tbl := lw_at lw_m3 45 rfl
theorem q617 : (Jvm.Cond.instanceMethod ({ cls := "NeitherBare", name := "waysOf", desc := "(LNeitherBare$Clause;)J" } : Jvm.MethodName)) ∈ lw_all := lw_g (lw_at lw_m3 46 rfl) rfl
theorem q618 : (Jvm.Cond.code ({ cls := "NeitherBare", name := "waysOf", desc := "(LNeitherBare$Clause;)J" } : Jvm.MethodName) prog_1_method_39_code (6 : Nat) (Option.some Jvm.ClassFile.FieldType.long)) ∈ lw_all := lw_g (lw_at lw_m3 47 rfl) rfl
theorem q619 : (Jvm.Cond.methodLink "NeitherBare" (125 : Nat) ({ cls := "NeitherBare", name := "ways", desc := "()I" } : Jvm.MethodName)) ∈ lw_all := lw_g (lw_at lw_m3 48 rfl) rfl
theorem q620 : (Jvm.Cond.privateMethod ({ cls := "NeitherBare", name := "ways", desc := "()I" } : Jvm.MethodName)) ∈ lw_tbl := lw_at lw_m3 49 rfl
theorem q621 : (Jvm.Cond.instanceMethod ({ cls := "NeitherBare", name := "ways", desc := "()I" } : Jvm.MethodName)) ∈ lw_all := lw_g (lw_at lw_m3 50 rfl) rfl
theorem q622 : (Jvm.Cond.code ({ cls := "NeitherBare", name := "ways", desc := "()I" } : Jvm.MethodName) prog_1_method_24_code (1 : Nat) (Option.some Jvm.ClassFile.FieldType.int)) ∈ lw_all := lw_g (lw_at lw_m3 51 rfl) rfl
theorem q623 : (Jvm.Cond.interfaceEntry "NeitherBare" (182 : Nat)) ∈ lw_tbl := lw_at lw_m3 52 rfl
theorem q624 : (Jvm.Cond.methodLink "NeitherBare" (182 : Nat) ({ cls := "NeitherBare$Says", name := "holds", desc := "(I)Z" } : Jvm.MethodName)) ∈ lw_all := lw_g (lw_at lw_m3 53 rfl) rfl
theorem q636 : (Jvm.Cond.privateMethod ({ cls := "NeitherBare", name := "isMuch", desc := "(II)Z" } : Jvm.MethodName)) ∈ lw_tbl := lw_at lw_m3 65 rfl
theorem q637 : (Jvm.Cond.instanceMethod ({ cls := "NeitherBare", name := "isMuch", desc := "(II)Z" } : Jvm.MethodName)) ∈ lw_all := lw_g (lw_at lw_m3 66 rfl) rfl
theorem q638 : (Jvm.Cond.code ({ cls := "NeitherBare", name := "isMuch", desc := "(II)Z" } : Jvm.MethodName) prog_1_method_27_code (3 : Nat) (Option.some Jvm.ClassFile.FieldType.boolean)) ∈ lw_all := lw_g (lw_at lw_m3 67 rfl) rfl
theorem q639 : (Jvm.Cond.methodLink "NeitherBare" (138 : Nat) ({ cls := "NeitherBare", name := "valueOf", desc := "(II)I" } : Jvm.MethodName)) ∈ lw_all := lw_g (lw_at lw_m3 68 rfl) rfl
theorem q640 : (Jvm.Cond.privateMethod ({ cls := "NeitherBare", name := "valueOf", desc := "(II)I" } : Jvm.MethodName)) ∈ lw_tbl := lw_at lw_m3 69 rfl
theorem q641 : (Jvm.Cond.instanceMethod ({ cls := "NeitherBare", name := "valueOf", desc := "(II)I" } : Jvm.MethodName)) ∈ lw_all := lw_g (lw_at lw_m3 70 rfl) rfl
theorem q642 : (Jvm.Cond.code ({ cls := "NeitherBare", name := "valueOf", desc := "(II)I" } : Jvm.MethodName) prog_1_method_26_code (5 : Nat) (Option.some Jvm.ClassFile.FieldType.int)) ∈ lw_all := lw_g (lw_at lw_m3 71 rfl) rfl
theorem q643 : (Jvm.Cond.methodLink "NeitherBare" (133 : Nat) ({ cls := "java/lang/Math", name := "min", desc := "(II)I" } : Jvm.MethodName)) ∈ lw_all := lw_g (lw_at lw_m3 72 rfl) rfl
theorem q654 : (Jvm.Cond.privateMethod ({ cls := "NeitherBare", name := "isLittle", desc := "(II)Z" } : Jvm.MethodName)) ∈ lw_tbl := lw_at lw_m3 83 rfl
theorem q655 : (Jvm.Cond.instanceMethod ({ cls := "NeitherBare", name := "isLittle", desc := "(II)Z" } : Jvm.MethodName)) ∈ lw_all := lw_g (lw_at lw_m3 84 rfl) rfl
theorem q656 : (Jvm.Cond.code ({ cls := "NeitherBare", name := "isLittle", desc := "(II)Z" } : Jvm.MethodName) prog_1_method_28_code (3 : Nat) (Option.some Jvm.ClassFile.FieldType.boolean)) ∈ lw_all := lw_g (lw_at lw_m3 85 rfl) rfl
theorem q684 : (Jvm.Cond.methodLink "NeitherBare" (203 : Nat) ({ cls := "java/lang/Long", name := "bitCount", desc := "(J)I" } : Jvm.MethodName)) ∈ lw_all := lw_g (lw_at lw_m3 113 rfl) rfl
theorem q691 : (Jvm.Cond.instanceMethod ({ cls := "NeitherBare", name := "mark", desc := "(II)I" } : Jvm.MethodName)) ∈ lw_all := lw_g (lw_at lw_m3 120 rfl) rfl
theorem q692 : (Jvm.Cond.selects "NeitherBare" ({ cls := "NeitherBare", name := "mark", desc := "(II)I" } : Jvm.MethodName) ({ cls := "NeitherBare", name := "mark", desc := "(II)I" } : Jvm.MethodName)) ∈ lw_all := lw_g (lw_at lw_m3 121 rfl) rfl
theorem q693 : (Jvm.Cond.codeWith ({ cls := "NeitherBare", name := "mark", desc := "(II)I" } : Jvm.MethodName) prog_1_method_43_code (9 : Nat) (Option.some Jvm.ClassFile.FieldType.int) [((26 : Nat), (86 : Nat), (154 : Nat), (228 : Nat)), ((87 : Nat), (117 : Nat), (154 : Nat), (228 : Nat)), ((118 : Nat), (129 : Nat), (154 : Nat), (228 : Nat)), ((130 : Nat), (141 : Nat), (154 : Nat), (228 : Nat)), ((142 : Nat), (153 : Nat), (154 : Nat), (228 : Nat))]) ∈ lw_all := lw_g (lw_at lw_m3 122 rfl) rfl
theorem q694 : (Jvm.Cond.classLink "NeitherBare" (228 : Nat) "java/lang/ClassCastException") ∈ lw_all := lw_g (lw_at lw_m3 123 rfl) rfl
theorem q708 : (Jvm.Cond.methodLink "NeitherBare" (215 : Nat) ({ cls := "NeitherBare$Half", name := "asNeither", desc := "()I" } : Jvm.MethodName)) ∈ lw_all := lw_g (lw_at lw_m3 137 rfl) rfl
theorem q715 : (Jvm.Cond.methodLink "NeitherBare" (218 : Nat) ({ cls := "NeitherBare$Neither", name := "mark", desc := "()I" } : Jvm.MethodName)) ∈ lw_all := lw_g (lw_at lw_m3 144 rfl) rfl
theorem q718 : (Jvm.Cond.methodLink "NeitherBare" (221 : Nat) ({ cls := "NeitherBare$But", name := "asBoth", desc := "()I" } : Jvm.MethodName)) ∈ lw_all := lw_g (lw_at lw_m3 147 rfl) rfl
theorem q728 : (Jvm.Cond.methodLink "NeitherBare" (224 : Nat) ({ cls := "NeitherBare$Both", name := "mark", desc := "()I" } : Jvm.MethodName)) ∈ lw_all := lw_g (lw_at lw_m3 157 rfl) rfl
theorem q732 : (Jvm.Cond.methodLink "NeitherBare" (225 : Nat) ({ cls := "NeitherBare$Undone", name := "mark", desc := "()I" } : Jvm.MethodName)) ∈ lw_all := lw_g (lw_at lw_m3 161 rfl) rfl
theorem q737 : (Jvm.Cond.methodLink "NeitherBare" (226 : Nat) ({ cls := "NeitherBare$Half", name := "mark", desc := "()I" } : Jvm.MethodName)) ∈ lw_all := lw_g (lw_at lw_m3 166 rfl) rfl
theorem q738 : (Jvm.Cond.methodLink "NeitherBare" (227 : Nat) ({ cls := "NeitherBare$But", name := "mark", desc := "()I" } : Jvm.MethodName)) ∈ lw_all := lw_g (lw_at lw_m3 167 rfl) rfl
theorem q740 : (Jvm.Cond.instanceMethod ({ cls := "NeitherBare", name := "border", desc := "(II)I" } : Jvm.MethodName)) ∈ lw_all := lw_g (lw_at lw_m3 169 rfl) rfl
theorem q741 : (Jvm.Cond.selects "NeitherBare" ({ cls := "NeitherBare", name := "border", desc := "(II)I" } : Jvm.MethodName) ({ cls := "NeitherBare", name := "border", desc := "(II)I" } : Jvm.MethodName)) ∈ lw_all := lw_g (lw_at lw_m3 170 rfl) rfl
theorem q742 : (Jvm.Cond.code ({ cls := "NeitherBare", name := "border", desc := "(II)I" } : Jvm.MethodName) prog_1_method_45_code (3 : Nat) (Option.some Jvm.ClassFile.FieldType.int)) ∈ lw_all := lw_g (lw_at lw_m3 171 rfl) rfl
theorem q743 : (Jvm.Cond.methodLink "NeitherBare" (230 : Nat) ({ cls := "NeitherBare", name := "borderAt", desc := "(II)I" } : Jvm.MethodName)) ∈ lw_all := lw_g (lw_at lw_m3 172 rfl) rfl
theorem q744 : (Jvm.Cond.static ({ cls := "NeitherBare", name := "borderAt", desc := "(II)I" } : Jvm.MethodName)) ∈ lw_all := lw_g (lw_at lw_m3 173 rfl) rfl
theorem q745 : (Jvm.Cond.code ({ cls := "NeitherBare", name := "borderAt", desc := "(II)I" } : Jvm.MethodName) prog_1_method_44_code (2 : Nat) (Option.some Jvm.ClassFile.FieldType.int)) ∈ lw_all := lw_g (lw_at lw_m3 174 rfl) rfl
theorem q747 : (Jvm.Cond.instanceMethod ({ cls := "NeitherBare", name := "strike", desc := "(II)I" } : Jvm.MethodName)) ∈ lw_all := lw_g (lw_at lw_m3 176 rfl) rfl
theorem q748 : (Jvm.Cond.selects "NeitherBare" ({ cls := "NeitherBare", name := "strike", desc := "(II)I" } : Jvm.MethodName) ({ cls := "NeitherBare", name := "strike", desc := "(II)I" } : Jvm.MethodName)) ∈ lw_all := lw_g (lw_at lw_m3 177 rfl) rfl
theorem q749 : (Jvm.Cond.code ({ cls := "NeitherBare", name := "strike", desc := "(II)I" } : Jvm.MethodName) prog_1_method_48_code (3 : Nat) (Option.some Jvm.ClassFile.FieldType.int)) ∈ lw_all := lw_g (lw_at lw_m3 178 rfl) rfl
theorem q750 : (Jvm.Cond.methodLink "NeitherBare" (233 : Nat) ({ cls := "NeitherBare", name := "remember", desc := "()V" } : Jvm.MethodName)) ∈ lw_all := lw_g (lw_at lw_m3 179 rfl) rfl
theorem q751 : (Jvm.Cond.privateMethod ({ cls := "NeitherBare", name := "remember", desc := "()V" } : Jvm.MethodName)) ∈ lw_tbl := lw_at lw_m3 180 rfl
theorem q752 : (Jvm.Cond.instanceMethod ({ cls := "NeitherBare", name := "remember", desc := "()V" } : Jvm.MethodName)) ∈ lw_all := lw_g (lw_at lw_m3 181 rfl) rfl
theorem q753 : (Jvm.Cond.code ({ cls := "NeitherBare", name := "remember", desc := "()V" } : Jvm.MethodName) prog_1_method_46_code (1 : Nat) (Option.none : Option Jvm.ClassFile.FieldType)) ∈ lw_all := lw_g (lw_at lw_m3 182 rfl) rfl
theorem q754 : (Jvm.Cond.methodLink "NeitherBare" (236 : Nat) ({ cls := "NeitherBare", name := "onSet", desc := "()I" } : Jvm.MethodName)) ∈ lw_all := lw_g (lw_at lw_m3 183 rfl) rfl
theorem q755 : (Jvm.Cond.privateMethod ({ cls := "NeitherBare", name := "onSet", desc := "()I" } : Jvm.MethodName)) ∈ lw_tbl := lw_at lw_m3 184 rfl
theorem q756 : (Jvm.Cond.instanceMethod ({ cls := "NeitherBare", name := "onSet", desc := "()I" } : Jvm.MethodName)) ∈ lw_all := lw_g (lw_at lw_m3 185 rfl) rfl
theorem q757 : (Jvm.Cond.code ({ cls := "NeitherBare", name := "onSet", desc := "()I" } : Jvm.MethodName) prog_1_method_47_code (1 : Nat) (Option.some Jvm.ClassFile.FieldType.int)) ∈ lw_all := lw_g (lw_at lw_m3 186 rfl) rfl
theorem q758 : (Jvm.Cond.methodLink "NeitherBare" (239 : Nat) ({ cls := "java/lang/Integer", name := "bitCount", desc := "(I)I" } : Jvm.MethodName)) ∈ lw_all := lw_g (lw_at lw_m3 187 rfl) rfl
theorem q765 : (Jvm.Cond.instanceMethod ({ cls := "NeitherBare", name := "move", desc := "(III)I" } : Jvm.MethodName)) ∈ lw_all := lw_g (lw_at lw_m3 194 rfl) rfl
theorem q766 : (Jvm.Cond.selects "NeitherBare" ({ cls := "NeitherBare", name := "move", desc := "(III)I" } : Jvm.MethodName) ({ cls := "NeitherBare", name := "move", desc := "(III)I" } : Jvm.MethodName)) ∈ lw_all := lw_g (lw_at lw_m3 195 rfl) rfl
theorem q767 : (Jvm.Cond.code ({ cls := "NeitherBare", name := "move", desc := "(III)I" } : Jvm.MethodName) prog_1_method_51_code (5 : Nat) (Option.some Jvm.ClassFile.FieldType.int)) ∈ lw_all := lw_g (lw_at lw_m3 196 rfl) rfl
theorem q768 : (Jvm.Cond.methodLink "NeitherBare" (243 : Nat) ({ cls := "NeitherBare", name := "isBorder", desc := "(III)Z" } : Jvm.MethodName)) ∈ lw_all := lw_g (lw_at lw_m3 197 rfl) rfl
theorem q769 : (Jvm.Cond.static ({ cls := "NeitherBare", name := "isBorder", desc := "(III)Z" } : Jvm.MethodName)) ∈ lw_all := lw_g (lw_at lw_m3 198 rfl) rfl
theorem q770 : (Jvm.Cond.code ({ cls := "NeitherBare", name := "isBorder", desc := "(III)Z" } : Jvm.MethodName) prog_1_method_49_code (3 : Nat) (Option.some Jvm.ClassFile.FieldType.boolean)) ∈ lw_all := lw_g (lw_at lw_m3 199 rfl) rfl
theorem q771 : (Jvm.Cond.methodLink "NeitherBare" (246 : Nat) ({ cls := "NeitherBare", name := "isBelow", desc := "(III)Z" } : Jvm.MethodName)) ∈ lw_all := lw_g (lw_at lw_m3 200 rfl) rfl
theorem q772 : (Jvm.Cond.privateMethod ({ cls := "NeitherBare", name := "isBelow", desc := "(III)Z" } : Jvm.MethodName)) ∈ lw_tbl := lw_at lw_m3 201 rfl
theorem q773 : (Jvm.Cond.instanceMethod ({ cls := "NeitherBare", name := "isBelow", desc := "(III)Z" } : Jvm.MethodName)) ∈ lw_all := lw_g (lw_at lw_m3 202 rfl) rfl
theorem q774 : (Jvm.Cond.code ({ cls := "NeitherBare", name := "isBelow", desc := "(III)Z" } : Jvm.MethodName) prog_1_method_50_code (4 : Nat) (Option.some Jvm.ClassFile.FieldType.boolean)) ∈ lw_all := lw_g (lw_at lw_m3 203 rfl) rfl
theorem q776 : (Jvm.Cond.instanceMethod ({ cls := "NeitherBare", name := "undo", desc := "(I)I" } : Jvm.MethodName)) ∈ lw_all := lw_g (lw_at lw_m3 205 rfl) rfl
theorem q777 : (Jvm.Cond.selects "NeitherBare" ({ cls := "NeitherBare", name := "undo", desc := "(I)I" } : Jvm.MethodName) ({ cls := "NeitherBare", name := "undo", desc := "(I)I" } : Jvm.MethodName)) ∈ lw_all := lw_g (lw_at lw_m3 206 rfl) rfl
theorem q778 : (Jvm.Cond.code ({ cls := "NeitherBare", name := "undo", desc := "(I)I" } : Jvm.MethodName) prog_1_method_52_code (3 : Nat) (Option.some Jvm.ClassFile.FieldType.int)) ∈ lw_all := lw_g (lw_at lw_m3 207 rfl) rfl
theorem q780 : (Jvm.Cond.instanceMethod ({ cls := "NeitherBare", name := "keep", desc := "(I)I" } : Jvm.MethodName)) ∈ lw_all := lw_g (lw_at lw_m3 209 rfl) rfl
theorem q781 : (Jvm.Cond.selects "NeitherBare" ({ cls := "NeitherBare", name := "keep", desc := "(I)I" } : Jvm.MethodName) ({ cls := "NeitherBare", name := "keep", desc := "(I)I" } : Jvm.MethodName)) ∈ lw_all := lw_g (lw_at lw_m3 210 rfl) rfl
theorem q782 : (Jvm.Cond.code ({ cls := "NeitherBare", name := "keep", desc := "(I)I" } : Jvm.MethodName) prog_1_method_53_code (3 : Nat) (Option.some Jvm.ClassFile.FieldType.int)) ∈ lw_all := lw_g (lw_at lw_m3 211 rfl) rfl
theorem q784 : (Jvm.Cond.instanceMethod ({ cls := "NeitherBare", name := "on", desc := "(I)I" } : Jvm.MethodName)) ∈ lw_all := lw_g (lw_at lw_m3 213 rfl) rfl
theorem q785 : (Jvm.Cond.selects "NeitherBare" ({ cls := "NeitherBare", name := "on", desc := "(I)I" } : Jvm.MethodName) ({ cls := "NeitherBare", name := "on", desc := "(I)I" } : Jvm.MethodName)) ∈ lw_all := lw_g (lw_at lw_m3 214 rfl) rfl
theorem q786 : (Jvm.Cond.code ({ cls := "NeitherBare", name := "on", desc := "(I)I" } : Jvm.MethodName) prog_1_method_54_code (2 : Nat) (Option.some Jvm.ClassFile.FieldType.int)) ∈ lw_all := lw_g (lw_at lw_m3 215 rfl) rfl
theorem q788 : (Jvm.Cond.instanceMethod ({ cls := "NeitherBare", name := "value", desc := "(II)I" } : Jvm.MethodName)) ∈ lw_all := lw_g (lw_at lw_m3 217 rfl) rfl
theorem q789 : (Jvm.Cond.selects "NeitherBare" ({ cls := "NeitherBare", name := "value", desc := "(II)I" } : Jvm.MethodName) ({ cls := "NeitherBare", name := "value", desc := "(II)I" } : Jvm.MethodName)) ∈ lw_all := lw_g (lw_at lw_m3 218 rfl) rfl
theorem q790 : (Jvm.Cond.code ({ cls := "NeitherBare", name := "value", desc := "(II)I" } : Jvm.MethodName) prog_1_method_55_code (3 : Nat) (Option.some Jvm.ClassFile.FieldType.int)) ∈ lw_all := lw_g (lw_at lw_m3 219 rfl) rfl
theorem q791 : (Jvm.Cond.methodLink "NeitherBare" (249 : Nat) ({ cls := "NeitherBare", name := "isWay", desc := "(I)Z" } : Jvm.MethodName)) ∈ lw_all := lw_g (lw_at lw_m3 220 rfl) rfl
theorem q792 : (Jvm.Cond.privateMethod ({ cls := "NeitherBare", name := "isWay", desc := "(I)Z" } : Jvm.MethodName)) ∈ lw_tbl := lw_at lw_m3 221 rfl
theorem q793 : (Jvm.Cond.instanceMethod ({ cls := "NeitherBare", name := "isWay", desc := "(I)Z" } : Jvm.MethodName)) ∈ lw_all := lw_g (lw_at lw_m3 222 rfl) rfl
theorem q794 : (Jvm.Cond.code ({ cls := "NeitherBare", name := "isWay", desc := "(I)Z" } : Jvm.MethodName) prog_1_method_25_code (2 : Nat) (Option.some Jvm.ClassFile.FieldType.boolean)) ∈ lw_all := lw_g (lw_at lw_m3 223 rfl) rfl
theorem q796 : (Jvm.Cond.instanceMethod ({ cls := "NeitherBare", name := "cost", desc := "(I)I" } : Jvm.MethodName)) ∈ lw_all := lw_g (lw_at lw_m3 225 rfl) rfl
theorem q797 : (Jvm.Cond.selects "NeitherBare" ({ cls := "NeitherBare", name := "cost", desc := "(I)I" } : Jvm.MethodName) ({ cls := "NeitherBare", name := "cost", desc := "(I)I" } : Jvm.MethodName)) ∈ lw_all := lw_g (lw_at lw_m3 226 rfl) rfl
theorem q798 : (Jvm.Cond.code ({ cls := "NeitherBare", name := "cost", desc := "(I)I" } : Jvm.MethodName) prog_1_method_56_code (2 : Nat) (Option.some Jvm.ClassFile.FieldType.int)) ∈ lw_all := lw_g (lw_at lw_m3 227 rfl) rfl
theorem q799 : (Jvm.Cond.methodLink "NeitherBare" (252 : Nat) ({ cls := "NeitherBare", name := "costOf", desc := "(I)I" } : Jvm.MethodName)) ∈ lw_all := lw_g (lw_at lw_m3 228 rfl) rfl
theorem q800 : (Jvm.Cond.privateMethod ({ cls := "NeitherBare", name := "costOf", desc := "(I)I" } : Jvm.MethodName)) ∈ lw_tbl := lw_at lw_m3 229 rfl
theorem q801 : (Jvm.Cond.instanceMethod ({ cls := "NeitherBare", name := "costOf", desc := "(I)I" } : Jvm.MethodName)) ∈ lw_all := lw_g (lw_at lw_m3 230 rfl) rfl
theorem q802 : (Jvm.Cond.code ({ cls := "NeitherBare", name := "costOf", desc := "(I)I" } : Jvm.MethodName) prog_1_method_29_code (4 : Nat) (Option.some Jvm.ClassFile.FieldType.int)) ∈ lw_all := lw_g (lw_at lw_m3 231 rfl) rfl
theorem q804 : (Jvm.Cond.instanceMethod ({ cls := "NeitherBare", name := "holds", desc := "(I)I" } : Jvm.MethodName)) ∈ lw_all := lw_g (lw_at lw_m3 233 rfl) rfl
theorem q805 : (Jvm.Cond.selects "NeitherBare" ({ cls := "NeitherBare", name := "holds", desc := "(I)I" } : Jvm.MethodName) ({ cls := "NeitherBare", name := "holds", desc := "(I)I" } : Jvm.MethodName)) ∈ lw_all := lw_g (lw_at lw_m3 234 rfl) rfl
theorem q806 : (Jvm.Cond.code ({ cls := "NeitherBare", name := "holds", desc := "(I)I" } : Jvm.MethodName) prog_1_method_59_code (2 : Nat) (Option.some Jvm.ClassFile.FieldType.int)) ∈ lw_all := lw_g (lw_at lw_m3 235 rfl) rfl
theorem q807 : (Jvm.Cond.methodLink "NeitherBare" (258 : Nat) ({ cls := "NeitherBare", name := "isGood", desc := "(I)Z" } : Jvm.MethodName)) ∈ lw_all := lw_g (lw_at lw_m3 236 rfl) rfl
theorem q808 : (Jvm.Cond.privateMethod ({ cls := "NeitherBare", name := "isGood", desc := "(I)Z" } : Jvm.MethodName)) ∈ lw_tbl := lw_at lw_m3 237 rfl
theorem q809 : (Jvm.Cond.instanceMethod ({ cls := "NeitherBare", name := "isGood", desc := "(I)Z" } : Jvm.MethodName)) ∈ lw_all := lw_g (lw_at lw_m3 238 rfl) rfl
theorem q810 : (Jvm.Cond.code ({ cls := "NeitherBare", name := "isGood", desc := "(I)Z" } : Jvm.MethodName) prog_1_method_58_code (2 : Nat) (Option.some Jvm.ClassFile.FieldType.boolean)) ∈ lw_all := lw_g (lw_at lw_m3 239 rfl) rfl
theorem q811 : (Jvm.Cond.methodLink "NeitherBare" (255 : Nat) ({ cls := "NeitherBare", name := "holdSet", desc := "(I)I" } : Jvm.MethodName)) ∈ lw_all := lw_g (lw_at lw_m4 0 rfl) rfl
theorem q812 : (Jvm.Cond.privateMethod ({ cls := "NeitherBare", name := "holdSet", desc := "(I)I" } : Jvm.MethodName)) ∈ lw_tbl := lw_at lw_m4 1 rfl
theorem q813 : (Jvm.Cond.instanceMethod ({ cls := "NeitherBare", name := "holdSet", desc := "(I)I" } : Jvm.MethodName)) ∈ lw_all := lw_g (lw_at lw_m4 2 rfl) rfl
theorem q814 : (Jvm.Cond.code ({ cls := "NeitherBare", name := "holdSet", desc := "(I)I" } : Jvm.MethodName) prog_1_method_57_code (5 : Nat) (Option.some Jvm.ClassFile.FieldType.int)) ∈ lw_all := lw_g (lw_at lw_m4 3 rfl) rfl
theorem q816 : (Jvm.Cond.instanceMethod ({ cls := "NeitherBare", name := "good", desc := "()I" } : Jvm.MethodName)) ∈ lw_all := lw_g (lw_at lw_m4 5 rfl) rfl
theorem q817 : (Jvm.Cond.selects "NeitherBare" ({ cls := "NeitherBare", name := "good", desc := "()I" } : Jvm.MethodName) ({ cls := "NeitherBare", name := "good", desc := "()I" } : Jvm.MethodName)) ∈ lw_all := lw_g (lw_at lw_m4 6 rfl) rfl
theorem q818 : (Jvm.Cond.code ({ cls := "NeitherBare", name := "good", desc := "()I" } : Jvm.MethodName) prog_1_method_65_code (3 : Nat) (Option.some Jvm.ClassFile.FieldType.int)) ∈ lw_all := lw_g (lw_at lw_m4 7 rfl) rfl
theorem q819 : (Jvm.Cond.methodLink "NeitherBare" (274 : Nat) ({ cls := "NeitherBare", name := "goodWays", desc := "()J" } : Jvm.MethodName)) ∈ lw_all := lw_g (lw_at lw_m4 8 rfl) rfl
theorem q820 : (Jvm.Cond.privateMethod ({ cls := "NeitherBare", name := "goodWays", desc := "()J" } : Jvm.MethodName)) ∈ lw_tbl := lw_at lw_m4 9 rfl
theorem q821 : (Jvm.Cond.instanceMethod ({ cls := "NeitherBare", name := "goodWays", desc := "()J" } : Jvm.MethodName)) ∈ lw_all := lw_g (lw_at lw_m4 10 rfl) rfl
theorem q822 : (Jvm.Cond.code ({ cls := "NeitherBare", name := "goodWays", desc := "()J" } : Jvm.MethodName) prog_1_method_63_code (1 : Nat) (Option.some Jvm.ClassFile.FieldType.long)) ∈ lw_all := lw_g (lw_at lw_m4 11 rfl) rfl
theorem q823 : (Jvm.Cond.methodLink "NeitherBare" (267 : Nat) ({ cls := "NeitherBare", name := "laySets", desc := "()V" } : Jvm.MethodName)) ∈ lw_all := lw_g (lw_at lw_m4 12 rfl) rfl
theorem q824 : (Jvm.Cond.privateMethod ({ cls := "NeitherBare", name := "laySets", desc := "()V" } : Jvm.MethodName)) ∈ lw_tbl := lw_at lw_m4 13 rfl
theorem q825 : (Jvm.Cond.instanceMethod ({ cls := "NeitherBare", name := "laySets", desc := "()V" } : Jvm.MethodName)) ∈ lw_all := lw_g (lw_at lw_m4 14 rfl) rfl
theorem q826 : (Jvm.Cond.code ({ cls := "NeitherBare", name := "laySets", desc := "()V" } : Jvm.MethodName) prog_1_method_61_code (2 : Nat) (Option.none : Option Jvm.ClassFile.FieldType)) ∈ lw_all := lw_g (lw_at lw_m4 15 rfl) rfl
theorem q827 : (Jvm.Cond.methodLink "NeitherBare" (270 : Nat) ({ cls := "NeitherBare", name := "common", desc := "(I)J" } : Jvm.MethodName)) ∈ lw_all := lw_g (lw_at lw_m4 16 rfl) rfl
theorem q828 : (Jvm.Cond.privateMethod ({ cls := "NeitherBare", name := "common", desc := "(I)J" } : Jvm.MethodName)) ∈ lw_tbl := lw_at lw_m4 17 rfl
theorem q829 : (Jvm.Cond.instanceMethod ({ cls := "NeitherBare", name := "common", desc := "(I)J" } : Jvm.MethodName)) ∈ lw_all := lw_g (lw_at lw_m4 18 rfl) rfl
theorem q830 : (Jvm.Cond.code ({ cls := "NeitherBare", name := "common", desc := "(I)J" } : Jvm.MethodName) prog_1_method_62_code (5 : Nat) (Option.some Jvm.ClassFile.FieldType.long)) ∈ lw_all := lw_g (lw_at lw_m4 19 rfl) rfl
theorem q831 : (Jvm.Cond.methodLink "NeitherBare" (263 : Nat) ({ cls := "NeitherBare", name := "allWays", desc := "()J" } : Jvm.MethodName)) ∈ lw_all := lw_g (lw_at lw_m4 20 rfl) rfl
theorem q832 : (Jvm.Cond.privateMethod ({ cls := "NeitherBare", name := "allWays", desc := "()J" } : Jvm.MethodName)) ∈ lw_tbl := lw_at lw_m4 21 rfl
theorem q833 : (Jvm.Cond.instanceMethod ({ cls := "NeitherBare", name := "allWays", desc := "()J" } : Jvm.MethodName)) ∈ lw_all := lw_g (lw_at lw_m4 22 rfl) rfl
theorem q834 : (Jvm.Cond.code ({ cls := "NeitherBare", name := "allWays", desc := "()J" } : Jvm.MethodName) prog_1_method_60_code (1 : Nat) (Option.some Jvm.ClassFile.FieldType.long)) ∈ lw_all := lw_g (lw_at lw_m4 23 rfl) rfl
theorem q835 : (Jvm.Cond.constantLong "NeitherBare" (261 : Nat) (-1 : Int64)) ∈ lw_all := lw_g (lw_at lw_m4 24 rfl) rfl
theorem q836 : (Jvm.Cond.methodLink "NeitherBare" (277 : Nat) ({ cls := "java/lang/Long", name := "numberOfTrailingZeros", desc := "(J)I" } : Jvm.MethodName)) ∈ lw_all := lw_g (lw_at lw_m4 25 rfl) rfl
theorem q844 : (Jvm.Cond.instanceMethod ({ cls := "NeitherBare", name := "cheapest", desc := "()I" } : Jvm.MethodName)) ∈ lw_all := lw_g (lw_at lw_m4 33 rfl) rfl
theorem q845 : (Jvm.Cond.selects "NeitherBare" ({ cls := "NeitherBare", name := "cheapest", desc := "()I" } : Jvm.MethodName) ({ cls := "NeitherBare", name := "cheapest", desc := "()I" } : Jvm.MethodName)) ∈ lw_all := lw_g (lw_at lw_m4 34 rfl) rfl
theorem q846 : (Jvm.Cond.code ({ cls := "NeitherBare", name := "cheapest", desc := "()I" } : Jvm.MethodName) prog_1_method_67_code (2 : Nat) (Option.some Jvm.ClassFile.FieldType.int)) ∈ lw_all := lw_g (lw_at lw_m4 35 rfl) rfl
theorem q847 : (Jvm.Cond.methodLink "NeitherBare" (285 : Nat) ({ cls := "NeitherBare", name := "bestOf", desc := "(JZ)I" } : Jvm.MethodName)) ∈ lw_all := lw_g (lw_at lw_m4 36 rfl) rfl
theorem q848 : (Jvm.Cond.privateMethod ({ cls := "NeitherBare", name := "bestOf", desc := "(JZ)I" } : Jvm.MethodName)) ∈ lw_tbl := lw_at lw_m4 37 rfl
theorem q849 : (Jvm.Cond.instanceMethod ({ cls := "NeitherBare", name := "bestOf", desc := "(JZ)I" } : Jvm.MethodName)) ∈ lw_all := lw_g (lw_at lw_m4 38 rfl) rfl
theorem q850 : (Jvm.Cond.code ({ cls := "NeitherBare", name := "bestOf", desc := "(JZ)I" } : Jvm.MethodName) prog_1_method_66_code (8 : Nat) (Option.some Jvm.ClassFile.FieldType.int)) ∈ lw_all := lw_g (lw_at lw_m4 39 rfl) rfl
theorem q851 : (Jvm.Cond.constant "NeitherBare" (280 : Nat) (1000000 : Int32)) ∈ lw_all := lw_g (lw_at lw_m4 40 rfl) rfl
theorem q852 : (Jvm.Cond.methodLink "NeitherBare" (281 : Nat) ({ cls := "NeitherBare", name := "isIn", desc := "(JI)Z" } : Jvm.MethodName)) ∈ lw_all := lw_g (lw_at lw_m4 41 rfl) rfl
theorem q853 : (Jvm.Cond.static ({ cls := "NeitherBare", name := "isIn", desc := "(JI)Z" } : Jvm.MethodName)) ∈ lw_all := lw_g (lw_at lw_m4 42 rfl) rfl
theorem q854 : (Jvm.Cond.code ({ cls := "NeitherBare", name := "isIn", desc := "(JI)Z" } : Jvm.MethodName) prog_1_method_64_code (3 : Nat) (Option.some Jvm.ClassFile.FieldType.boolean)) ∈ lw_all := lw_g (lw_at lw_m4 43 rfl) rfl
theorem q856 : (Jvm.Cond.instanceMethod ({ cls := "NeitherBare", name := "fewest", desc := "()I" } : Jvm.MethodName)) ∈ lw_all := lw_g (lw_at lw_m4 45 rfl) rfl
theorem q857 : (Jvm.Cond.selects "NeitherBare" ({ cls := "NeitherBare", name := "fewest", desc := "()I" } : Jvm.MethodName) ({ cls := "NeitherBare", name := "fewest", desc := "()I" } : Jvm.MethodName)) ∈ lw_all := lw_g (lw_at lw_m4 46 rfl) rfl
theorem q858 : (Jvm.Cond.code ({ cls := "NeitherBare", name := "fewest", desc := "()I" } : Jvm.MethodName) prog_1_method_68_code (2 : Nat) (Option.some Jvm.ClassFile.FieldType.int)) ∈ lw_all := lw_g (lw_at lw_m4 47 rfl) rfl
theorem q860 : (Jvm.Cond.instanceMethod ({ cls := "NeitherBare", name := "nearest", desc := "()I" } : Jvm.MethodName)) ∈ lw_all := lw_g (lw_at lw_m4 49 rfl) rfl
theorem q861 : (Jvm.Cond.selects "NeitherBare" ({ cls := "NeitherBare", name := "nearest", desc := "()I" } : Jvm.MethodName) ({ cls := "NeitherBare", name := "nearest", desc := "()I" } : Jvm.MethodName)) ∈ lw_all := lw_g (lw_at lw_m4 50 rfl) rfl
theorem q862 : (Jvm.Cond.code ({ cls := "NeitherBare", name := "nearest", desc := "()I" } : Jvm.MethodName) prog_1_method_69_code (5 : Nat) (Option.some Jvm.ClassFile.FieldType.int)) ∈ lw_all := lw_g (lw_at lw_m4 51 rfl) rfl
theorem q863 : (Jvm.Cond.methodLink "NeitherBare" (289 : Nat) ({ cls := "java/lang/Math", name := "max", desc := "(II)I" } : Jvm.MethodName)) ∈ lw_all := lw_g (lw_at lw_m4 52 rfl) rfl
theorem q865 : (Jvm.Cond.instanceMethod ({ cls := "NeitherBare", name := "tight", desc := "(I)I" } : Jvm.MethodName)) ∈ lw_all := lw_g (lw_at lw_m4 54 rfl) rfl
theorem q866 : (Jvm.Cond.selects "NeitherBare" ({ cls := "NeitherBare", name := "tight", desc := "(I)I" } : Jvm.MethodName) ({ cls := "NeitherBare", name := "tight", desc := "(I)I" } : Jvm.MethodName)) ∈ lw_all := lw_g (lw_at lw_m4 55 rfl) rfl
theorem q867 : (Jvm.Cond.code ({ cls := "NeitherBare", name := "tight", desc := "(I)I" } : Jvm.MethodName) prog_1_method_70_code (4 : Nat) (Option.some Jvm.ClassFile.FieldType.int)) ∈ lw_all := lw_g (lw_at lw_m4 56 rfl) rfl
theorem q869 : (Jvm.Cond.instanceMethod ({ cls := "NeitherBare", name := "clash", desc := "(I)I" } : Jvm.MethodName)) ∈ lw_all := lw_g (lw_at lw_m4 58 rfl) rfl
theorem q870 : (Jvm.Cond.selects "NeitherBare" ({ cls := "NeitherBare", name := "clash", desc := "(I)I" } : Jvm.MethodName) ({ cls := "NeitherBare", name := "clash", desc := "(I)I" } : Jvm.MethodName)) ∈ lw_all := lw_g (lw_at lw_m4 59 rfl) rfl
theorem q871 : (Jvm.Cond.code ({ cls := "NeitherBare", name := "clash", desc := "(I)I" } : Jvm.MethodName) prog_1_method_71_code (2 : Nat) (Option.some Jvm.ClassFile.FieldType.int)) ∈ lw_all := lw_g (lw_at lw_m4 60 rfl) rfl
theorem q873 : (Jvm.Cond.instanceMethod ({ cls := "NeitherBare", name := "two", desc := "()I" } : Jvm.MethodName)) ∈ lw_all := lw_g (lw_at lw_m4 62 rfl) rfl
theorem q874 : (Jvm.Cond.selects "NeitherBare" ({ cls := "NeitherBare", name := "two", desc := "()I" } : Jvm.MethodName) ({ cls := "NeitherBare", name := "two", desc := "()I" } : Jvm.MethodName)) ∈ lw_all := lw_g (lw_at lw_m4 63 rfl) rfl
theorem q875 : (Jvm.Cond.code ({ cls := "NeitherBare", name := "two", desc := "()I" } : Jvm.MethodName) prog_1_method_72_code (4 : Nat) (Option.some Jvm.ClassFile.FieldType.int)) ∈ lw_all := lw_g (lw_at lw_m4 64 rfl) rfl
theorem q877 : (Jvm.Cond.instanceMethod ({ cls := "NeitherBare", name := "least", desc := "()I" } : Jvm.MethodName)) ∈ lw_all := lw_g (lw_at lw_m4 66 rfl) rfl
theorem q878 : (Jvm.Cond.selects "NeitherBare" ({ cls := "NeitherBare", name := "least", desc := "()I" } : Jvm.MethodName) ({ cls := "NeitherBare", name := "least", desc := "()I" } : Jvm.MethodName)) ∈ lw_all := lw_g (lw_at lw_m4 67 rfl) rfl
theorem q879 : (Jvm.Cond.code ({ cls := "NeitherBare", name := "least", desc := "()I" } : Jvm.MethodName) prog_1_method_73_code (4 : Nat) (Option.some Jvm.ClassFile.FieldType.int)) ∈ lw_all := lw_g (lw_at lw_m4 68 rfl) rfl
theorem q881 : (Jvm.Cond.instanceMethod ({ cls := "NeitherBare", name := "relent", desc := "()I" } : Jvm.MethodName)) ∈ lw_all := lw_g (lw_at lw_m4 70 rfl) rfl
theorem q882 : (Jvm.Cond.selects "NeitherBare" ({ cls := "NeitherBare", name := "relent", desc := "()I" } : Jvm.MethodName) ({ cls := "NeitherBare", name := "relent", desc := "()I" } : Jvm.MethodName)) ∈ lw_all := lw_g (lw_at lw_m4 71 rfl) rfl
theorem q883 : (Jvm.Cond.code ({ cls := "NeitherBare", name := "relent", desc := "()I" } : Jvm.MethodName) prog_1_method_74_code (5 : Nat) (Option.some Jvm.ClassFile.FieldType.int)) ∈ lw_all := lw_g (lw_at lw_m4 72 rfl) rfl
theorem q885 : (Jvm.Cond.instanceMethod ({ cls := "NeitherBare", name := "game", desc := "(I)I" } : Jvm.MethodName)) ∈ lw_all := lw_g (lw_at lw_m4 74 rfl) rfl
theorem q886 : (Jvm.Cond.selects "NeitherBare" ({ cls := "NeitherBare", name := "game", desc := "(I)I" } : Jvm.MethodName) ({ cls := "NeitherBare", name := "game", desc := "(I)I" } : Jvm.MethodName)) ∈ lw_all := lw_g (lw_at lw_m4 75 rfl) rfl
theorem q887 : (Jvm.Cond.code ({ cls := "NeitherBare", name := "game", desc := "(I)I" } : Jvm.MethodName) prog_1_method_78_code (3 : Nat) (Option.some Jvm.ClassFile.FieldType.int)) ∈ lw_all := lw_g (lw_at lw_m4 76 rfl) rfl
theorem q888 : (Jvm.Cond.methodLink "NeitherBare" (301 : Nat) ({ cls := "NeitherBare", name := "needGame", desc := "(II)I" } : Jvm.MethodName)) ∈ lw_all := lw_g (lw_at lw_m4 77 rfl) rfl
theorem q889 : (Jvm.Cond.privateMethod ({ cls := "NeitherBare", name := "needGame", desc := "(II)I" } : Jvm.MethodName)) ∈ lw_tbl := lw_at lw_m4 78 rfl
theorem q890 : (Jvm.Cond.instanceMethod ({ cls := "NeitherBare", name := "needGame", desc := "(II)I" } : Jvm.MethodName)) ∈ lw_all := lw_g (lw_at lw_m4 79 rfl) rfl
theorem q891 : (Jvm.Cond.code ({ cls := "NeitherBare", name := "needGame", desc := "(II)I" } : Jvm.MethodName) prog_1_method_77_code (3 : Nat) (Option.some Jvm.ClassFile.FieldType.int)) ∈ lw_all := lw_g (lw_at lw_m4 80 rfl) rfl
theorem q892 : (Jvm.Cond.methodLink "NeitherBare" (298 : Nat) ({ cls := "NeitherBare", name := "winsShe", desc := "(III)Z" } : Jvm.MethodName)) ∈ lw_all := lw_g (lw_at lw_m4 81 rfl) rfl
theorem q893 : (Jvm.Cond.privateMethod ({ cls := "NeitherBare", name := "winsShe", desc := "(III)Z" } : Jvm.MethodName)) ∈ lw_tbl := lw_at lw_m4 82 rfl
theorem q894 : (Jvm.Cond.instanceMethod ({ cls := "NeitherBare", name := "winsShe", desc := "(III)Z" } : Jvm.MethodName)) ∈ lw_all := lw_g (lw_at lw_m4 83 rfl) rfl
theorem q895 : (Jvm.Cond.code ({ cls := "NeitherBare", name := "winsShe", desc := "(III)Z" } : Jvm.MethodName) prog_1_method_75_code (7 : Nat) (Option.some Jvm.ClassFile.FieldType.boolean)) ∈ lw_all := lw_g (lw_at lw_m4 84 rfl) rfl
theorem q896 : (Jvm.Cond.methodLink "NeitherBare" (292 : Nat) ({ cls := "NeitherBare", name := "answers", desc := "(III)Z" } : Jvm.MethodName)) ∈ lw_all := lw_g (lw_at lw_m4 85 rfl) rfl
theorem q897 : (Jvm.Cond.privateMethod ({ cls := "NeitherBare", name := "answers", desc := "(III)Z" } : Jvm.MethodName)) ∈ lw_tbl := lw_at lw_m4 86 rfl
theorem q898 : (Jvm.Cond.instanceMethod ({ cls := "NeitherBare", name := "answers", desc := "(III)Z" } : Jvm.MethodName)) ∈ lw_all := lw_g (lw_at lw_m4 87 rfl) rfl
theorem q899 : (Jvm.Cond.code ({ cls := "NeitherBare", name := "answers", desc := "(III)Z" } : Jvm.MethodName) prog_1_method_76_code (6 : Nat) (Option.some Jvm.ClassFile.FieldType.boolean)) ∈ lw_all := lw_g (lw_at lw_m4 88 rfl) rfl
theorem q901 : (Jvm.Cond.instanceMethod ({ cls := "NeitherBare", name := "names", desc := "(I)I" } : Jvm.MethodName)) ∈ lw_all := lw_g (lw_at lw_m4 90 rfl) rfl
theorem q902 : (Jvm.Cond.selects "NeitherBare" ({ cls := "NeitherBare", name := "names", desc := "(I)I" } : Jvm.MethodName) ({ cls := "NeitherBare", name := "names", desc := "(I)I" } : Jvm.MethodName)) ∈ lw_all := lw_g (lw_at lw_m4 91 rfl) rfl
theorem q903 : (Jvm.Cond.code ({ cls := "NeitherBare", name := "names", desc := "(I)I" } : Jvm.MethodName) prog_1_method_79_code (3 : Nat) (Option.some Jvm.ClassFile.FieldType.int)) ∈ lw_all := lw_g (lw_at lw_m4 92 rfl) rfl
theorem q905 : (Jvm.Cond.instanceMethod ({ cls := "NeitherBare", name := "contradict", desc := "(I)I" } : Jvm.MethodName)) ∈ lw_all := lw_g (lw_at lw_m4 94 rfl) rfl
theorem q906 : (Jvm.Cond.selects "NeitherBare" ({ cls := "NeitherBare", name := "contradict", desc := "(I)I" } : Jvm.MethodName) ({ cls := "NeitherBare", name := "contradict", desc := "(I)I" } : Jvm.MethodName)) ∈ lw_all := lw_g (lw_at lw_m4 95 rfl) rfl
theorem q907 : (Jvm.Cond.code ({ cls := "NeitherBare", name := "contradict", desc := "(I)I" } : Jvm.MethodName) prog_1_method_82_code (8 : Nat) (Option.some Jvm.ClassFile.FieldType.int)) ∈ lw_all := lw_g (lw_at lw_m4 96 rfl) rfl
theorem q908 : (Jvm.Cond.methodLink "NeitherBare" (304 : Nat) ({ cls := "NeitherBare", name := "needRulings", desc := "(IZ)I" } : Jvm.MethodName)) ∈ lw_all := lw_g (lw_at lw_m4 97 rfl) rfl
theorem q909 : (Jvm.Cond.privateMethod ({ cls := "NeitherBare", name := "needRulings", desc := "(IZ)I" } : Jvm.MethodName)) ∈ lw_tbl := lw_at lw_m4 98 rfl
theorem q910 : (Jvm.Cond.instanceMethod ({ cls := "NeitherBare", name := "needRulings", desc := "(IZ)I" } : Jvm.MethodName)) ∈ lw_all := lw_g (lw_at lw_m4 99 rfl) rfl
theorem q911 : (Jvm.Cond.code ({ cls := "NeitherBare", name := "needRulings", desc := "(IZ)I" } : Jvm.MethodName) prog_1_method_80_code (6 : Nat) (Option.some Jvm.ClassFile.FieldType.int)) ∈ lw_all := lw_g (lw_at lw_m4 100 rfl) rfl
theorem q912 : (Jvm.Cond.methodLink "NeitherBare" (308 : Nat) ({ cls := "NeitherBare", name := "areAgainst", desc := "([III)Z" } : Jvm.MethodName)) ∈ lw_all := lw_g (lw_at lw_m4 101 rfl) rfl
theorem q913 : (Jvm.Cond.static ({ cls := "NeitherBare", name := "areAgainst", desc := "([III)Z" } : Jvm.MethodName)) ∈ lw_all := lw_g (lw_at lw_m4 102 rfl) rfl
theorem q914 : (Jvm.Cond.code ({ cls := "NeitherBare", name := "areAgainst", desc := "([III)Z" } : Jvm.MethodName) prog_1_method_81_code (5 : Nat) (Option.some Jvm.ClassFile.FieldType.boolean)) ∈ lw_all := lw_g (lw_at lw_m4 103 rfl) rfl
theorem q916 : (Jvm.Cond.instanceMethod ({ cls := "NeitherBare", name := "fix", desc := "(I)I" } : Jvm.MethodName)) ∈ lw_all := lw_g (lw_at lw_m4 105 rfl) rfl
theorem q917 : (Jvm.Cond.selects "NeitherBare" ({ cls := "NeitherBare", name := "fix", desc := "(I)I" } : Jvm.MethodName) ({ cls := "NeitherBare", name := "fix", desc := "(I)I" } : Jvm.MethodName)) ∈ lw_all := lw_g (lw_at lw_m4 106 rfl) rfl
theorem q918 : (Jvm.Cond.code ({ cls := "NeitherBare", name := "fix", desc := "(I)I" } : Jvm.MethodName) prog_1_method_84_code (7 : Nat) (Option.some Jvm.ClassFile.FieldType.int)) ∈ lw_all := lw_g (lw_at lw_m4 107 rfl) rfl
theorem q919 : (Jvm.Cond.methodLink "NeitherBare" (312 : Nat) ({ cls := "NeitherBare", name := "isClear", desc := "([II)Z" } : Jvm.MethodName)) ∈ lw_all := lw_g (lw_at lw_m4 108 rfl) rfl
theorem q920 : (Jvm.Cond.static ({ cls := "NeitherBare", name := "isClear", desc := "([II)Z" } : Jvm.MethodName)) ∈ lw_all := lw_g (lw_at lw_m4 109 rfl) rfl
theorem q921 : (Jvm.Cond.code ({ cls := "NeitherBare", name := "isClear", desc := "([II)Z" } : Jvm.MethodName) prog_1_method_83_code (5 : Nat) (Option.some Jvm.ClassFile.FieldType.boolean)) ∈ lw_all := lw_g (lw_at lw_m4 110 rfl) rfl
theorem q923 : (Jvm.Cond.instanceMethod ({ cls := "NeitherBare", name := "follows", desc := "(III)I" } : Jvm.MethodName)) ∈ lw_all := lw_g (lw_at lw_m4 112 rfl) rfl
theorem q924 : (Jvm.Cond.selects "NeitherBare" ({ cls := "NeitherBare", name := "follows", desc := "(III)I" } : Jvm.MethodName) ({ cls := "NeitherBare", name := "follows", desc := "(III)I" } : Jvm.MethodName)) ∈ lw_all := lw_g (lw_at lw_m4 113 rfl) rfl
theorem q925 : (Jvm.Cond.code ({ cls := "NeitherBare", name := "follows", desc := "(III)I" } : Jvm.MethodName) prog_1_method_85_code (9 : Nat) (Option.some Jvm.ClassFile.FieldType.int)) ∈ lw_all := lw_g (lw_at lw_m4 114 rfl) rfl
theorem q927 : (Jvm.Cond.instanceMethod ({ cls := "NeitherBare", name := "borders", desc := "(II)I" } : Jvm.MethodName)) ∈ lw_all := lw_g (lw_at lw_m4 116 rfl) rfl
theorem q928 : (Jvm.Cond.selects "NeitherBare" ({ cls := "NeitherBare", name := "borders", desc := "(II)I" } : Jvm.MethodName) ({ cls := "NeitherBare", name := "borders", desc := "(II)I" } : Jvm.MethodName)) ∈ lw_all := lw_g (lw_at lw_m4 117 rfl) rfl
theorem q929 : (Jvm.Cond.code ({ cls := "NeitherBare", name := "borders", desc := "(II)I" } : Jvm.MethodName) prog_1_method_86_code (9 : Nat) (Option.some Jvm.ClassFile.FieldType.int)) ∈ lw_all := lw_g (lw_at lw_m4 118 rfl) rfl
theorem q931 : (Jvm.Cond.instanceMethod ({ cls := "NeitherBare", name := "worth", desc := "(I)I" } : Jvm.MethodName)) ∈ lw_all := lw_g (lw_at lw_m4 120 rfl) rfl
theorem q932 : (Jvm.Cond.selects "NeitherBare" ({ cls := "NeitherBare", name := "worth", desc := "(I)I" } : Jvm.MethodName) ({ cls := "NeitherBare", name := "worth", desc := "(I)I" } : Jvm.MethodName)) ∈ lw_all := lw_g (lw_at lw_m4 121 rfl) rfl
theorem q933 : (Jvm.Cond.code ({ cls := "NeitherBare", name := "worth", desc := "(I)I" } : Jvm.MethodName) prog_1_method_87_code (5 : Nat) (Option.some Jvm.ClassFile.FieldType.int)) ∈ lw_all := lw_g (lw_at lw_m4 122 rfl) rfl
theorem q935 : (Jvm.Cond.instanceMethod ({ cls := "NeitherBare", name := "falls", desc := "(III)I" } : Jvm.MethodName)) ∈ lw_all := lw_g (lw_at lw_m4 124 rfl) rfl
theorem q936 : (Jvm.Cond.selects "NeitherBare" ({ cls := "NeitherBare", name := "falls", desc := "(III)I" } : Jvm.MethodName) ({ cls := "NeitherBare", name := "falls", desc := "(III)I" } : Jvm.MethodName)) ∈ lw_all := lw_g (lw_at lw_m4 125 rfl) rfl
theorem q937 : (Jvm.Cond.code ({ cls := "NeitherBare", name := "falls", desc := "(III)I" } : Jvm.MethodName) prog_1_method_88_code (10 : Nat) (Option.some Jvm.ClassFile.FieldType.int)) ∈ lw_all := lw_g (lw_at lw_m4 126 rfl) rfl
theorem q939 : (Jvm.Cond.instanceMethod ({ cls := "NeitherBare", name := "kinds", desc := "(II)I" } : Jvm.MethodName)) ∈ lw_all := lw_g (lw_at lw_m4 128 rfl) rfl
theorem q940 : (Jvm.Cond.selects "NeitherBare" ({ cls := "NeitherBare", name := "kinds", desc := "(II)I" } : Jvm.MethodName) ({ cls := "NeitherBare", name := "kinds", desc := "(II)I" } : Jvm.MethodName)) ∈ lw_all := lw_g (lw_at lw_m4 129 rfl) rfl
theorem q941 : (Jvm.Cond.code ({ cls := "NeitherBare", name := "kinds", desc := "(II)I" } : Jvm.MethodName) prog_1_method_89_code (8 : Nat) (Option.some Jvm.ClassFile.FieldType.int)) ∈ lw_all := lw_g (lw_at lw_m4 130 rfl) rfl
theorem q943 : (Jvm.Cond.instanceMethod ({ cls := "NeitherBare", name := "judged", desc := "(II)I" } : Jvm.MethodName)) ∈ lw_all := lw_g (lw_at lw_m4 132 rfl) rfl
theorem q944 : (Jvm.Cond.selects "NeitherBare" ({ cls := "NeitherBare", name := "judged", desc := "(II)I" } : Jvm.MethodName) ({ cls := "NeitherBare", name := "judged", desc := "(II)I" } : Jvm.MethodName)) ∈ lw_all := lw_g (lw_at lw_m4 133 rfl) rfl
theorem q945 : (Jvm.Cond.code ({ cls := "NeitherBare", name := "judged", desc := "(II)I" } : Jvm.MethodName) prog_1_method_90_code (12 : Nat) (Option.some Jvm.ClassFile.FieldType.int)) ∈ lw_all := lw_g (lw_at lw_m4 134 rfl) rfl
theorem q946 : (Jvm.Cond.methodLink "NeitherBare" (316 : Nat) ({ cls := "NeitherBare", name := "isJudged", desc := "(I[I)Z" } : Jvm.MethodName)) ∈ lw_all := lw_g (lw_at lw_m4 135 rfl) rfl
theorem q947 : (Jvm.Cond.privateMethod ({ cls := "NeitherBare", name := "isJudged", desc := "(I[I)Z" } : Jvm.MethodName)) ∈ lw_tbl := lw_at lw_m4 136 rfl
theorem q948 : (Jvm.Cond.instanceMethod ({ cls := "NeitherBare", name := "isJudged", desc := "(I[I)Z" } : Jvm.MethodName)) ∈ lw_all := lw_g (lw_at lw_m4 137 rfl) rfl
theorem q949 : (Jvm.Cond.code ({ cls := "NeitherBare", name := "isJudged", desc := "(I[I)Z" } : Jvm.MethodName) prog_1_method_91_code (6 : Nat) (Option.some Jvm.ClassFile.FieldType.boolean)) ∈ lw_all := lw_g (lw_at lw_m4 138 rfl) rfl
theorem q951 : (Jvm.Cond.instanceMethod ({ cls := "NeitherBare", name := "odds", desc := "(II)I" } : Jvm.MethodName)) ∈ lw_all := lw_g (lw_at lw_m4 140 rfl) rfl
theorem q952 : (Jvm.Cond.selects "NeitherBare" ({ cls := "NeitherBare", name := "odds", desc := "(II)I" } : Jvm.MethodName) ({ cls := "NeitherBare", name := "odds", desc := "(II)I" } : Jvm.MethodName)) ∈ lw_all := lw_g (lw_at lw_m4 141 rfl) rfl
theorem q953 : (Jvm.Cond.code ({ cls := "NeitherBare", name := "odds", desc := "(II)I" } : Jvm.MethodName) prog_1_method_92_code (8 : Nat) (Option.some Jvm.ClassFile.FieldType.int)) ∈ lw_all := lw_g (lw_at lw_m4 142 rfl) rfl
theorem q954 : (Jvm.Cond.constantLong "NeitherBare" (320 : Nat) (12 : Int64)) ∈ lw_all := lw_g (lw_at lw_m4 143 rfl) rfl
theorem q955 : (Jvm.Cond.methodLink "NeitherBare" (322 : Nat) ({ cls := "NeitherBare", name := "fraction", desc := "(JJ)I" } : Jvm.MethodName)) ∈ lw_all := lw_g (lw_at lw_m4 144 rfl) rfl
theorem q956 : (Jvm.Cond.privateMethod ({ cls := "NeitherBare", name := "fraction", desc := "(JJ)I" } : Jvm.MethodName)) ∈ lw_tbl := lw_at lw_m4 145 rfl
theorem q957 : (Jvm.Cond.instanceMethod ({ cls := "NeitherBare", name := "fraction", desc := "(JJ)I" } : Jvm.MethodName)) ∈ lw_all := lw_g (lw_at lw_m4 146 rfl) rfl
theorem q958 : (Jvm.Cond.code ({ cls := "NeitherBare", name := "fraction", desc := "(JJ)I" } : Jvm.MethodName) prog_1_method_7_code (11 : Nat) (Option.some Jvm.ClassFile.FieldType.int)) ∈ lw_all := lw_g (lw_at lw_m4 147 rfl) rfl
theorem q960 : (Jvm.Cond.instanceMethod ({ cls := "NeitherBare", name := "luck", desc := "()I" } : Jvm.MethodName)) ∈ lw_all := lw_g (lw_at lw_m4 149 rfl) rfl
theorem q961 : (Jvm.Cond.selects "NeitherBare" ({ cls := "NeitherBare", name := "luck", desc := "()I" } : Jvm.MethodName) ({ cls := "NeitherBare", name := "luck", desc := "()I" } : Jvm.MethodName)) ∈ lw_all := lw_g (lw_at lw_m4 150 rfl) rfl
theorem q962 : (Jvm.Cond.code ({ cls := "NeitherBare", name := "luck", desc := "()I" } : Jvm.MethodName) prog_1_method_93_code (1 : Nat) (Option.some Jvm.ClassFile.FieldType.int)) ∈ lw_all := lw_g (lw_at lw_m4 151 rfl) rfl
theorem q964 : (Jvm.Cond.instanceMethod ({ cls := "NeitherBare", name := "lots", desc := "(II)I" } : Jvm.MethodName)) ∈ lw_all := lw_g (lw_at lw_m4 153 rfl) rfl
theorem q965 : (Jvm.Cond.selects "NeitherBare" ({ cls := "NeitherBare", name := "lots", desc := "(II)I" } : Jvm.MethodName) ({ cls := "NeitherBare", name := "lots", desc := "(II)I" } : Jvm.MethodName)) ∈ lw_all := lw_g (lw_at lw_m4 154 rfl) rfl
theorem q966 : (Jvm.Cond.code ({ cls := "NeitherBare", name := "lots", desc := "(II)I" } : Jvm.MethodName) prog_1_method_94_code (9 : Nat) (Option.some Jvm.ClassFile.FieldType.int)) ∈ lw_all := lw_g (lw_at lw_m4 155 rfl) rfl
theorem q967 : (Jvm.Cond.constant "NeitherBare" (326 : Nat) (2147483646 : Int32)) ∈ lw_all := lw_g (lw_at lw_m4 156 rfl) rfl
theorem q968 : (Jvm.Cond.constantLong "NeitherBare" (327 : Nat) (48271 : Int64)) ∈ lw_all := lw_g (lw_at lw_m4 157 rfl) rfl
theorem q969 : (Jvm.Cond.constantLong "NeitherBare" (329 : Nat) (2147483647 : Int64)) ∈ lw_all := lw_g (lw_at lw_m4 158 rfl) rfl
theorem q970 : (Jvm.Cond.constantLong "NeitherBare" (331 : Nat) (16 : Int64)) ∈ lw_all := lw_g (lw_at lw_m4 159 rfl) rfl
theorem q972 : (Jvm.Cond.instanceMethod ({ cls := "NeitherBare", name := "count", desc := "(I)I" } : Jvm.MethodName)) ∈ lw_all := lw_g (lw_at lw_m4 161 rfl) rfl
theorem q973 : (Jvm.Cond.selects "NeitherBare" ({ cls := "NeitherBare", name := "count", desc := "(I)I" } : Jvm.MethodName) ({ cls := "NeitherBare", name := "count", desc := "(I)I" } : Jvm.MethodName)) ∈ lw_all := lw_g (lw_at lw_m4 162 rfl) rfl
theorem q974 : (Jvm.Cond.code ({ cls := "NeitherBare", name := "count", desc := "(I)I" } : Jvm.MethodName) prog_1_method_96_code (2 : Nat) (Option.some Jvm.ClassFile.FieldType.int)) ∈ lw_all := lw_g (lw_at lw_m4 163 rfl) rfl
theorem q975 : (Jvm.Cond.methodLink "NeitherBare" (333 : Nat) ({ cls := "NeitherBare", name := "counted", desc := "(I)I" } : Jvm.MethodName)) ∈ lw_all := lw_g (lw_at lw_m4 164 rfl) rfl
theorem q976 : (Jvm.Cond.privateMethod ({ cls := "NeitherBare", name := "counted", desc := "(I)I" } : Jvm.MethodName)) ∈ lw_tbl := lw_at lw_m4 165 rfl
theorem q977 : (Jvm.Cond.instanceMethod ({ cls := "NeitherBare", name := "counted", desc := "(I)I" } : Jvm.MethodName)) ∈ lw_all := lw_g (lw_at lw_m4 166 rfl) rfl
theorem q978 : (Jvm.Cond.code ({ cls := "NeitherBare", name := "counted", desc := "(I)I" } : Jvm.MethodName) prog_1_method_95_code (4 : Nat) (Option.some Jvm.ClassFile.FieldType.int)) ∈ lw_all := lw_g (lw_at lw_m4 167 rfl) rfl
theorem q980 : (Jvm.Cond.instanceMethod ({ cls := "NeitherBare", name := "finding", desc := "()I" } : Jvm.MethodName)) ∈ lw_all := lw_g (lw_at lw_m4 169 rfl) rfl
theorem q981 : (Jvm.Cond.selects "NeitherBare" ({ cls := "NeitherBare", name := "finding", desc := "()I" } : Jvm.MethodName) ({ cls := "NeitherBare", name := "finding", desc := "()I" } : Jvm.MethodName)) ∈ lw_all := lw_g (lw_at lw_m4 170 rfl) rfl
theorem q982 : (Jvm.Cond.code ({ cls := "NeitherBare", name := "finding", desc := "()I" } : Jvm.MethodName) prog_1_method_97_code (1 : Nat) (Option.some Jvm.ClassFile.FieldType.int)) ∈ lw_all := lw_g (lw_at lw_m4 171 rfl) rfl
theorem q984 : (Jvm.Cond.instanceMethod ({ cls := "NeitherBare", name := "findings", desc := "(I)I" } : Jvm.MethodName)) ∈ lw_all := lw_g (lw_at lw_m4 173 rfl) rfl
theorem q985 : (Jvm.Cond.selects "NeitherBare" ({ cls := "NeitherBare", name := "findings", desc := "(I)I" } : Jvm.MethodName) ({ cls := "NeitherBare", name := "findings", desc := "(I)I" } : Jvm.MethodName)) ∈ lw_all := lw_g (lw_at lw_m4 174 rfl) rfl
theorem q986 : (Jvm.Cond.code ({ cls := "NeitherBare", name := "findings", desc := "(I)I" } : Jvm.MethodName) prog_1_method_98_code (2 : Nat) (Option.some Jvm.ClassFile.FieldType.int)) ∈ lw_all := lw_g (lw_at lw_m4 175 rfl) rfl
theorem q988 : (Jvm.Cond.instanceMethod ({ cls := "NeitherBare", name := "digest", desc := "()J" } : Jvm.MethodName)) ∈ lw_all := lw_g (lw_at lw_m4 177 rfl) rfl
theorem q989 : (Jvm.Cond.selects "NeitherBare" ({ cls := "NeitherBare", name := "digest", desc := "()J" } : Jvm.MethodName) ({ cls := "NeitherBare", name := "digest", desc := "()J" } : Jvm.MethodName)) ∈ lw_all := lw_g (lw_at lw_m4 178 rfl) rfl
theorem q990 : (Jvm.Cond.code ({ cls := "NeitherBare", name := "digest", desc := "()J" } : Jvm.MethodName) prog_1_method_101_code (4 : Nat) (Option.some Jvm.ClassFile.FieldType.long)) ∈ lw_all := lw_g (lw_at lw_m4 179 rfl) rfl
theorem q991 : (Jvm.Cond.constantLong "NeitherBare" (345 : Nat) (17 : Int64)) ∈ lw_all := lw_g (lw_at lw_m4 180 rfl) rfl
theorem q992 : (Jvm.Cond.methodLink "NeitherBare" (341 : Nat) ({ cls := "NeitherBare", name := "add", desc := "(J)V" } : Jvm.MethodName)) ∈ lw_all := lw_g (lw_at lw_m4 181 rfl) rfl
theorem q993 : (Jvm.Cond.privateMethod ({ cls := "NeitherBare", name := "add", desc := "(J)V" } : Jvm.MethodName)) ∈ lw_tbl := lw_at lw_m4 182 rfl
theorem q994 : (Jvm.Cond.instanceMethod ({ cls := "NeitherBare", name := "add", desc := "(J)V" } : Jvm.MethodName)) ∈ lw_all := lw_g (lw_at lw_m4 183 rfl) rfl
theorem q995 : (Jvm.Cond.code ({ cls := "NeitherBare", name := "add", desc := "(J)V" } : Jvm.MethodName) prog_1_method_99_code (3 : Nat) (Option.none : Option Jvm.ClassFile.FieldType)) ∈ lw_all := lw_g (lw_at lw_m4 184 rfl) rfl
theorem q996 : (Jvm.Cond.constantLong "NeitherBare" (336 : Nat) (31 : Int64)) ∈ lw_all := lw_g (lw_at lw_m4 185 rfl) rfl
theorem q997 : (Jvm.Cond.methodLink "NeitherBare" (347 : Nat) ({ cls := "NeitherBare", name := "addCourt", desc := "()V" } : Jvm.MethodName)) ∈ lw_all := lw_g (lw_at lw_m4 186 rfl) rfl
theorem q998 : (Jvm.Cond.privateMethod ({ cls := "NeitherBare", name := "addCourt", desc := "()V" } : Jvm.MethodName)) ∈ lw_tbl := lw_at lw_m4 187 rfl
theorem q999 : (Jvm.Cond.instanceMethod ({ cls := "NeitherBare", name := "addCourt", desc := "()V" } : Jvm.MethodName)) ∈ lw_all := lw_g (lw_at lw_m4 188 rfl) rfl
theorem q1000 : (Jvm.Cond.code ({ cls := "NeitherBare", name := "addCourt", desc := "()V" } : Jvm.MethodName) prog_1_method_100_code (3 : Nat) (Option.none : Option Jvm.ClassFile.FieldType)) ∈ lw_all := lw_g (lw_at lw_m4 189 rfl) rfl
theorem in_X0 : ∀ w ∈ wsX00, w ∈ lw_all := lw_in wsX00 [159, 161, 163, 165, 167, 169, 171, 173, 175, 177, 179, 181, 183, 185, 187, 189, 191, 193, 195, 197, 199, 201, 203] (by decide +kernel) (by decide +kernel)
