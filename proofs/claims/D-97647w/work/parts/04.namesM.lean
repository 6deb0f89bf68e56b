/-! NeitherBareModel -/
set_option maxRecDepth 100000
def RX1 : String := "NeitherBareModel"
def TX1 : u_T := fun k => match k with
  | 0 => ("NeitherBareModel", "row", "[I", true)
  | 1 => ("NeitherBareModel", "things", "I", false)
  | 2 => ("NeitherBareModel", "thing", "[I", true)
  | 3 => ("NeitherBareModel", "clauses", "I", false)
  | 4 => ("NeitherBareModel", "kinds", "[I", true)
  | 5 => ("NeitherBareModel", "traits", "[I", true)
  | 6 => ("NeitherBareModel", "others", "[I", true)
  | 7 => ("NeitherBareModel", "sizes", "[I", true)
  | 8 => ("NeitherBareModel", "items", "[I", true)
  | 9 => ("NeitherBareModel", "lengths", "[I", true)
  | 10 => ("NeitherBareModel", "bytes", "[I", true)
  | 11 => ("NeitherBareModel", "asked", "I", false)
  | 12 => ("NeitherBareModel", "upper", "J", false)
  | 13 => ("NeitherBareModel", "lower", "J", false)
  | 14 => ("NeitherBareModel", "finding", "I", false)
  | 15 => ("NeitherBareModel", "findings", "[I", true)
  | 16 => ("NeitherBareModel", "from", "I", false)
  | 17 => ("NeitherBareModel", "place", "I", false)
  | 18 => ("NeitherBareModel", "end", "I", false)
  | 19 => ("NeitherBareModel", "readThings", "[I", true)
  | 20 => ("NeitherBareModel", "readThingMany", "I", false)
  | 21 => ("NeitherBareModel", "readClauses", "[I", true)
  | 22 => ("NeitherBareModel", "readMany", "I", false)
  | 23 => ("NeitherBareModel", "wins", "[Z", true)
  | _ => ("NeitherBareModel", "laid", "[Z", true)
def tyX1 : Nat → FieldType := fun k => match k with
  | 0 => .array .int
  | 1 => .int
  | 2 => .array .int
  | 3 => .int
  | 4 => .array .int
  | 5 => .array .int
  | 6 => .array .int
  | 7 => .array .int
  | 8 => .array .int
  | 9 => .array .int
  | 10 => .array .int
  | 11 => .int
  | 12 => .long
  | 13 => .long
  | 14 => .int
  | 15 => .array .int
  | 16 => .int
  | 17 => .int
  | 18 => .int
  | 19 => .array .int
  | 20 => .int
  | 21 => .array .int
  | 22 => .int
  | 23 => .array .boolean
  | _ => .array .boolean
abbrev wsX10 : List Cond := u_ws RX1 TX1 25
set_option maxRecDepth 100000 in
theorem nmX1 : ∀ a, a < 25 → ∀ b, b < 25 → a ≠ b → (TX1 a).2.1 ≠ (TX1 b).2.1 := by decide +kernel
set_option maxRecDepth 100000 in
theorem tyX1_ok : ∀ k, k < 25 → parseFieldDescriptor (TX1 k).2.2.1 = some (tyX1 k) := by decide +kernel
abbrev cX1_init : ByteArray := prog_10_method_1_code
def yX1_init : MethodName := ⟨RX1, "<init>", "()V"⟩
def dkwX1_init_7 : List UInt8 := [182, 0, 57, 177]
abbrev dktX1_init_7 : List UInt8 := dkwX1_init_7 ++ []
def dkwX1_init_6 : List UInt8 := [181, 0, 47, 42, 17, 64, 0, 188, 4, 181, 0, 50, 42, 17, 64, 0, 188, 4, 181, 0, 54, 42]
abbrev dktX1_init_6 : List UInt8 := dkwX1_init_6 ++ dktX1_init_7
def dkwX1_init_5 : List UInt8 := [181, 0, 37, 42, 16, 6, 188, 10, 181, 0, 41, 42, 16, 30, 188, 10, 181, 0, 44, 42, 16, 24, 188, 10]
abbrev dktX1_init_5 : List UInt8 := dkwX1_init_5 ++ dktX1_init_6
def dkwX1_init_4 : List UInt8 := [2, 79, 89, 5, 2, 79, 89, 6, 2, 79, 181, 0, 31, 42, 17, 1, 64, 188, 10, 181, 0, 34, 42, 10]
abbrev dktX1_init_4 : List UInt8 := dkwX1_init_4 ++ dktX1_init_5
def dkwX1_init_3 : List UInt8 := [2, 79, 181, 0, 25, 42, 17, 0, 240, 188, 10, 181, 0, 28, 42, 7, 188, 10, 89, 3, 2, 79, 89, 4]
abbrev dktX1_init_3 : List UInt8 := dkwX1_init_3 ++ dktX1_init_4
def dkwX1_init_2 : List UInt8 := [188, 10, 89, 3, 2, 79, 89, 4, 2, 79, 89, 5, 2, 79, 89, 6, 2, 79, 89, 7, 2, 79, 89, 8]
abbrev dktX1_init_2 : List UInt8 := dkwX1_init_2 ++ dktX1_init_3
def dkwX1_init_1 : List UInt8 := [188, 10, 181, 0, 16, 42, 16, 8, 188, 10, 181, 0, 19, 42, 16, 8, 188, 10, 181, 0, 22, 42, 16, 6]
abbrev dktX1_init_1 : List UInt8 := dkwX1_init_1 ++ dktX1_init_2
def dkwX1_init_0 : List UInt8 := [42, 183, 0, 1, 42, 17, 5, 200, 188, 10, 181, 0, 7, 42, 16, 30, 188, 10, 181, 0, 13, 42, 16, 8]
abbrev dktX1_init_0 : List UInt8 := dkwX1_init_0 ++ dktX1_init_1
theorem dksX1_init_0 : cX1_init.data.toList.drop 0 = dktX1_init_0 := by decide +kernel
theorem dksX1_init_1 : cX1_init.data.toList.drop 24 = dktX1_init_1 := dk_seg dksX1_init_0 24 rfl rfl
theorem dksX1_init_2 : cX1_init.data.toList.drop 48 = dktX1_init_2 := dk_seg dksX1_init_1 24 rfl rfl
theorem dksX1_init_3 : cX1_init.data.toList.drop 72 = dktX1_init_3 := dk_seg dksX1_init_2 24 rfl rfl
theorem dksX1_init_4 : cX1_init.data.toList.drop 96 = dktX1_init_4 := dk_seg dksX1_init_3 24 rfl rfl
theorem dksX1_init_5 : cX1_init.data.toList.drop 120 = dktX1_init_5 := dk_seg dksX1_init_4 24 rfl rfl
theorem dksX1_init_6 : cX1_init.data.toList.drop 144 = dktX1_init_6 := dk_seg dksX1_init_5 24 rfl rfl
theorem dksX1_init_7 : cX1_init.data.toList.drop 166 = dktX1_init_7 := dk_seg dksX1_init_6 22 rfl rfl
theorem dX1_init_0 : decode cX1_init 0 = .ok (.aload_n 0, 1) := dk_42 (dk_at dksX1_init_0 0 rfl rfl)
theorem dX1_init_1 : decode cX1_init 1 = .ok (.invokespecial 1, 3) := dk_183 0 1 (dk_at dksX1_init_0 1 rfl rfl)
theorem dX1_init_4 : decode cX1_init 4 = .ok (.aload_n 0, 1) := dk_42 (dk_at dksX1_init_0 4 rfl rfl)
theorem dX1_init_5 : decode cX1_init 5 = .ok (.sipush 1480, 3) := dk_17 5 200 (dk_at dksX1_init_0 5 rfl rfl)
theorem dX1_init_8 : decode cX1_init 8 = .ok (.newarray .int, 2) := dk_188_10 (dk_at dksX1_init_0 8 rfl rfl)
theorem dX1_init_10 : decode cX1_init 10 = .ok (.putfield 7, 3) := dk_181 0 7 (dk_at dksX1_init_0 10 rfl rfl)
theorem dX1_init_13 : decode cX1_init 13 = .ok (.aload_n 0, 1) := dk_42 (dk_at dksX1_init_0 13 rfl rfl)
theorem dX1_init_14 : decode cX1_init 14 = .ok (.bipush 30, 2) := dk_16 30 (dk_at dksX1_init_0 14 rfl rfl)
theorem dX1_init_16 : decode cX1_init 16 = .ok (.newarray .int, 2) := dk_188_10 (dk_at dksX1_init_0 16 rfl rfl)
theorem dX1_init_18 : decode cX1_init 18 = .ok (.putfield 13, 3) := dk_181 0 13 (dk_at dksX1_init_0 18 rfl rfl)
theorem dX1_init_21 : decode cX1_init 21 = .ok (.aload_n 0, 1) := dk_42 (dk_at dksX1_init_0 21 rfl rfl)
theorem dX1_init_22 : decode cX1_init 22 = .ok (.bipush 8, 2) := dk_16 8 (dk_at dksX1_init_0 22 rfl rfl)
theorem dX1_init_24 : decode cX1_init 24 = .ok (.newarray .int, 2) := dk_188_10 (dk_at dksX1_init_1 0 rfl rfl)
theorem dX1_init_26 : decode cX1_init 26 = .ok (.putfield 16, 3) := dk_181 0 16 (dk_at dksX1_init_1 2 rfl rfl)
theorem dX1_init_29 : decode cX1_init 29 = .ok (.aload_n 0, 1) := dk_42 (dk_at dksX1_init_1 5 rfl rfl)
theorem dX1_init_30 : decode cX1_init 30 = .ok (.bipush 8, 2) := dk_16 8 (dk_at dksX1_init_1 6 rfl rfl)
theorem dX1_init_32 : decode cX1_init 32 = .ok (.newarray .int, 2) := dk_188_10 (dk_at dksX1_init_1 8 rfl rfl)
theorem dX1_init_34 : decode cX1_init 34 = .ok (.putfield 19, 3) := dk_181 0 19 (dk_at dksX1_init_1 10 rfl rfl)
theorem dX1_init_37 : decode cX1_init 37 = .ok (.aload_n 0, 1) := dk_42 (dk_at dksX1_init_1 13 rfl rfl)
theorem dX1_init_38 : decode cX1_init 38 = .ok (.bipush 8, 2) := dk_16 8 (dk_at dksX1_init_1 14 rfl rfl)
theorem dX1_init_40 : decode cX1_init 40 = .ok (.newarray .int, 2) := dk_188_10 (dk_at dksX1_init_1 16 rfl rfl)
theorem dX1_init_42 : decode cX1_init 42 = .ok (.putfield 22, 3) := dk_181 0 22 (dk_at dksX1_init_1 18 rfl rfl)
theorem dX1_init_45 : decode cX1_init 45 = .ok (.aload_n 0, 1) := dk_42 (dk_at dksX1_init_1 21 rfl rfl)
theorem dX1_init_46 : decode cX1_init 46 = .ok (.bipush 6, 2) := dk_16 6 (dk_at dksX1_init_1 22 rfl rfl)
theorem dX1_init_48 : decode cX1_init 48 = .ok (.newarray .int, 2) := dk_188_10 (dk_at dksX1_init_2 0 rfl rfl)
theorem dX1_init_50 : decode cX1_init 50 = .ok (.dup, 1) := dk_89 (dk_at dksX1_init_2 2 rfl rfl)
theorem dX1_init_51 : decode cX1_init 51 = .ok (.iconst 0, 1) := dk_3 (dk_at dksX1_init_2 3 rfl rfl)
theorem dX1_init_52 : decode cX1_init 52 = .ok (.iconst (-1), 1) := dk_2 (dk_at dksX1_init_2 4 rfl rfl)
theorem dX1_init_53 : decode cX1_init 53 = .ok (.iastore, 1) := dk_79 (dk_at dksX1_init_2 5 rfl rfl)
theorem dX1_init_54 : decode cX1_init 54 = .ok (.dup, 1) := dk_89 (dk_at dksX1_init_2 6 rfl rfl)
theorem dX1_init_55 : decode cX1_init 55 = .ok (.iconst 1, 1) := dk_4 (dk_at dksX1_init_2 7 rfl rfl)
theorem dX1_init_56 : decode cX1_init 56 = .ok (.iconst (-1), 1) := dk_2 (dk_at dksX1_init_2 8 rfl rfl)
theorem dX1_init_57 : decode cX1_init 57 = .ok (.iastore, 1) := dk_79 (dk_at dksX1_init_2 9 rfl rfl)
theorem dX1_init_58 : decode cX1_init 58 = .ok (.dup, 1) := dk_89 (dk_at dksX1_init_2 10 rfl rfl)
theorem dX1_init_59 : decode cX1_init 59 = .ok (.iconst 2, 1) := dk_5 (dk_at dksX1_init_2 11 rfl rfl)
theorem dX1_init_60 : decode cX1_init 60 = .ok (.iconst (-1), 1) := dk_2 (dk_at dksX1_init_2 12 rfl rfl)
theorem dX1_init_61 : decode cX1_init 61 = .ok (.iastore, 1) := dk_79 (dk_at dksX1_init_2 13 rfl rfl)
theorem dX1_init_62 : decode cX1_init 62 = .ok (.dup, 1) := dk_89 (dk_at dksX1_init_2 14 rfl rfl)
theorem dX1_init_63 : decode cX1_init 63 = .ok (.iconst 3, 1) := dk_6 (dk_at dksX1_init_2 15 rfl rfl)
theorem dX1_init_64 : decode cX1_init 64 = .ok (.iconst (-1), 1) := dk_2 (dk_at dksX1_init_2 16 rfl rfl)
theorem dX1_init_65 : decode cX1_init 65 = .ok (.iastore, 1) := dk_79 (dk_at dksX1_init_2 17 rfl rfl)
theorem dX1_init_66 : decode cX1_init 66 = .ok (.dup, 1) := dk_89 (dk_at dksX1_init_2 18 rfl rfl)
theorem dX1_init_67 : decode cX1_init 67 = .ok (.iconst 4, 1) := dk_7 (dk_at dksX1_init_2 19 rfl rfl)
theorem dX1_init_68 : decode cX1_init 68 = .ok (.iconst (-1), 1) := dk_2 (dk_at dksX1_init_2 20 rfl rfl)
theorem dX1_init_69 : decode cX1_init 69 = .ok (.iastore, 1) := dk_79 (dk_at dksX1_init_2 21 rfl rfl)
theorem dX1_init_70 : decode cX1_init 70 = .ok (.dup, 1) := dk_89 (dk_at dksX1_init_2 22 rfl rfl)
theorem dX1_init_71 : decode cX1_init 71 = .ok (.iconst 5, 1) := dk_8 (dk_at dksX1_init_2 23 rfl rfl)
theorem dX1_init_72 : decode cX1_init 72 = .ok (.iconst (-1), 1) := dk_2 (dk_at dksX1_init_3 0 rfl rfl)
theorem dX1_init_73 : decode cX1_init 73 = .ok (.iastore, 1) := dk_79 (dk_at dksX1_init_3 1 rfl rfl)
theorem dX1_init_74 : decode cX1_init 74 = .ok (.putfield 25, 3) := dk_181 0 25 (dk_at dksX1_init_3 2 rfl rfl)
theorem dX1_init_77 : decode cX1_init 77 = .ok (.aload_n 0, 1) := dk_42 (dk_at dksX1_init_3 5 rfl rfl)
theorem dX1_init_78 : decode cX1_init 78 = .ok (.sipush 240, 3) := dk_17 0 240 (dk_at dksX1_init_3 6 rfl rfl)
theorem dX1_init_81 : decode cX1_init 81 = .ok (.newarray .int, 2) := dk_188_10 (dk_at dksX1_init_3 9 rfl rfl)
theorem dX1_init_83 : decode cX1_init 83 = .ok (.putfield 28, 3) := dk_181 0 28 (dk_at dksX1_init_3 11 rfl rfl)
theorem dX1_init_86 : decode cX1_init 86 = .ok (.aload_n 0, 1) := dk_42 (dk_at dksX1_init_3 14 rfl rfl)
theorem dX1_init_87 : decode cX1_init 87 = .ok (.iconst 4, 1) := dk_7 (dk_at dksX1_init_3 15 rfl rfl)
theorem dX1_init_88 : decode cX1_init 88 = .ok (.newarray .int, 2) := dk_188_10 (dk_at dksX1_init_3 16 rfl rfl)
theorem dX1_init_90 : decode cX1_init 90 = .ok (.dup, 1) := dk_89 (dk_at dksX1_init_3 18 rfl rfl)
theorem dX1_init_91 : decode cX1_init 91 = .ok (.iconst 0, 1) := dk_3 (dk_at dksX1_init_3 19 rfl rfl)
theorem dX1_init_92 : decode cX1_init 92 = .ok (.iconst (-1), 1) := dk_2 (dk_at dksX1_init_3 20 rfl rfl)
theorem dX1_init_93 : decode cX1_init 93 = .ok (.iastore, 1) := dk_79 (dk_at dksX1_init_3 21 rfl rfl)
theorem dX1_init_94 : decode cX1_init 94 = .ok (.dup, 1) := dk_89 (dk_at dksX1_init_3 22 rfl rfl)
theorem dX1_init_95 : decode cX1_init 95 = .ok (.iconst 1, 1) := dk_4 (dk_at dksX1_init_3 23 rfl rfl)
theorem dX1_init_96 : decode cX1_init 96 = .ok (.iconst (-1), 1) := dk_2 (dk_at dksX1_init_4 0 rfl rfl)
theorem dX1_init_97 : decode cX1_init 97 = .ok (.iastore, 1) := dk_79 (dk_at dksX1_init_4 1 rfl rfl)
theorem dX1_init_98 : decode cX1_init 98 = .ok (.dup, 1) := dk_89 (dk_at dksX1_init_4 2 rfl rfl)
theorem dX1_init_99 : decode cX1_init 99 = .ok (.iconst 2, 1) := dk_5 (dk_at dksX1_init_4 3 rfl rfl)
theorem dX1_init_100 : decode cX1_init 100 = .ok (.iconst (-1), 1) := dk_2 (dk_at dksX1_init_4 4 rfl rfl)
theorem dX1_init_101 : decode cX1_init 101 = .ok (.iastore, 1) := dk_79 (dk_at dksX1_init_4 5 rfl rfl)
theorem dX1_init_102 : decode cX1_init 102 = .ok (.dup, 1) := dk_89 (dk_at dksX1_init_4 6 rfl rfl)
theorem dX1_init_103 : decode cX1_init 103 = .ok (.iconst 3, 1) := dk_6 (dk_at dksX1_init_4 7 rfl rfl)
theorem dX1_init_104 : decode cX1_init 104 = .ok (.iconst (-1), 1) := dk_2 (dk_at dksX1_init_4 8 rfl rfl)
theorem dX1_init_105 : decode cX1_init 105 = .ok (.iastore, 1) := dk_79 (dk_at dksX1_init_4 9 rfl rfl)
theorem dX1_init_106 : decode cX1_init 106 = .ok (.putfield 31, 3) := dk_181 0 31 (dk_at dksX1_init_4 10 rfl rfl)
theorem dX1_init_109 : decode cX1_init 109 = .ok (.aload_n 0, 1) := dk_42 (dk_at dksX1_init_4 13 rfl rfl)
theorem dX1_init_110 : decode cX1_init 110 = .ok (.sipush 320, 3) := dk_17 1 64 (dk_at dksX1_init_4 14 rfl rfl)
theorem dX1_init_113 : decode cX1_init 113 = .ok (.newarray .int, 2) := dk_188_10 (dk_at dksX1_init_4 17 rfl rfl)
theorem dX1_init_115 : decode cX1_init 115 = .ok (.putfield 34, 3) := dk_181 0 34 (dk_at dksX1_init_4 19 rfl rfl)
theorem dX1_init_118 : decode cX1_init 118 = .ok (.aload_n 0, 1) := dk_42 (dk_at dksX1_init_4 22 rfl rfl)
theorem dX1_init_119 : decode cX1_init 119 = .ok (.lconst 1, 1) := dk_10 (dk_at dksX1_init_4 23 rfl rfl)
theorem dX1_init_120 : decode cX1_init 120 = .ok (.putfield 37, 3) := dk_181 0 37 (dk_at dksX1_init_5 0 rfl rfl)
theorem dX1_init_123 : decode cX1_init 123 = .ok (.aload_n 0, 1) := dk_42 (dk_at dksX1_init_5 3 rfl rfl)
theorem dX1_init_124 : decode cX1_init 124 = .ok (.bipush 6, 2) := dk_16 6 (dk_at dksX1_init_5 4 rfl rfl)
theorem dX1_init_126 : decode cX1_init 126 = .ok (.newarray .int, 2) := dk_188_10 (dk_at dksX1_init_5 6 rfl rfl)
theorem dX1_init_128 : decode cX1_init 128 = .ok (.putfield 41, 3) := dk_181 0 41 (dk_at dksX1_init_5 8 rfl rfl)
theorem dX1_init_131 : decode cX1_init 131 = .ok (.aload_n 0, 1) := dk_42 (dk_at dksX1_init_5 11 rfl rfl)
theorem dX1_init_132 : decode cX1_init 132 = .ok (.bipush 30, 2) := dk_16 30 (dk_at dksX1_init_5 12 rfl rfl)
theorem dX1_init_134 : decode cX1_init 134 = .ok (.newarray .int, 2) := dk_188_10 (dk_at dksX1_init_5 14 rfl rfl)
theorem dX1_init_136 : decode cX1_init 136 = .ok (.putfield 44, 3) := dk_181 0 44 (dk_at dksX1_init_5 16 rfl rfl)
theorem dX1_init_139 : decode cX1_init 139 = .ok (.aload_n 0, 1) := dk_42 (dk_at dksX1_init_5 19 rfl rfl)
theorem dX1_init_140 : decode cX1_init 140 = .ok (.bipush 24, 2) := dk_16 24 (dk_at dksX1_init_5 20 rfl rfl)
theorem dX1_init_142 : decode cX1_init 142 = .ok (.newarray .int, 2) := dk_188_10 (dk_at dksX1_init_5 22 rfl rfl)
theorem dX1_init_144 : decode cX1_init 144 = .ok (.putfield 47, 3) := dk_181 0 47 (dk_at dksX1_init_6 0 rfl rfl)
theorem dX1_init_147 : decode cX1_init 147 = .ok (.aload_n 0, 1) := dk_42 (dk_at dksX1_init_6 3 rfl rfl)
theorem dX1_init_148 : decode cX1_init 148 = .ok (.sipush 16384, 3) := dk_17 64 0 (dk_at dksX1_init_6 4 rfl rfl)
theorem dX1_init_151 : decode cX1_init 151 = .ok (.newarray .boolean, 2) := dk_188_4 (dk_at dksX1_init_6 7 rfl rfl)
theorem dX1_init_153 : decode cX1_init 153 = .ok (.putfield 50, 3) := dk_181 0 50 (dk_at dksX1_init_6 9 rfl rfl)
theorem dX1_init_156 : decode cX1_init 156 = .ok (.aload_n 0, 1) := dk_42 (dk_at dksX1_init_6 12 rfl rfl)
theorem dX1_init_157 : decode cX1_init 157 = .ok (.sipush 16384, 3) := dk_17 64 0 (dk_at dksX1_init_6 13 rfl rfl)
theorem dX1_init_160 : decode cX1_init 160 = .ok (.newarray .boolean, 2) := dk_188_4 (dk_at dksX1_init_6 16 rfl rfl)
theorem dX1_init_162 : decode cX1_init 162 = .ok (.putfield 54, 3) := dk_181 0 54 (dk_at dksX1_init_6 18 rfl rfl)
theorem dX1_init_165 : decode cX1_init 165 = .ok (.aload_n 0, 1) := dk_42 (dk_at dksX1_init_6 21 rfl rfl)
theorem dX1_init_166 : decode cX1_init 166 = .ok (.invokevirtual 57, 3) := dk_182 0 57 (dk_at dksX1_init_7 0 rfl rfl)
theorem dX1_init_169 : decode cX1_init 169 = .ok (.return_, 1) := dk_177 (dk_at dksX1_init_7 3 rfl rfl)
abbrev cX1_begin : ByteArray := prog_10_method_2_code
def yX1_begin : MethodName := ⟨RX1, "begin", "()V"⟩
def dkwX1_begin_4 : List UInt8 := [132, 1, 1, 167, 255, 235, 177]
abbrev dktX1_begin_4 : List UInt8 := dkwX1_begin_4 ++ []
def dkwX1_begin_3 : List UInt8 := [167, 255, 224, 4, 60, 27, 7, 162, 0, 22, 42, 180, 0, 7, 17, 1, 114, 27, 104, 3, 96, 2, 79]
abbrev dktX1_begin_3 : List UInt8 := dkwX1_begin_3 ++ dktX1_begin_4
def dkwX1_begin_2 : List UInt8 := [5, 5, 27, 104, 96, 4, 79, 42, 180, 0, 7, 5, 5, 27, 104, 96, 4, 96, 7, 79, 132, 1, 1]
abbrev dktX1_begin_2 : List UInt8 := dkwX1_begin_2 ++ dktX1_begin_3
def dkwX1_begin_1 : List UInt8 := [180, 0, 7, 4, 4, 42, 180, 0, 60, 120, 4, 100, 79, 3, 60, 27, 7, 162, 0, 33, 42, 180, 0, 7]
abbrev dktX1_begin_1 : List UInt8 := dkwX1_begin_1 ++ dktX1_begin_2
def dkwX1_begin_0 : List UInt8 := [3, 60, 27, 17, 1, 114, 162, 0, 16, 42, 180, 0, 7, 27, 3, 79, 132, 1, 1, 167, 255, 239, 42]
abbrev dktX1_begin_0 : List UInt8 := dkwX1_begin_0 ++ dktX1_begin_1
theorem dksX1_begin_0 : cX1_begin.data.toList.drop 0 = dktX1_begin_0 := by decide +kernel
theorem dksX1_begin_1 : cX1_begin.data.toList.drop 23 = dktX1_begin_1 := dk_seg dksX1_begin_0 23 rfl rfl
theorem dksX1_begin_2 : cX1_begin.data.toList.drop 47 = dktX1_begin_2 := dk_seg dksX1_begin_1 24 rfl rfl
theorem dksX1_begin_3 : cX1_begin.data.toList.drop 70 = dktX1_begin_3 := dk_seg dksX1_begin_2 23 rfl rfl
theorem dksX1_begin_4 : cX1_begin.data.toList.drop 93 = dktX1_begin_4 := dk_seg dksX1_begin_3 23 rfl rfl
theorem dX1_begin_0 : decode cX1_begin 0 = .ok (.iconst 0, 1) := dk_3 (dk_at dksX1_begin_0 0 rfl rfl)
theorem dX1_begin_1 : decode cX1_begin 1 = .ok (.istore_n 1, 1) := dk_60 (dk_at dksX1_begin_0 1 rfl rfl)
theorem dX1_begin_2 : decode cX1_begin 2 = .ok (.iload_n 1, 1) := dk_27 (dk_at dksX1_begin_0 2 rfl rfl)
theorem dX1_begin_3 : decode cX1_begin 3 = .ok (.sipush 370, 3) := dk_17 1 114 (dk_at dksX1_begin_0 3 rfl rfl)
theorem dX1_begin_6 : decode cX1_begin 6 = .ok (.if_icmp .ge 16, 3) := dk_162 0 16 (dk_at dksX1_begin_0 6 rfl rfl)
theorem dX1_begin_9 : decode cX1_begin 9 = .ok (.aload_n 0, 1) := dk_42 (dk_at dksX1_begin_0 9 rfl rfl)
theorem dX1_begin_10 : decode cX1_begin 10 = .ok (.getfield 7, 3) := dk_180 0 7 (dk_at dksX1_begin_0 10 rfl rfl)
theorem dX1_begin_13 : decode cX1_begin 13 = .ok (.iload_n 1, 1) := dk_27 (dk_at dksX1_begin_0 13 rfl rfl)
theorem dX1_begin_14 : decode cX1_begin 14 = .ok (.iconst 0, 1) := dk_3 (dk_at dksX1_begin_0 14 rfl rfl)
theorem dX1_begin_15 : decode cX1_begin 15 = .ok (.iastore, 1) := dk_79 (dk_at dksX1_begin_0 15 rfl rfl)
theorem dX1_begin_16 : decode cX1_begin 16 = .ok (.iinc 1 1, 3) := dk_132 1 1 (dk_at dksX1_begin_0 16 rfl rfl)
theorem dX1_begin_19 : decode cX1_begin 19 = .ok (.goto (-17), 3) := dk_167 255 239 (dk_at dksX1_begin_0 19 rfl rfl)
theorem dX1_begin_22 : decode cX1_begin 22 = .ok (.aload_n 0, 1) := dk_42 (dk_at dksX1_begin_0 22 rfl rfl)
theorem dX1_begin_23 : decode cX1_begin 23 = .ok (.getfield 7, 3) := dk_180 0 7 (dk_at dksX1_begin_1 0 rfl rfl)
theorem dX1_begin_26 : decode cX1_begin 26 = .ok (.iconst 1, 1) := dk_4 (dk_at dksX1_begin_1 3 rfl rfl)
theorem dX1_begin_27 : decode cX1_begin 27 = .ok (.iconst 1, 1) := dk_4 (dk_at dksX1_begin_1 4 rfl rfl)
theorem dX1_begin_28 : decode cX1_begin 28 = .ok (.aload_n 0, 1) := dk_42 (dk_at dksX1_begin_1 5 rfl rfl)
theorem dX1_begin_29 : decode cX1_begin 29 = .ok (.getfield 60, 3) := dk_180 0 60 (dk_at dksX1_begin_1 6 rfl rfl)
theorem dX1_begin_32 : decode cX1_begin 32 = .ok (.ishl, 1) := dk_120 (dk_at dksX1_begin_1 9 rfl rfl)
theorem dX1_begin_33 : decode cX1_begin 33 = .ok (.iconst 1, 1) := dk_4 (dk_at dksX1_begin_1 10 rfl rfl)
theorem dX1_begin_34 : decode cX1_begin 34 = .ok (.isub, 1) := dk_100 (dk_at dksX1_begin_1 11 rfl rfl)
theorem dX1_begin_35 : decode cX1_begin 35 = .ok (.iastore, 1) := dk_79 (dk_at dksX1_begin_1 12 rfl rfl)
theorem dX1_begin_36 : decode cX1_begin 36 = .ok (.iconst 0, 1) := dk_3 (dk_at dksX1_begin_1 13 rfl rfl)
theorem dX1_begin_37 : decode cX1_begin 37 = .ok (.istore_n 1, 1) := dk_60 (dk_at dksX1_begin_1 14 rfl rfl)
theorem dX1_begin_38 : decode cX1_begin 38 = .ok (.iload_n 1, 1) := dk_27 (dk_at dksX1_begin_1 15 rfl rfl)
theorem dX1_begin_39 : decode cX1_begin 39 = .ok (.iconst 4, 1) := dk_7 (dk_at dksX1_begin_1 16 rfl rfl)
theorem dX1_begin_40 : decode cX1_begin 40 = .ok (.if_icmp .ge 33, 3) := dk_162 0 33 (dk_at dksX1_begin_1 17 rfl rfl)
theorem dX1_begin_43 : decode cX1_begin 43 = .ok (.aload_n 0, 1) := dk_42 (dk_at dksX1_begin_1 20 rfl rfl)
theorem dX1_begin_44 : decode cX1_begin 44 = .ok (.getfield 7, 3) := dk_180 0 7 (dk_at dksX1_begin_1 21 rfl rfl)
theorem dX1_begin_47 : decode cX1_begin 47 = .ok (.iconst 2, 1) := dk_5 (dk_at dksX1_begin_2 0 rfl rfl)
theorem dX1_begin_48 : decode cX1_begin 48 = .ok (.iconst 2, 1) := dk_5 (dk_at dksX1_begin_2 1 rfl rfl)
theorem dX1_begin_49 : decode cX1_begin 49 = .ok (.iload_n 1, 1) := dk_27 (dk_at dksX1_begin_2 2 rfl rfl)
theorem dX1_begin_50 : decode cX1_begin 50 = .ok (.imul, 1) := dk_104 (dk_at dksX1_begin_2 3 rfl rfl)
theorem dX1_begin_51 : decode cX1_begin 51 = .ok (.iadd, 1) := dk_96 (dk_at dksX1_begin_2 4 rfl rfl)
theorem dX1_begin_52 : decode cX1_begin 52 = .ok (.iconst 1, 1) := dk_4 (dk_at dksX1_begin_2 5 rfl rfl)
theorem dX1_begin_53 : decode cX1_begin 53 = .ok (.iastore, 1) := dk_79 (dk_at dksX1_begin_2 6 rfl rfl)
theorem dX1_begin_54 : decode cX1_begin 54 = .ok (.aload_n 0, 1) := dk_42 (dk_at dksX1_begin_2 7 rfl rfl)
theorem dX1_begin_55 : decode cX1_begin 55 = .ok (.getfield 7, 3) := dk_180 0 7 (dk_at dksX1_begin_2 8 rfl rfl)
theorem dX1_begin_58 : decode cX1_begin 58 = .ok (.iconst 2, 1) := dk_5 (dk_at dksX1_begin_2 11 rfl rfl)
theorem dX1_begin_59 : decode cX1_begin 59 = .ok (.iconst 2, 1) := dk_5 (dk_at dksX1_begin_2 12 rfl rfl)
theorem dX1_begin_60 : decode cX1_begin 60 = .ok (.iload_n 1, 1) := dk_27 (dk_at dksX1_begin_2 13 rfl rfl)
theorem dX1_begin_61 : decode cX1_begin 61 = .ok (.imul, 1) := dk_104 (dk_at dksX1_begin_2 14 rfl rfl)
theorem dX1_begin_62 : decode cX1_begin 62 = .ok (.iadd, 1) := dk_96 (dk_at dksX1_begin_2 15 rfl rfl)
theorem dX1_begin_63 : decode cX1_begin 63 = .ok (.iconst 1, 1) := dk_4 (dk_at dksX1_begin_2 16 rfl rfl)
theorem dX1_begin_64 : decode cX1_begin 64 = .ok (.iadd, 1) := dk_96 (dk_at dksX1_begin_2 17 rfl rfl)
theorem dX1_begin_65 : decode cX1_begin 65 = .ok (.iconst 4, 1) := dk_7 (dk_at dksX1_begin_2 18 rfl rfl)
theorem dX1_begin_66 : decode cX1_begin 66 = .ok (.iastore, 1) := dk_79 (dk_at dksX1_begin_2 19 rfl rfl)
theorem dX1_begin_67 : decode cX1_begin 67 = .ok (.iinc 1 1, 3) := dk_132 1 1 (dk_at dksX1_begin_2 20 rfl rfl)
theorem dX1_begin_70 : decode cX1_begin 70 = .ok (.goto (-32), 3) := dk_167 255 224 (dk_at dksX1_begin_3 0 rfl rfl)
theorem dX1_begin_73 : decode cX1_begin 73 = .ok (.iconst 1, 1) := dk_4 (dk_at dksX1_begin_3 3 rfl rfl)
theorem dX1_begin_74 : decode cX1_begin 74 = .ok (.istore_n 1, 1) := dk_60 (dk_at dksX1_begin_3 4 rfl rfl)
theorem dX1_begin_75 : decode cX1_begin 75 = .ok (.iload_n 1, 1) := dk_27 (dk_at dksX1_begin_3 5 rfl rfl)
theorem dX1_begin_76 : decode cX1_begin 76 = .ok (.iconst 4, 1) := dk_7 (dk_at dksX1_begin_3 6 rfl rfl)
theorem dX1_begin_77 : decode cX1_begin 77 = .ok (.if_icmp .ge 22, 3) := dk_162 0 22 (dk_at dksX1_begin_3 7 rfl rfl)
theorem dX1_begin_80 : decode cX1_begin 80 = .ok (.aload_n 0, 1) := dk_42 (dk_at dksX1_begin_3 10 rfl rfl)
theorem dX1_begin_81 : decode cX1_begin 81 = .ok (.getfield 7, 3) := dk_180 0 7 (dk_at dksX1_begin_3 11 rfl rfl)
theorem dX1_begin_84 : decode cX1_begin 84 = .ok (.sipush 370, 3) := dk_17 1 114 (dk_at dksX1_begin_3 14 rfl rfl)
theorem dX1_begin_87 : decode cX1_begin 87 = .ok (.iload_n 1, 1) := dk_27 (dk_at dksX1_begin_3 17 rfl rfl)
theorem dX1_begin_88 : decode cX1_begin 88 = .ok (.imul, 1) := dk_104 (dk_at dksX1_begin_3 18 rfl rfl)
theorem dX1_begin_89 : decode cX1_begin 89 = .ok (.iconst 0, 1) := dk_3 (dk_at dksX1_begin_3 19 rfl rfl)
theorem dX1_begin_90 : decode cX1_begin 90 = .ok (.iadd, 1) := dk_96 (dk_at dksX1_begin_3 20 rfl rfl)
theorem dX1_begin_91 : decode cX1_begin 91 = .ok (.iconst (-1), 1) := dk_2 (dk_at dksX1_begin_3 21 rfl rfl)
theorem dX1_begin_92 : decode cX1_begin 92 = .ok (.iastore, 1) := dk_79 (dk_at dksX1_begin_3 22 rfl rfl)
theorem dX1_begin_93 : decode cX1_begin 93 = .ok (.iinc 1 1, 3) := dk_132 1 1 (dk_at dksX1_begin_4 0 rfl rfl)
theorem dX1_begin_96 : decode cX1_begin 96 = .ok (.goto (-21), 3) := dk_167 255 235 (dk_at dksX1_begin_4 3 rfl rfl)
theorem dX1_begin_99 : decode cX1_begin 99 = .ok (.return_, 1) := dk_177 (dk_at dksX1_begin_4 6 rfl rfl)
abbrev cX1_row : ByteArray := prog_10_method_10_code
def yX1_row : MethodName := ⟨RX1, "row", "(II)I"⟩
def dkwX1_row_1 : List UInt8 := [172, 42, 27, 28, 182, 0, 86, 28, 172]
abbrev dktX1_row_1 : List UInt8 := dkwX1_row_1 ++ []
def dkwX1_row_0 : List UInt8 := [27, 184, 0, 78, 153, 0, 9, 28, 16, 40, 164, 0, 5, 2, 172, 28, 156, 0, 9, 42, 8, 182, 0, 82]
abbrev dktX1_row_0 : List UInt8 := dkwX1_row_0 ++ dktX1_row_1
theorem dksX1_row_0 : cX1_row.data.toList.drop 0 = dktX1_row_0 := by decide +kernel
theorem dksX1_row_1 : cX1_row.data.toList.drop 24 = dktX1_row_1 := dk_seg dksX1_row_0 24 rfl rfl
theorem dX1_row_0 : decode cX1_row 0 = .ok (.iload_n 1, 1) := dk_27 (dk_at dksX1_row_0 0 rfl rfl)
theorem dX1_row_1 : decode cX1_row 1 = .ok (.invokestatic 78, 3) := dk_184 0 78 (dk_at dksX1_row_0 1 rfl rfl)
theorem dX1_row_4 : decode cX1_row 4 = .ok (.ifCond .eq 9, 3) := dk_153 0 9 (dk_at dksX1_row_0 4 rfl rfl)
theorem dX1_row_7 : decode cX1_row 7 = .ok (.iload_n 2, 1) := dk_28 (dk_at dksX1_row_0 7 rfl rfl)
theorem dX1_row_8 : decode cX1_row 8 = .ok (.bipush 40, 2) := dk_16 40 (dk_at dksX1_row_0 8 rfl rfl)
theorem dX1_row_10 : decode cX1_row 10 = .ok (.if_icmp .le 5, 3) := dk_164 0 5 (dk_at dksX1_row_0 10 rfl rfl)
theorem dX1_row_13 : decode cX1_row 13 = .ok (.iconst (-1), 1) := dk_2 (dk_at dksX1_row_0 13 rfl rfl)
theorem dX1_row_14 : decode cX1_row 14 = .ok (.ireturn, 1) := dk_172 (dk_at dksX1_row_0 14 rfl rfl)
theorem dX1_row_15 : decode cX1_row 15 = .ok (.iload_n 2, 1) := dk_28 (dk_at dksX1_row_0 15 rfl rfl)
theorem dX1_row_16 : decode cX1_row 16 = .ok (.ifCond .ge 9, 3) := dk_156 0 9 (dk_at dksX1_row_0 16 rfl rfl)
theorem dX1_row_19 : decode cX1_row 19 = .ok (.aload_n 0, 1) := dk_42 (dk_at dksX1_row_0 19 rfl rfl)
theorem dX1_row_20 : decode cX1_row 20 = .ok (.iconst 5, 1) := dk_8 (dk_at dksX1_row_0 20 rfl rfl)
theorem dX1_row_21 : decode cX1_row 21 = .ok (.invokevirtual 82, 3) := dk_182 0 82 (dk_at dksX1_row_0 21 rfl rfl)
theorem dX1_row_24 : decode cX1_row 24 = .ok (.ireturn, 1) := dk_172 (dk_at dksX1_row_1 0 rfl rfl)
theorem dX1_row_25 : decode cX1_row 25 = .ok (.aload_n 0, 1) := dk_42 (dk_at dksX1_row_1 1 rfl rfl)
theorem dX1_row_26 : decode cX1_row 26 = .ok (.iload_n 1, 1) := dk_27 (dk_at dksX1_row_1 2 rfl rfl)
theorem dX1_row_27 : decode cX1_row 27 = .ok (.iload_n 2, 1) := dk_28 (dk_at dksX1_row_1 3 rfl rfl)
theorem dX1_row_28 : decode cX1_row 28 = .ok (.invokevirtual 86, 3) := dk_182 0 86 (dk_at dksX1_row_1 4 rfl rfl)
theorem dX1_row_31 : decode cX1_row 31 = .ok (.iload_n 2, 1) := dk_28 (dk_at dksX1_row_1 7 rfl rfl)
theorem dX1_row_32 : decode cX1_row 32 = .ok (.ireturn, 1) := dk_172 (dk_at dksX1_row_1 8 rfl rfl)
abbrev cX1_isRow : ByteArray := prog_10_method_8_code
def yX1_isRow : MethodName := ⟨RX1, "isRow", "(I)Z"⟩
def dkwX1_isRow_0 : List UInt8 := [26, 133, 9, 20, 0, 70, 184, 0, 72, 172]
abbrev dktX1_isRow_0 : List UInt8 := dkwX1_isRow_0 ++ []
theorem dksX1_isRow_0 : cX1_isRow.data.toList.drop 0 = dktX1_isRow_0 := by decide +kernel
theorem dX1_isRow_0 : decode cX1_isRow 0 = .ok (.iload_n 0, 1) := dk_26 (dk_at dksX1_isRow_0 0 rfl rfl)
theorem dX1_isRow_1 : decode cX1_isRow 1 = .ok (.i2l, 1) := dk_133 (dk_at dksX1_isRow_0 1 rfl rfl)
theorem dX1_isRow_2 : decode cX1_isRow 2 = .ok (.lconst 0, 1) := dk_9 (dk_at dksX1_isRow_0 2 rfl rfl)
theorem dX1_isRow_3 : decode cX1_isRow 3 = .ok (.ldc2_w 70, 3) := dk_20 0 70 (dk_at dksX1_isRow_0 3 rfl rfl)
theorem dX1_isRow_6 : decode cX1_isRow 6 = .ok (.invokestatic 72, 3) := dk_184 0 72 (dk_at dksX1_isRow_0 6 rfl rfl)
theorem dX1_isRow_9 : decode cX1_isRow 9 = .ok (.ireturn, 1) := dk_172 (dk_at dksX1_isRow_0 9 rfl rfl)
abbrev cX1_in : ByteArray := prog_10_method_4_code
def yX1_in : MethodName := ⟨RX1, "in", "(JJJ)Z"⟩
def dkwX1_in_0 : List UInt8 := [30, 32, 148, 155, 0, 14, 30, 22, 4, 148, 157, 0, 7, 4, 167, 0, 4, 3, 172]
abbrev dktX1_in_0 : List UInt8 := dkwX1_in_0 ++ []
theorem dksX1_in_0 : cX1_in.data.toList.drop 0 = dktX1_in_0 := by decide +kernel
theorem dX1_in_0 : decode cX1_in 0 = .ok (.lload_n 0, 1) := dk_30 (dk_at dksX1_in_0 0 rfl rfl)
theorem dX1_in_1 : decode cX1_in 1 = .ok (.lload_n 2, 1) := dk_32 (dk_at dksX1_in_0 1 rfl rfl)
theorem dX1_in_2 : decode cX1_in 2 = .ok (.lcmp, 1) := dk_148 (dk_at dksX1_in_0 2 rfl rfl)
theorem dX1_in_3 : decode cX1_in 3 = .ok (.ifCond .lt 14, 3) := dk_155 0 14 (dk_at dksX1_in_0 3 rfl rfl)
theorem dX1_in_6 : decode cX1_in 6 = .ok (.lload_n 0, 1) := dk_30 (dk_at dksX1_in_0 6 rfl rfl)
theorem dX1_in_7 : decode cX1_in 7 = .ok (.lload 4, 2) := dk_22 4 (dk_at dksX1_in_0 7 rfl rfl)
theorem dX1_in_9 : decode cX1_in 9 = .ok (.lcmp, 1) := dk_148 (dk_at dksX1_in_0 9 rfl rfl)
theorem dX1_in_10 : decode cX1_in 10 = .ok (.ifCond .gt 7, 3) := dk_157 0 7 (dk_at dksX1_in_0 10 rfl rfl)
theorem dX1_in_13 : decode cX1_in 13 = .ok (.iconst 1, 1) := dk_4 (dk_at dksX1_in_0 13 rfl rfl)
theorem dX1_in_14 : decode cX1_in 14 = .ok (.goto 4, 3) := dk_167 0 4 (dk_at dksX1_in_0 14 rfl rfl)
theorem dX1_in_17 : decode cX1_in 17 = .ok (.iconst 0, 1) := dk_3 (dk_at dksX1_in_0 17 rfl rfl)
theorem dX1_in_18 : decode cX1_in 18 = .ok (.ireturn, 1) := dk_172 (dk_at dksX1_in_0 18 rfl rfl)
abbrev cX1_find : ByteArray := prog_10_method_6_code
def yX1_find : MethodName := ⟨RX1, "find", "(I)I"⟩
def dkwX1_find_0 : List UInt8 := [42, 27, 181, 0, 64, 42, 180, 0, 41, 27, 92, 46, 4, 96, 79, 16, 253, 172]
abbrev dktX1_find_0 : List UInt8 := dkwX1_find_0 ++ []
theorem dksX1_find_0 : cX1_find.data.toList.drop 0 = dktX1_find_0 := by decide +kernel
theorem dX1_find_0 : decode cX1_find 0 = .ok (.aload_n 0, 1) := dk_42 (dk_at dksX1_find_0 0 rfl rfl)
theorem dX1_find_1 : decode cX1_find 1 = .ok (.iload_n 1, 1) := dk_27 (dk_at dksX1_find_0 1 rfl rfl)
theorem dX1_find_2 : decode cX1_find 2 = .ok (.putfield 64, 3) := dk_181 0 64 (dk_at dksX1_find_0 2 rfl rfl)
theorem dX1_find_5 : decode cX1_find 5 = .ok (.aload_n 0, 1) := dk_42 (dk_at dksX1_find_0 5 rfl rfl)
theorem dX1_find_6 : decode cX1_find 6 = .ok (.getfield 41, 3) := dk_180 0 41 (dk_at dksX1_find_0 6 rfl rfl)
theorem dX1_find_9 : decode cX1_find 9 = .ok (.iload_n 1, 1) := dk_27 (dk_at dksX1_find_0 9 rfl rfl)
theorem dX1_find_10 : decode cX1_find 10 = .ok (.dup2, 1) := dk_92 (dk_at dksX1_find_0 10 rfl rfl)
theorem dX1_find_11 : decode cX1_find 11 = .ok (.iaload, 1) := dk_46 (dk_at dksX1_find_0 11 rfl rfl)
theorem dX1_find_12 : decode cX1_find 12 = .ok (.iconst 1, 1) := dk_4 (dk_at dksX1_find_0 12 rfl rfl)
theorem dX1_find_13 : decode cX1_find 13 = .ok (.iadd, 1) := dk_96 (dk_at dksX1_find_0 13 rfl rfl)
theorem dX1_find_14 : decode cX1_find 14 = .ok (.iastore, 1) := dk_79 (dk_at dksX1_find_0 14 rfl rfl)
theorem dX1_find_15 : decode cX1_find 15 = .ok (.bipush (-3), 2) := dk_16 253 (dk_at dksX1_find_0 15 rfl rfl)
theorem dX1_find_17 : decode cX1_find 17 = .ok (.ireturn, 1) := dk_172 (dk_at dksX1_find_0 17 rfl rfl)
abbrev cX1_makeRow : ByteArray := prog_10_method_11_code
def yX1_makeRow : MethodName := ⟨RX1, "makeRow", "(II)V"⟩
def dkwX1_makeRow_1 : List UInt8 := [96, 3, 79, 132, 3, 1, 167, 255, 235, 177]
abbrev dktX1_makeRow_1 : List UInt8 := dkwX1_makeRow_1 ++ []
def dkwX1_makeRow_0 : List UInt8 := [42, 180, 0, 25, 27, 28, 79, 3, 62, 29, 16, 40, 162, 0, 21, 42, 180, 0, 28, 16, 40, 27, 104, 29]
abbrev dktX1_makeRow_0 : List UInt8 := dkwX1_makeRow_0 ++ dktX1_makeRow_1
theorem dksX1_makeRow_0 : cX1_makeRow.data.toList.drop 0 = dktX1_makeRow_0 := by decide +kernel
theorem dksX1_makeRow_1 : cX1_makeRow.data.toList.drop 24 = dktX1_makeRow_1 := dk_seg dksX1_makeRow_0 24 rfl rfl
theorem dX1_makeRow_0 : decode cX1_makeRow 0 = .ok (.aload_n 0, 1) := dk_42 (dk_at dksX1_makeRow_0 0 rfl rfl)
theorem dX1_makeRow_1 : decode cX1_makeRow 1 = .ok (.getfield 25, 3) := dk_180 0 25 (dk_at dksX1_makeRow_0 1 rfl rfl)
theorem dX1_makeRow_4 : decode cX1_makeRow 4 = .ok (.iload_n 1, 1) := dk_27 (dk_at dksX1_makeRow_0 4 rfl rfl)
theorem dX1_makeRow_5 : decode cX1_makeRow 5 = .ok (.iload_n 2, 1) := dk_28 (dk_at dksX1_makeRow_0 5 rfl rfl)
theorem dX1_makeRow_6 : decode cX1_makeRow 6 = .ok (.iastore, 1) := dk_79 (dk_at dksX1_makeRow_0 6 rfl rfl)
theorem dX1_makeRow_7 : decode cX1_makeRow 7 = .ok (.iconst 0, 1) := dk_3 (dk_at dksX1_makeRow_0 7 rfl rfl)
theorem dX1_makeRow_8 : decode cX1_makeRow 8 = .ok (.istore_n 3, 1) := dk_62 (dk_at dksX1_makeRow_0 8 rfl rfl)
theorem dX1_makeRow_9 : decode cX1_makeRow 9 = .ok (.iload_n 3, 1) := dk_29 (dk_at dksX1_makeRow_0 9 rfl rfl)
theorem dX1_makeRow_10 : decode cX1_makeRow 10 = .ok (.bipush 40, 2) := dk_16 40 (dk_at dksX1_makeRow_0 10 rfl rfl)
theorem dX1_makeRow_12 : decode cX1_makeRow 12 = .ok (.if_icmp .ge 21, 3) := dk_162 0 21 (dk_at dksX1_makeRow_0 12 rfl rfl)
theorem dX1_makeRow_15 : decode cX1_makeRow 15 = .ok (.aload_n 0, 1) := dk_42 (dk_at dksX1_makeRow_0 15 rfl rfl)
theorem dX1_makeRow_16 : decode cX1_makeRow 16 = .ok (.getfield 28, 3) := dk_180 0 28 (dk_at dksX1_makeRow_0 16 rfl rfl)
theorem dX1_makeRow_19 : decode cX1_makeRow 19 = .ok (.bipush 40, 2) := dk_16 40 (dk_at dksX1_makeRow_0 19 rfl rfl)
theorem dX1_makeRow_21 : decode cX1_makeRow 21 = .ok (.iload_n 1, 1) := dk_27 (dk_at dksX1_makeRow_0 21 rfl rfl)
theorem dX1_makeRow_22 : decode cX1_makeRow 22 = .ok (.imul, 1) := dk_104 (dk_at dksX1_makeRow_0 22 rfl rfl)
theorem dX1_makeRow_23 : decode cX1_makeRow 23 = .ok (.iload_n 3, 1) := dk_29 (dk_at dksX1_makeRow_0 23 rfl rfl)
theorem dX1_makeRow_24 : decode cX1_makeRow 24 = .ok (.iadd, 1) := dk_96 (dk_at dksX1_makeRow_1 0 rfl rfl)
theorem dX1_makeRow_25 : decode cX1_makeRow 25 = .ok (.iconst 0, 1) := dk_3 (dk_at dksX1_makeRow_1 1 rfl rfl)
theorem dX1_makeRow_26 : decode cX1_makeRow 26 = .ok (.iastore, 1) := dk_79 (dk_at dksX1_makeRow_1 2 rfl rfl)
theorem dX1_makeRow_27 : decode cX1_makeRow 27 = .ok (.iinc 3 1, 3) := dk_132 3 1 (dk_at dksX1_makeRow_1 3 rfl rfl)
theorem dX1_makeRow_30 : decode cX1_makeRow 30 = .ok (.goto (-21), 3) := dk_167 255 235 (dk_at dksX1_makeRow_1 6 rfl rfl)
theorem dX1_makeRow_33 : decode cX1_makeRow 33 = .ok (.return_, 1) := dk_177 (dk_at dksX1_makeRow_1 9 rfl rfl)
abbrev cX1_lay : ByteArray := prog_10_method_13_code
def yX1_lay : MethodName := ⟨RX1, "lay", "(III)I"⟩
def dkwX1_lay_1 : List UInt8 := [28, 96, 46, 54, 5, 42, 180, 0, 28, 16, 40, 27, 104, 28, 96, 29, 79, 42, 21, 5, 182, 0, 94, 172]
abbrev dktX1_lay_1 : List UInt8 := dkwX1_lay_1 ++ []
def dkwX1_lay_0 : List UInt8 := [42, 27, 28, 182, 0, 90, 54, 4, 21, 4, 153, 0, 6, 21, 4, 172, 42, 180, 0, 28, 16, 40, 27, 104]
abbrev dktX1_lay_0 : List UInt8 := dkwX1_lay_0 ++ dktX1_lay_1
theorem dksX1_lay_0 : cX1_lay.data.toList.drop 0 = dktX1_lay_0 := by decide +kernel
theorem dksX1_lay_1 : cX1_lay.data.toList.drop 24 = dktX1_lay_1 := dk_seg dksX1_lay_0 24 rfl rfl
theorem dX1_lay_0 : decode cX1_lay 0 = .ok (.aload_n 0, 1) := dk_42 (dk_at dksX1_lay_0 0 rfl rfl)
theorem dX1_lay_1 : decode cX1_lay 1 = .ok (.iload_n 1, 1) := dk_27 (dk_at dksX1_lay_0 1 rfl rfl)
theorem dX1_lay_2 : decode cX1_lay 2 = .ok (.iload_n 2, 1) := dk_28 (dk_at dksX1_lay_0 2 rfl rfl)
theorem dX1_lay_3 : decode cX1_lay 3 = .ok (.invokevirtual 90, 3) := dk_182 0 90 (dk_at dksX1_lay_0 3 rfl rfl)
theorem dX1_lay_6 : decode cX1_lay 6 = .ok (.istore 4, 2) := dk_54 4 (dk_at dksX1_lay_0 6 rfl rfl)
theorem dX1_lay_8 : decode cX1_lay 8 = .ok (.iload 4, 2) := dk_21 4 (dk_at dksX1_lay_0 8 rfl rfl)
theorem dX1_lay_10 : decode cX1_lay 10 = .ok (.ifCond .eq 6, 3) := dk_153 0 6 (dk_at dksX1_lay_0 10 rfl rfl)
theorem dX1_lay_13 : decode cX1_lay 13 = .ok (.iload 4, 2) := dk_21 4 (dk_at dksX1_lay_0 13 rfl rfl)
theorem dX1_lay_15 : decode cX1_lay 15 = .ok (.ireturn, 1) := dk_172 (dk_at dksX1_lay_0 15 rfl rfl)
theorem dX1_lay_16 : decode cX1_lay 16 = .ok (.aload_n 0, 1) := dk_42 (dk_at dksX1_lay_0 16 rfl rfl)
theorem dX1_lay_17 : decode cX1_lay 17 = .ok (.getfield 28, 3) := dk_180 0 28 (dk_at dksX1_lay_0 17 rfl rfl)
theorem dX1_lay_20 : decode cX1_lay 20 = .ok (.bipush 40, 2) := dk_16 40 (dk_at dksX1_lay_0 20 rfl rfl)
theorem dX1_lay_22 : decode cX1_lay 22 = .ok (.iload_n 1, 1) := dk_27 (dk_at dksX1_lay_0 22 rfl rfl)
theorem dX1_lay_23 : decode cX1_lay 23 = .ok (.imul, 1) := dk_104 (dk_at dksX1_lay_0 23 rfl rfl)
theorem dX1_lay_24 : decode cX1_lay 24 = .ok (.iload_n 2, 1) := dk_28 (dk_at dksX1_lay_1 0 rfl rfl)
theorem dX1_lay_25 : decode cX1_lay 25 = .ok (.iadd, 1) := dk_96 (dk_at dksX1_lay_1 1 rfl rfl)
theorem dX1_lay_26 : decode cX1_lay 26 = .ok (.iaload, 1) := dk_46 (dk_at dksX1_lay_1 2 rfl rfl)
theorem dX1_lay_27 : decode cX1_lay 27 = .ok (.istore 5, 2) := dk_54 5 (dk_at dksX1_lay_1 3 rfl rfl)
theorem dX1_lay_29 : decode cX1_lay 29 = .ok (.aload_n 0, 1) := dk_42 (dk_at dksX1_lay_1 5 rfl rfl)
theorem dX1_lay_30 : decode cX1_lay 30 = .ok (.getfield 28, 3) := dk_180 0 28 (dk_at dksX1_lay_1 6 rfl rfl)
theorem dX1_lay_33 : decode cX1_lay 33 = .ok (.bipush 40, 2) := dk_16 40 (dk_at dksX1_lay_1 9 rfl rfl)
theorem dX1_lay_35 : decode cX1_lay 35 = .ok (.iload_n 1, 1) := dk_27 (dk_at dksX1_lay_1 11 rfl rfl)
theorem dX1_lay_36 : decode cX1_lay 36 = .ok (.imul, 1) := dk_104 (dk_at dksX1_lay_1 12 rfl rfl)
theorem dX1_lay_37 : decode cX1_lay 37 = .ok (.iload_n 2, 1) := dk_28 (dk_at dksX1_lay_1 13 rfl rfl)
theorem dX1_lay_38 : decode cX1_lay 38 = .ok (.iadd, 1) := dk_96 (dk_at dksX1_lay_1 14 rfl rfl)
theorem dX1_lay_39 : decode cX1_lay 39 = .ok (.iload_n 3, 1) := dk_29 (dk_at dksX1_lay_1 15 rfl rfl)
theorem dX1_lay_40 : decode cX1_lay 40 = .ok (.iastore, 1) := dk_79 (dk_at dksX1_lay_1 16 rfl rfl)
theorem dX1_lay_41 : decode cX1_lay 41 = .ok (.aload_n 0, 1) := dk_42 (dk_at dksX1_lay_1 17 rfl rfl)
theorem dX1_lay_42 : decode cX1_lay 42 = .ok (.iload 5, 2) := dk_21 5 (dk_at dksX1_lay_1 18 rfl rfl)
theorem dX1_lay_44 : decode cX1_lay 44 = .ok (.invokevirtual 94, 3) := dk_182 0 94 (dk_at dksX1_lay_1 20 rfl rfl)
theorem dX1_lay_47 : decode cX1_lay 47 = .ok (.ireturn, 1) := dk_172 (dk_at dksX1_lay_1 23 rfl rfl)
abbrev cX1_refused : ByteArray := prog_10_method_12_code
def yX1_refused : MethodName := ⟨RX1, "refused", "(II)I"⟩
def dkwX1_refused_2 : List UInt8 := [3, 167, 0, 8, 42, 5, 182, 0, 82, 172]
abbrev dktX1_refused_2 : List UInt8 := dkwX1_refused_2 ++ []
def dkwX1_refused_1 : List UInt8 := [182, 0, 82, 167, 0, 30, 28, 133, 9, 42, 180, 0, 25, 27, 46, 4, 100, 133, 184, 0, 72, 153, 0, 7]
abbrev dktX1_refused_1 : List UInt8 := dkwX1_refused_1 ++ dktX1_refused_2
def dkwX1_refused_0 : List UInt8 := [27, 184, 0, 78, 154, 0, 7, 2, 167, 0, 47, 42, 180, 0, 25, 27, 46, 156, 0, 11, 42, 4]
abbrev dktX1_refused_0 : List UInt8 := dkwX1_refused_0 ++ dktX1_refused_1
theorem dksX1_refused_0 : cX1_refused.data.toList.drop 0 = dktX1_refused_0 := by decide +kernel
theorem dksX1_refused_1 : cX1_refused.data.toList.drop 22 = dktX1_refused_1 := dk_seg dksX1_refused_0 22 rfl rfl
theorem dksX1_refused_2 : cX1_refused.data.toList.drop 46 = dktX1_refused_2 := dk_seg dksX1_refused_1 24 rfl rfl
theorem dX1_refused_0 : decode cX1_refused 0 = .ok (.iload_n 1, 1) := dk_27 (dk_at dksX1_refused_0 0 rfl rfl)
theorem dX1_refused_1 : decode cX1_refused 1 = .ok (.invokestatic 78, 3) := dk_184 0 78 (dk_at dksX1_refused_0 1 rfl rfl)
theorem dX1_refused_4 : decode cX1_refused 4 = .ok (.ifCond .ne 7, 3) := dk_154 0 7 (dk_at dksX1_refused_0 4 rfl rfl)
theorem dX1_refused_7 : decode cX1_refused 7 = .ok (.iconst (-1), 1) := dk_2 (dk_at dksX1_refused_0 7 rfl rfl)
theorem dX1_refused_8 : decode cX1_refused 8 = .ok (.goto 47, 3) := dk_167 0 47 (dk_at dksX1_refused_0 8 rfl rfl)
theorem dX1_refused_11 : decode cX1_refused 11 = .ok (.aload_n 0, 1) := dk_42 (dk_at dksX1_refused_0 11 rfl rfl)
theorem dX1_refused_12 : decode cX1_refused 12 = .ok (.getfield 25, 3) := dk_180 0 25 (dk_at dksX1_refused_0 12 rfl rfl)
theorem dX1_refused_15 : decode cX1_refused 15 = .ok (.iload_n 1, 1) := dk_27 (dk_at dksX1_refused_0 15 rfl rfl)
theorem dX1_refused_16 : decode cX1_refused 16 = .ok (.iaload, 1) := dk_46 (dk_at dksX1_refused_0 16 rfl rfl)
theorem dX1_refused_17 : decode cX1_refused 17 = .ok (.ifCond .ge 11, 3) := dk_156 0 11 (dk_at dksX1_refused_0 17 rfl rfl)
theorem dX1_refused_20 : decode cX1_refused 20 = .ok (.aload_n 0, 1) := dk_42 (dk_at dksX1_refused_0 20 rfl rfl)
theorem dX1_refused_21 : decode cX1_refused 21 = .ok (.iconst 1, 1) := dk_4 (dk_at dksX1_refused_0 21 rfl rfl)
theorem dX1_refused_22 : decode cX1_refused 22 = .ok (.invokevirtual 82, 3) := dk_182 0 82 (dk_at dksX1_refused_1 0 rfl rfl)
theorem dX1_refused_25 : decode cX1_refused 25 = .ok (.goto 30, 3) := dk_167 0 30 (dk_at dksX1_refused_1 3 rfl rfl)
theorem dX1_refused_28 : decode cX1_refused 28 = .ok (.iload_n 2, 1) := dk_28 (dk_at dksX1_refused_1 6 rfl rfl)
theorem dX1_refused_29 : decode cX1_refused 29 = .ok (.i2l, 1) := dk_133 (dk_at dksX1_refused_1 7 rfl rfl)
theorem dX1_refused_30 : decode cX1_refused 30 = .ok (.lconst 0, 1) := dk_9 (dk_at dksX1_refused_1 8 rfl rfl)
theorem dX1_refused_31 : decode cX1_refused 31 = .ok (.aload_n 0, 1) := dk_42 (dk_at dksX1_refused_1 9 rfl rfl)
theorem dX1_refused_32 : decode cX1_refused 32 = .ok (.getfield 25, 3) := dk_180 0 25 (dk_at dksX1_refused_1 10 rfl rfl)
theorem dX1_refused_35 : decode cX1_refused 35 = .ok (.iload_n 1, 1) := dk_27 (dk_at dksX1_refused_1 13 rfl rfl)
theorem dX1_refused_36 : decode cX1_refused 36 = .ok (.iaload, 1) := dk_46 (dk_at dksX1_refused_1 14 rfl rfl)
theorem dX1_refused_37 : decode cX1_refused 37 = .ok (.iconst 1, 1) := dk_4 (dk_at dksX1_refused_1 15 rfl rfl)
theorem dX1_refused_38 : decode cX1_refused 38 = .ok (.isub, 1) := dk_100 (dk_at dksX1_refused_1 16 rfl rfl)
theorem dX1_refused_39 : decode cX1_refused 39 = .ok (.i2l, 1) := dk_133 (dk_at dksX1_refused_1 17 rfl rfl)
theorem dX1_refused_40 : decode cX1_refused 40 = .ok (.invokestatic 72, 3) := dk_184 0 72 (dk_at dksX1_refused_1 18 rfl rfl)
theorem dX1_refused_43 : decode cX1_refused 43 = .ok (.ifCond .eq 7, 3) := dk_153 0 7 (dk_at dksX1_refused_1 21 rfl rfl)
theorem dX1_refused_46 : decode cX1_refused 46 = .ok (.iconst 0, 1) := dk_3 (dk_at dksX1_refused_2 0 rfl rfl)
theorem dX1_refused_47 : decode cX1_refused 47 = .ok (.goto 8, 3) := dk_167 0 8 (dk_at dksX1_refused_2 1 rfl rfl)
theorem dX1_refused_50 : decode cX1_refused 50 = .ok (.aload_n 0, 1) := dk_42 (dk_at dksX1_refused_2 4 rfl rfl)
theorem dX1_refused_51 : decode cX1_refused 51 = .ok (.iconst 2, 1) := dk_5 (dk_at dksX1_refused_2 5 rfl rfl)
theorem dX1_refused_52 : decode cX1_refused 52 = .ok (.invokevirtual 82, 3) := dk_182 0 82 (dk_at dksX1_refused_2 6 rfl rfl)
theorem dX1_refused_55 : decode cX1_refused 55 = .ok (.ireturn, 1) := dk_172 (dk_at dksX1_refused_2 9 rfl rfl)
abbrev cX1_tell : ByteArray := prog_10_method_7_code
def yX1_tell : MethodName := ⟨RX1, "tell", "(I)I"⟩
def dkwX1_tell_0 : List UInt8 := [42, 27, 181, 0, 67, 4, 172]
abbrev dktX1_tell_0 : List UInt8 := dkwX1_tell_0 ++ []
theorem dksX1_tell_0 : cX1_tell.data.toList.drop 0 = dktX1_tell_0 := by decide +kernel
theorem dX1_tell_0 : decode cX1_tell 0 = .ok (.aload_n 0, 1) := dk_42 (dk_at dksX1_tell_0 0 rfl rfl)
theorem dX1_tell_1 : decode cX1_tell 1 = .ok (.iload_n 1, 1) := dk_27 (dk_at dksX1_tell_0 1 rfl rfl)
theorem dX1_tell_2 : decode cX1_tell 2 = .ok (.putfield 67, 3) := dk_181 0 67 (dk_at dksX1_tell_0 2 rfl rfl)
theorem dX1_tell_5 : decode cX1_tell 5 = .ok (.iconst 1, 1) := dk_4 (dk_at dksX1_tell_0 5 rfl rfl)
theorem dX1_tell_6 : decode cX1_tell 6 = .ok (.ireturn, 1) := dk_172 (dk_at dksX1_tell_0 6 rfl rfl)
abbrev cX1_at : ByteArray := prog_10_method_14_code
def yX1_at : MethodName := ⟨RX1, "at", "(II)I"⟩
def dkwX1_at_1 : List UInt8 := [28, 96, 46, 182, 0, 94, 172]
abbrev dktX1_at_1 : List UInt8 := dkwX1_at_1 ++ []
def dkwX1_at_0 : List UInt8 := [42, 27, 28, 182, 0, 90, 62, 29, 153, 0, 7, 29, 167, 0, 18, 42, 42, 180, 0, 28, 16, 40, 27, 104]
abbrev dktX1_at_0 : List UInt8 := dkwX1_at_0 ++ dktX1_at_1
theorem dksX1_at_0 : cX1_at.data.toList.drop 0 = dktX1_at_0 := by decide +kernel
theorem dksX1_at_1 : cX1_at.data.toList.drop 24 = dktX1_at_1 := dk_seg dksX1_at_0 24 rfl rfl
theorem dX1_at_0 : decode cX1_at 0 = .ok (.aload_n 0, 1) := dk_42 (dk_at dksX1_at_0 0 rfl rfl)
theorem dX1_at_1 : decode cX1_at 1 = .ok (.iload_n 1, 1) := dk_27 (dk_at dksX1_at_0 1 rfl rfl)
theorem dX1_at_2 : decode cX1_at 2 = .ok (.iload_n 2, 1) := dk_28 (dk_at dksX1_at_0 2 rfl rfl)
theorem dX1_at_3 : decode cX1_at 3 = .ok (.invokevirtual 90, 3) := dk_182 0 90 (dk_at dksX1_at_0 3 rfl rfl)
theorem dX1_at_6 : decode cX1_at 6 = .ok (.istore_n 3, 1) := dk_62 (dk_at dksX1_at_0 6 rfl rfl)
theorem dX1_at_7 : decode cX1_at 7 = .ok (.iload_n 3, 1) := dk_29 (dk_at dksX1_at_0 7 rfl rfl)
theorem dX1_at_8 : decode cX1_at 8 = .ok (.ifCond .eq 7, 3) := dk_153 0 7 (dk_at dksX1_at_0 8 rfl rfl)
theorem dX1_at_11 : decode cX1_at 11 = .ok (.iload_n 3, 1) := dk_29 (dk_at dksX1_at_0 11 rfl rfl)
theorem dX1_at_12 : decode cX1_at 12 = .ok (.goto 18, 3) := dk_167 0 18 (dk_at dksX1_at_0 12 rfl rfl)
theorem dX1_at_15 : decode cX1_at 15 = .ok (.aload_n 0, 1) := dk_42 (dk_at dksX1_at_0 15 rfl rfl)
theorem dX1_at_16 : decode cX1_at 16 = .ok (.aload_n 0, 1) := dk_42 (dk_at dksX1_at_0 16 rfl rfl)
theorem dX1_at_17 : decode cX1_at 17 = .ok (.getfield 28, 3) := dk_180 0 28 (dk_at dksX1_at_0 17 rfl rfl)
theorem dX1_at_20 : decode cX1_at 20 = .ok (.bipush 40, 2) := dk_16 40 (dk_at dksX1_at_0 20 rfl rfl)
theorem dX1_at_22 : decode cX1_at 22 = .ok (.iload_n 1, 1) := dk_27 (dk_at dksX1_at_0 22 rfl rfl)
theorem dX1_at_23 : decode cX1_at 23 = .ok (.imul, 1) := dk_104 (dk_at dksX1_at_0 23 rfl rfl)
theorem dX1_at_24 : decode cX1_at 24 = .ok (.iload_n 2, 1) := dk_28 (dk_at dksX1_at_1 0 rfl rfl)
theorem dX1_at_25 : decode cX1_at 25 = .ok (.iadd, 1) := dk_96 (dk_at dksX1_at_1 1 rfl rfl)
theorem dX1_at_26 : decode cX1_at 26 = .ok (.iaload, 1) := dk_46 (dk_at dksX1_at_1 2 rfl rfl)
theorem dX1_at_27 : decode cX1_at 27 = .ok (.invokevirtual 94, 3) := dk_182 0 94 (dk_at dksX1_at_1 3 rfl rfl)
theorem dX1_at_30 : decode cX1_at 30 = .ok (.ireturn, 1) := dk_172 (dk_at dksX1_at_1 6 rfl rfl)
abbrev cX1_tear : ByteArray := prog_10_method_15_code
def yX1_tear : MethodName := ⟨RX1, "tear", "(I)I"⟩
def dkwX1_tear_1 : List UInt8 := [42, 180, 0, 25, 27, 2, 79, 4, 172]
abbrev dktX1_tear_1 : List UInt8 := dkwX1_tear_1 ++ []
def dkwX1_tear_0 : List UInt8 := [27, 184, 0, 78, 154, 0, 5, 2, 172, 42, 180, 0, 25, 27, 46, 156, 0, 9, 42, 4, 182, 0, 82, 172]
abbrev dktX1_tear_0 : List UInt8 := dkwX1_tear_0 ++ dktX1_tear_1
theorem dksX1_tear_0 : cX1_tear.data.toList.drop 0 = dktX1_tear_0 := by decide +kernel
theorem dksX1_tear_1 : cX1_tear.data.toList.drop 24 = dktX1_tear_1 := dk_seg dksX1_tear_0 24 rfl rfl
theorem dX1_tear_0 : decode cX1_tear 0 = .ok (.iload_n 1, 1) := dk_27 (dk_at dksX1_tear_0 0 rfl rfl)
theorem dX1_tear_1 : decode cX1_tear 1 = .ok (.invokestatic 78, 3) := dk_184 0 78 (dk_at dksX1_tear_0 1 rfl rfl)
theorem dX1_tear_4 : decode cX1_tear 4 = .ok (.ifCond .ne 5, 3) := dk_154 0 5 (dk_at dksX1_tear_0 4 rfl rfl)
theorem dX1_tear_7 : decode cX1_tear 7 = .ok (.iconst (-1), 1) := dk_2 (dk_at dksX1_tear_0 7 rfl rfl)
theorem dX1_tear_8 : decode cX1_tear 8 = .ok (.ireturn, 1) := dk_172 (dk_at dksX1_tear_0 8 rfl rfl)
theorem dX1_tear_9 : decode cX1_tear 9 = .ok (.aload_n 0, 1) := dk_42 (dk_at dksX1_tear_0 9 rfl rfl)
theorem dX1_tear_10 : decode cX1_tear 10 = .ok (.getfield 25, 3) := dk_180 0 25 (dk_at dksX1_tear_0 10 rfl rfl)
theorem dX1_tear_13 : decode cX1_tear 13 = .ok (.iload_n 1, 1) := dk_27 (dk_at dksX1_tear_0 13 rfl rfl)
theorem dX1_tear_14 : decode cX1_tear 14 = .ok (.iaload, 1) := dk_46 (dk_at dksX1_tear_0 14 rfl rfl)
theorem dX1_tear_15 : decode cX1_tear 15 = .ok (.ifCond .ge 9, 3) := dk_156 0 9 (dk_at dksX1_tear_0 15 rfl rfl)
theorem dX1_tear_18 : decode cX1_tear 18 = .ok (.aload_n 0, 1) := dk_42 (dk_at dksX1_tear_0 18 rfl rfl)
theorem dX1_tear_19 : decode cX1_tear 19 = .ok (.iconst 1, 1) := dk_4 (dk_at dksX1_tear_0 19 rfl rfl)
theorem dX1_tear_20 : decode cX1_tear 20 = .ok (.invokevirtual 82, 3) := dk_182 0 82 (dk_at dksX1_tear_0 20 rfl rfl)
theorem dX1_tear_23 : decode cX1_tear 23 = .ok (.ireturn, 1) := dk_172 (dk_at dksX1_tear_0 23 rfl rfl)
theorem dX1_tear_24 : decode cX1_tear 24 = .ok (.aload_n 0, 1) := dk_42 (dk_at dksX1_tear_1 0 rfl rfl)
theorem dX1_tear_25 : decode cX1_tear 25 = .ok (.getfield 25, 3) := dk_180 0 25 (dk_at dksX1_tear_1 1 rfl rfl)
theorem dX1_tear_28 : decode cX1_tear 28 = .ok (.iload_n 1, 1) := dk_27 (dk_at dksX1_tear_1 4 rfl rfl)
theorem dX1_tear_29 : decode cX1_tear 29 = .ok (.iconst (-1), 1) := dk_2 (dk_at dksX1_tear_1 5 rfl rfl)
theorem dX1_tear_30 : decode cX1_tear 30 = .ok (.iastore, 1) := dk_79 (dk_at dksX1_tear_1 6 rfl rfl)
theorem dX1_tear_31 : decode cX1_tear 31 = .ok (.iconst 1, 1) := dk_4 (dk_at dksX1_tear_1 7 rfl rfl)
theorem dX1_tear_32 : decode cX1_tear 32 = .ok (.ireturn, 1) := dk_172 (dk_at dksX1_tear_1 8 rfl rfl)
abbrev cX1_copy : ByteArray := prog_10_method_17_code
def yX1_copy : MethodName := ⟨RX1, "copy", "(IIIII)I"⟩
def dkwX1_copy_6 : List UInt8 := [27, 104, 28, 96, 21, 8, 96, 46, 79, 132, 7, 1, 167, 255, 198, 4, 172]
abbrev dktX1_copy_6 : List UInt8 := dkwX1_copy_6 ++ []
def dkwX1_copy_5 : List UInt8 := [21, 7, 54, 8, 42, 180, 0, 28, 16, 40, 29, 104, 21, 4, 96, 21, 8, 96, 42, 180, 0, 28, 16, 40]
abbrev dktX1_copy_5 : List UInt8 := dkwX1_copy_5 ++ dktX1_copy_6
def dkwX1_copy_4 : List UInt8 := [54, 7, 21, 7, 21, 5, 162, 0, 57, 21, 6, 153, 0, 13, 21, 5, 4, 100, 21, 7, 100, 167, 0, 5]
abbrev dktX1_copy_4 : List UInt8 := dkwX1_copy_4 ++ dktX1_copy_5
def dkwX1_copy_3 : List UInt8 := [154, 0, 9, 42, 5, 182, 0, 82, 172, 28, 21, 4, 162, 0, 7, 4, 167, 0, 4, 3, 54, 6, 3]
abbrev dktX1_copy_3 : List UInt8 := dkwX1_copy_3 ++ dktX1_copy_4
def dkwX1_copy_2 : List UInt8 := [182, 0, 82, 172, 42, 27, 28, 21, 5, 182, 0, 97, 153, 0, 15, 42, 29, 21, 4, 21, 5, 182, 0, 97]
abbrev dktX1_copy_2 : List UInt8 := dkwX1_copy_2 ++ dktX1_copy_3
def dkwX1_copy_1 : List UInt8 := [182, 0, 82, 172, 42, 180, 0, 25, 27, 46, 155, 0, 12, 42, 180, 0, 25, 29, 46, 156, 0, 9, 42, 4]
abbrev dktX1_copy_1 : List UInt8 := dkwX1_copy_1 ++ dktX1_copy_2
def dkwX1_copy_0 : List UInt8 := [27, 184, 0, 78, 153, 0, 10, 29, 184, 0, 78, 154, 0, 5, 2, 172, 21, 5, 156, 0, 9, 42, 8]
abbrev dktX1_copy_0 : List UInt8 := dkwX1_copy_0 ++ dktX1_copy_1
theorem dksX1_copy_0 : cX1_copy.data.toList.drop 0 = dktX1_copy_0 := by decide +kernel
theorem dksX1_copy_1 : cX1_copy.data.toList.drop 23 = dktX1_copy_1 := dk_seg dksX1_copy_0 23 rfl rfl
theorem dksX1_copy_2 : cX1_copy.data.toList.drop 47 = dktX1_copy_2 := dk_seg dksX1_copy_1 24 rfl rfl
theorem dksX1_copy_3 : cX1_copy.data.toList.drop 71 = dktX1_copy_3 := dk_seg dksX1_copy_2 24 rfl rfl
theorem dksX1_copy_4 : cX1_copy.data.toList.drop 94 = dktX1_copy_4 := dk_seg dksX1_copy_3 23 rfl rfl
theorem dksX1_copy_5 : cX1_copy.data.toList.drop 118 = dktX1_copy_5 := dk_seg dksX1_copy_4 24 rfl rfl
theorem dksX1_copy_6 : cX1_copy.data.toList.drop 142 = dktX1_copy_6 := dk_seg dksX1_copy_5 24 rfl rfl
theorem dX1_copy_0 : decode cX1_copy 0 = .ok (.iload_n 1, 1) := dk_27 (dk_at dksX1_copy_0 0 rfl rfl)
theorem dX1_copy_1 : decode cX1_copy 1 = .ok (.invokestatic 78, 3) := dk_184 0 78 (dk_at dksX1_copy_0 1 rfl rfl)
theorem dX1_copy_4 : decode cX1_copy 4 = .ok (.ifCond .eq 10, 3) := dk_153 0 10 (dk_at dksX1_copy_0 4 rfl rfl)
theorem dX1_copy_7 : decode cX1_copy 7 = .ok (.iload_n 3, 1) := dk_29 (dk_at dksX1_copy_0 7 rfl rfl)
theorem dX1_copy_8 : decode cX1_copy 8 = .ok (.invokestatic 78, 3) := dk_184 0 78 (dk_at dksX1_copy_0 8 rfl rfl)
theorem dX1_copy_11 : decode cX1_copy 11 = .ok (.ifCond .ne 5, 3) := dk_154 0 5 (dk_at dksX1_copy_0 11 rfl rfl)
theorem dX1_copy_14 : decode cX1_copy 14 = .ok (.iconst (-1), 1) := dk_2 (dk_at dksX1_copy_0 14 rfl rfl)
theorem dX1_copy_15 : decode cX1_copy 15 = .ok (.ireturn, 1) := dk_172 (dk_at dksX1_copy_0 15 rfl rfl)
theorem dX1_copy_16 : decode cX1_copy 16 = .ok (.iload 5, 2) := dk_21 5 (dk_at dksX1_copy_0 16 rfl rfl)
theorem dX1_copy_18 : decode cX1_copy 18 = .ok (.ifCond .ge 9, 3) := dk_156 0 9 (dk_at dksX1_copy_0 18 rfl rfl)
theorem dX1_copy_21 : decode cX1_copy 21 = .ok (.aload_n 0, 1) := dk_42 (dk_at dksX1_copy_0 21 rfl rfl)
theorem dX1_copy_22 : decode cX1_copy 22 = .ok (.iconst 5, 1) := dk_8 (dk_at dksX1_copy_0 22 rfl rfl)
theorem dX1_copy_23 : decode cX1_copy 23 = .ok (.invokevirtual 82, 3) := dk_182 0 82 (dk_at dksX1_copy_1 0 rfl rfl)
theorem dX1_copy_26 : decode cX1_copy 26 = .ok (.ireturn, 1) := dk_172 (dk_at dksX1_copy_1 3 rfl rfl)
theorem dX1_copy_27 : decode cX1_copy 27 = .ok (.aload_n 0, 1) := dk_42 (dk_at dksX1_copy_1 4 rfl rfl)
theorem dX1_copy_28 : decode cX1_copy 28 = .ok (.getfield 25, 3) := dk_180 0 25 (dk_at dksX1_copy_1 5 rfl rfl)
theorem dX1_copy_31 : decode cX1_copy 31 = .ok (.iload_n 1, 1) := dk_27 (dk_at dksX1_copy_1 8 rfl rfl)
theorem dX1_copy_32 : decode cX1_copy 32 = .ok (.iaload, 1) := dk_46 (dk_at dksX1_copy_1 9 rfl rfl)
theorem dX1_copy_33 : decode cX1_copy 33 = .ok (.ifCond .lt 12, 3) := dk_155 0 12 (dk_at dksX1_copy_1 10 rfl rfl)
theorem dX1_copy_36 : decode cX1_copy 36 = .ok (.aload_n 0, 1) := dk_42 (dk_at dksX1_copy_1 13 rfl rfl)
theorem dX1_copy_37 : decode cX1_copy 37 = .ok (.getfield 25, 3) := dk_180 0 25 (dk_at dksX1_copy_1 14 rfl rfl)
theorem dX1_copy_40 : decode cX1_copy 40 = .ok (.iload_n 3, 1) := dk_29 (dk_at dksX1_copy_1 17 rfl rfl)
theorem dX1_copy_41 : decode cX1_copy 41 = .ok (.iaload, 1) := dk_46 (dk_at dksX1_copy_1 18 rfl rfl)
theorem dX1_copy_42 : decode cX1_copy 42 = .ok (.ifCond .ge 9, 3) := dk_156 0 9 (dk_at dksX1_copy_1 19 rfl rfl)
theorem dX1_copy_45 : decode cX1_copy 45 = .ok (.aload_n 0, 1) := dk_42 (dk_at dksX1_copy_1 22 rfl rfl)
theorem dX1_copy_46 : decode cX1_copy 46 = .ok (.iconst 1, 1) := dk_4 (dk_at dksX1_copy_1 23 rfl rfl)
theorem dX1_copy_47 : decode cX1_copy 47 = .ok (.invokevirtual 82, 3) := dk_182 0 82 (dk_at dksX1_copy_2 0 rfl rfl)
theorem dX1_copy_50 : decode cX1_copy 50 = .ok (.ireturn, 1) := dk_172 (dk_at dksX1_copy_2 3 rfl rfl)
theorem dX1_copy_51 : decode cX1_copy 51 = .ok (.aload_n 0, 1) := dk_42 (dk_at dksX1_copy_2 4 rfl rfl)
theorem dX1_copy_52 : decode cX1_copy 52 = .ok (.iload_n 1, 1) := dk_27 (dk_at dksX1_copy_2 5 rfl rfl)
theorem dX1_copy_53 : decode cX1_copy 53 = .ok (.iload_n 2, 1) := dk_28 (dk_at dksX1_copy_2 6 rfl rfl)
theorem dX1_copy_54 : decode cX1_copy 54 = .ok (.iload 5, 2) := dk_21 5 (dk_at dksX1_copy_2 7 rfl rfl)
theorem dX1_copy_56 : decode cX1_copy 56 = .ok (.invokevirtual 97, 3) := dk_182 0 97 (dk_at dksX1_copy_2 9 rfl rfl)
theorem dX1_copy_59 : decode cX1_copy 59 = .ok (.ifCond .eq 15, 3) := dk_153 0 15 (dk_at dksX1_copy_2 12 rfl rfl)
theorem dX1_copy_62 : decode cX1_copy 62 = .ok (.aload_n 0, 1) := dk_42 (dk_at dksX1_copy_2 15 rfl rfl)
theorem dX1_copy_63 : decode cX1_copy 63 = .ok (.iload_n 3, 1) := dk_29 (dk_at dksX1_copy_2 16 rfl rfl)
theorem dX1_copy_64 : decode cX1_copy 64 = .ok (.iload 4, 2) := dk_21 4 (dk_at dksX1_copy_2 17 rfl rfl)
theorem dX1_copy_66 : decode cX1_copy 66 = .ok (.iload 5, 2) := dk_21 5 (dk_at dksX1_copy_2 19 rfl rfl)
theorem dX1_copy_68 : decode cX1_copy 68 = .ok (.invokevirtual 97, 3) := dk_182 0 97 (dk_at dksX1_copy_2 21 rfl rfl)
theorem dX1_copy_71 : decode cX1_copy 71 = .ok (.ifCond .ne 9, 3) := dk_154 0 9 (dk_at dksX1_copy_3 0 rfl rfl)
theorem dX1_copy_74 : decode cX1_copy 74 = .ok (.aload_n 0, 1) := dk_42 (dk_at dksX1_copy_3 3 rfl rfl)
theorem dX1_copy_75 : decode cX1_copy 75 = .ok (.iconst 2, 1) := dk_5 (dk_at dksX1_copy_3 4 rfl rfl)
theorem dX1_copy_76 : decode cX1_copy 76 = .ok (.invokevirtual 82, 3) := dk_182 0 82 (dk_at dksX1_copy_3 5 rfl rfl)
theorem dX1_copy_79 : decode cX1_copy 79 = .ok (.ireturn, 1) := dk_172 (dk_at dksX1_copy_3 8 rfl rfl)
theorem dX1_copy_80 : decode cX1_copy 80 = .ok (.iload_n 2, 1) := dk_28 (dk_at dksX1_copy_3 9 rfl rfl)
theorem dX1_copy_81 : decode cX1_copy 81 = .ok (.iload 4, 2) := dk_21 4 (dk_at dksX1_copy_3 10 rfl rfl)
theorem dX1_copy_83 : decode cX1_copy 83 = .ok (.if_icmp .ge 7, 3) := dk_162 0 7 (dk_at dksX1_copy_3 12 rfl rfl)
theorem dX1_copy_86 : decode cX1_copy 86 = .ok (.iconst 1, 1) := dk_4 (dk_at dksX1_copy_3 15 rfl rfl)
theorem dX1_copy_87 : decode cX1_copy 87 = .ok (.goto 4, 3) := dk_167 0 4 (dk_at dksX1_copy_3 16 rfl rfl)
theorem dX1_copy_90 : decode cX1_copy 90 = .ok (.iconst 0, 1) := dk_3 (dk_at dksX1_copy_3 19 rfl rfl)
theorem dX1_copy_91 : decode cX1_copy 91 = .ok (.istore 6, 2) := dk_54 6 (dk_at dksX1_copy_3 20 rfl rfl)
theorem dX1_copy_93 : decode cX1_copy 93 = .ok (.iconst 0, 1) := dk_3 (dk_at dksX1_copy_3 22 rfl rfl)
theorem dX1_copy_94 : decode cX1_copy 94 = .ok (.istore 7, 2) := dk_54 7 (dk_at dksX1_copy_4 0 rfl rfl)
theorem dX1_copy_96 : decode cX1_copy 96 = .ok (.iload 7, 2) := dk_21 7 (dk_at dksX1_copy_4 2 rfl rfl)
theorem dX1_copy_98 : decode cX1_copy 98 = .ok (.iload 5, 2) := dk_21 5 (dk_at dksX1_copy_4 4 rfl rfl)
theorem dX1_copy_100 : decode cX1_copy 100 = .ok (.if_icmp .ge 57, 3) := dk_162 0 57 (dk_at dksX1_copy_4 6 rfl rfl)
theorem dX1_copy_103 : decode cX1_copy 103 = .ok (.iload 6, 2) := dk_21 6 (dk_at dksX1_copy_4 9 rfl rfl)
theorem dX1_copy_105 : decode cX1_copy 105 = .ok (.ifCond .eq 13, 3) := dk_153 0 13 (dk_at dksX1_copy_4 11 rfl rfl)
theorem dX1_copy_108 : decode cX1_copy 108 = .ok (.iload 5, 2) := dk_21 5 (dk_at dksX1_copy_4 14 rfl rfl)
theorem dX1_copy_110 : decode cX1_copy 110 = .ok (.iconst 1, 1) := dk_4 (dk_at dksX1_copy_4 16 rfl rfl)
theorem dX1_copy_111 : decode cX1_copy 111 = .ok (.isub, 1) := dk_100 (dk_at dksX1_copy_4 17 rfl rfl)
theorem dX1_copy_112 : decode cX1_copy 112 = .ok (.iload 7, 2) := dk_21 7 (dk_at dksX1_copy_4 18 rfl rfl)
theorem dX1_copy_114 : decode cX1_copy 114 = .ok (.isub, 1) := dk_100 (dk_at dksX1_copy_4 20 rfl rfl)
theorem dX1_copy_115 : decode cX1_copy 115 = .ok (.goto 5, 3) := dk_167 0 5 (dk_at dksX1_copy_4 21 rfl rfl)
theorem dX1_copy_118 : decode cX1_copy 118 = .ok (.iload 7, 2) := dk_21 7 (dk_at dksX1_copy_5 0 rfl rfl)
theorem dX1_copy_120 : decode cX1_copy 120 = .ok (.istore 8, 2) := dk_54 8 (dk_at dksX1_copy_5 2 rfl rfl)
theorem dX1_copy_122 : decode cX1_copy 122 = .ok (.aload_n 0, 1) := dk_42 (dk_at dksX1_copy_5 4 rfl rfl)
theorem dX1_copy_123 : decode cX1_copy 123 = .ok (.getfield 28, 3) := dk_180 0 28 (dk_at dksX1_copy_5 5 rfl rfl)
theorem dX1_copy_126 : decode cX1_copy 126 = .ok (.bipush 40, 2) := dk_16 40 (dk_at dksX1_copy_5 8 rfl rfl)
theorem dX1_copy_128 : decode cX1_copy 128 = .ok (.iload_n 3, 1) := dk_29 (dk_at dksX1_copy_5 10 rfl rfl)
theorem dX1_copy_129 : decode cX1_copy 129 = .ok (.imul, 1) := dk_104 (dk_at dksX1_copy_5 11 rfl rfl)
theorem dX1_copy_130 : decode cX1_copy 130 = .ok (.iload 4, 2) := dk_21 4 (dk_at dksX1_copy_5 12 rfl rfl)
theorem dX1_copy_132 : decode cX1_copy 132 = .ok (.iadd, 1) := dk_96 (dk_at dksX1_copy_5 14 rfl rfl)
theorem dX1_copy_133 : decode cX1_copy 133 = .ok (.iload 8, 2) := dk_21 8 (dk_at dksX1_copy_5 15 rfl rfl)
theorem dX1_copy_135 : decode cX1_copy 135 = .ok (.iadd, 1) := dk_96 (dk_at dksX1_copy_5 17 rfl rfl)
theorem dX1_copy_136 : decode cX1_copy 136 = .ok (.aload_n 0, 1) := dk_42 (dk_at dksX1_copy_5 18 rfl rfl)
theorem dX1_copy_137 : decode cX1_copy 137 = .ok (.getfield 28, 3) := dk_180 0 28 (dk_at dksX1_copy_5 19 rfl rfl)
theorem dX1_copy_140 : decode cX1_copy 140 = .ok (.bipush 40, 2) := dk_16 40 (dk_at dksX1_copy_5 22 rfl rfl)
theorem dX1_copy_142 : decode cX1_copy 142 = .ok (.iload_n 1, 1) := dk_27 (dk_at dksX1_copy_6 0 rfl rfl)
theorem dX1_copy_143 : decode cX1_copy 143 = .ok (.imul, 1) := dk_104 (dk_at dksX1_copy_6 1 rfl rfl)
theorem dX1_copy_144 : decode cX1_copy 144 = .ok (.iload_n 2, 1) := dk_28 (dk_at dksX1_copy_6 2 rfl rfl)
theorem dX1_copy_145 : decode cX1_copy 145 = .ok (.iadd, 1) := dk_96 (dk_at dksX1_copy_6 3 rfl rfl)
theorem dX1_copy_146 : decode cX1_copy 146 = .ok (.iload 8, 2) := dk_21 8 (dk_at dksX1_copy_6 4 rfl rfl)
theorem dX1_copy_148 : decode cX1_copy 148 = .ok (.iadd, 1) := dk_96 (dk_at dksX1_copy_6 6 rfl rfl)
theorem dX1_copy_149 : decode cX1_copy 149 = .ok (.iaload, 1) := dk_46 (dk_at dksX1_copy_6 7 rfl rfl)
theorem dX1_copy_150 : decode cX1_copy 150 = .ok (.iastore, 1) := dk_79 (dk_at dksX1_copy_6 8 rfl rfl)
theorem dX1_copy_151 : decode cX1_copy 151 = .ok (.iinc 7 1, 3) := dk_132 7 1 (dk_at dksX1_copy_6 9 rfl rfl)
theorem dX1_copy_154 : decode cX1_copy 154 = .ok (.goto (-58), 3) := dk_167 255 198 (dk_at dksX1_copy_6 12 rfl rfl)
theorem dX1_copy_157 : decode cX1_copy 157 = .ok (.iconst 1, 1) := dk_4 (dk_at dksX1_copy_6 15 rfl rfl)
theorem dX1_copy_158 : decode cX1_copy 158 = .ok (.ireturn, 1) := dk_172 (dk_at dksX1_copy_6 16 rfl rfl)
abbrev cX1_isSpan : ByteArray := prog_10_method_16_code
def yX1_isSpan : MethodName := ⟨RX1, "isSpan", "(III)Z"⟩
def dkwX1_isSpan_1 : List UInt8 := [3, 172]
abbrev dktX1_isSpan_1 : List UInt8 := dkwX1_isSpan_1 ++ []
def dkwX1_isSpan_0 : List UInt8 := [28, 155, 0, 23, 28, 133, 29, 133, 97, 42, 180, 0, 25, 27, 46, 133, 148, 157, 0, 7, 4, 167, 0, 4]
abbrev dktX1_isSpan_0 : List UInt8 := dkwX1_isSpan_0 ++ dktX1_isSpan_1
theorem dksX1_isSpan_0 : cX1_isSpan.data.toList.drop 0 = dktX1_isSpan_0 := by decide +kernel
theorem dksX1_isSpan_1 : cX1_isSpan.data.toList.drop 24 = dktX1_isSpan_1 := dk_seg dksX1_isSpan_0 24 rfl rfl
theorem dX1_isSpan_0 : decode cX1_isSpan 0 = .ok (.iload_n 2, 1) := dk_28 (dk_at dksX1_isSpan_0 0 rfl rfl)
theorem dX1_isSpan_1 : decode cX1_isSpan 1 = .ok (.ifCond .lt 23, 3) := dk_155 0 23 (dk_at dksX1_isSpan_0 1 rfl rfl)
theorem dX1_isSpan_4 : decode cX1_isSpan 4 = .ok (.iload_n 2, 1) := dk_28 (dk_at dksX1_isSpan_0 4 rfl rfl)
theorem dX1_isSpan_5 : decode cX1_isSpan 5 = .ok (.i2l, 1) := dk_133 (dk_at dksX1_isSpan_0 5 rfl rfl)
theorem dX1_isSpan_6 : decode cX1_isSpan 6 = .ok (.iload_n 3, 1) := dk_29 (dk_at dksX1_isSpan_0 6 rfl rfl)
theorem dX1_isSpan_7 : decode cX1_isSpan 7 = .ok (.i2l, 1) := dk_133 (dk_at dksX1_isSpan_0 7 rfl rfl)
theorem dX1_isSpan_8 : decode cX1_isSpan 8 = .ok (.ladd, 1) := dk_97 (dk_at dksX1_isSpan_0 8 rfl rfl)
theorem dX1_isSpan_9 : decode cX1_isSpan 9 = .ok (.aload_n 0, 1) := dk_42 (dk_at dksX1_isSpan_0 9 rfl rfl)
theorem dX1_isSpan_10 : decode cX1_isSpan 10 = .ok (.getfield 25, 3) := dk_180 0 25 (dk_at dksX1_isSpan_0 10 rfl rfl)
theorem dX1_isSpan_13 : decode cX1_isSpan 13 = .ok (.iload_n 1, 1) := dk_27 (dk_at dksX1_isSpan_0 13 rfl rfl)
theorem dX1_isSpan_14 : decode cX1_isSpan 14 = .ok (.iaload, 1) := dk_46 (dk_at dksX1_isSpan_0 14 rfl rfl)
theorem dX1_isSpan_15 : decode cX1_isSpan 15 = .ok (.i2l, 1) := dk_133 (dk_at dksX1_isSpan_0 15 rfl rfl)
theorem dX1_isSpan_16 : decode cX1_isSpan 16 = .ok (.lcmp, 1) := dk_148 (dk_at dksX1_isSpan_0 16 rfl rfl)
theorem dX1_isSpan_17 : decode cX1_isSpan 17 = .ok (.ifCond .gt 7, 3) := dk_157 0 7 (dk_at dksX1_isSpan_0 17 rfl rfl)
theorem dX1_isSpan_20 : decode cX1_isSpan 20 = .ok (.iconst 1, 1) := dk_4 (dk_at dksX1_isSpan_0 20 rfl rfl)
theorem dX1_isSpan_21 : decode cX1_isSpan 21 = .ok (.goto 4, 3) := dk_167 0 4 (dk_at dksX1_isSpan_0 21 rfl rfl)
theorem dX1_isSpan_24 : decode cX1_isSpan 24 = .ok (.iconst 0, 1) := dk_3 (dk_at dksX1_isSpan_1 0 rfl rfl)
theorem dX1_isSpan_25 : decode cX1_isSpan 25 = .ok (.ireturn, 1) := dk_172 (dk_at dksX1_isSpan_1 1 rfl rfl)
abbrev cX1_mean : ByteArray := prog_10_method_18_code
def yX1_mean : MethodName := ⟨RX1, "mean", "(I)I"⟩
def dkwX1_mean_3 : List UInt8 := [132, 4, 1, 167, 255, 226, 42, 32, 42, 180, 0, 25, 27, 46, 133, 109, 136, 182, 0, 94, 172]
abbrev dktX1_mean_3 : List UInt8 := dkwX1_mean_3 ++ []
def dkwX1_mean_2 : List UInt8 := [180, 0, 25, 27, 46, 162, 0, 25, 32, 42, 180, 0, 28, 16, 40, 27, 104, 21, 4, 96, 46, 133, 97, 65]
abbrev dktX1_mean_2 : List UInt8 := dkwX1_mean_2 ++ dktX1_mean_3
def dkwX1_mean_1 : List UInt8 := [42, 180, 0, 25, 27, 46, 154, 0, 9, 42, 7, 182, 0, 82, 172, 9, 65, 3, 54, 4, 21, 4, 42]
abbrev dktX1_mean_1 : List UInt8 := dkwX1_mean_1 ++ dktX1_mean_2
def dkwX1_mean_0 : List UInt8 := [27, 184, 0, 78, 154, 0, 5, 2, 172, 42, 180, 0, 25, 27, 46, 156, 0, 9, 42, 4, 182, 0, 82, 172]
abbrev dktX1_mean_0 : List UInt8 := dkwX1_mean_0 ++ dktX1_mean_1
theorem dksX1_mean_0 : cX1_mean.data.toList.drop 0 = dktX1_mean_0 := by decide +kernel
theorem dksX1_mean_1 : cX1_mean.data.toList.drop 24 = dktX1_mean_1 := dk_seg dksX1_mean_0 24 rfl rfl
theorem dksX1_mean_2 : cX1_mean.data.toList.drop 47 = dktX1_mean_2 := dk_seg dksX1_mean_1 23 rfl rfl
theorem dksX1_mean_3 : cX1_mean.data.toList.drop 71 = dktX1_mean_3 := dk_seg dksX1_mean_2 24 rfl rfl
theorem dX1_mean_0 : decode cX1_mean 0 = .ok (.iload_n 1, 1) := dk_27 (dk_at dksX1_mean_0 0 rfl rfl)
theorem dX1_mean_1 : decode cX1_mean 1 = .ok (.invokestatic 78, 3) := dk_184 0 78 (dk_at dksX1_mean_0 1 rfl rfl)
theorem dX1_mean_4 : decode cX1_mean 4 = .ok (.ifCond .ne 5, 3) := dk_154 0 5 (dk_at dksX1_mean_0 4 rfl rfl)
theorem dX1_mean_7 : decode cX1_mean 7 = .ok (.iconst (-1), 1) := dk_2 (dk_at dksX1_mean_0 7 rfl rfl)
theorem dX1_mean_8 : decode cX1_mean 8 = .ok (.ireturn, 1) := dk_172 (dk_at dksX1_mean_0 8 rfl rfl)
theorem dX1_mean_9 : decode cX1_mean 9 = .ok (.aload_n 0, 1) := dk_42 (dk_at dksX1_mean_0 9 rfl rfl)
theorem dX1_mean_10 : decode cX1_mean 10 = .ok (.getfield 25, 3) := dk_180 0 25 (dk_at dksX1_mean_0 10 rfl rfl)
theorem dX1_mean_13 : decode cX1_mean 13 = .ok (.iload_n 1, 1) := dk_27 (dk_at dksX1_mean_0 13 rfl rfl)
theorem dX1_mean_14 : decode cX1_mean 14 = .ok (.iaload, 1) := dk_46 (dk_at dksX1_mean_0 14 rfl rfl)
theorem dX1_mean_15 : decode cX1_mean 15 = .ok (.ifCond .ge 9, 3) := dk_156 0 9 (dk_at dksX1_mean_0 15 rfl rfl)
theorem dX1_mean_18 : decode cX1_mean 18 = .ok (.aload_n 0, 1) := dk_42 (dk_at dksX1_mean_0 18 rfl rfl)
theorem dX1_mean_19 : decode cX1_mean 19 = .ok (.iconst 1, 1) := dk_4 (dk_at dksX1_mean_0 19 rfl rfl)
theorem dX1_mean_20 : decode cX1_mean 20 = .ok (.invokevirtual 82, 3) := dk_182 0 82 (dk_at dksX1_mean_0 20 rfl rfl)
theorem dX1_mean_23 : decode cX1_mean 23 = .ok (.ireturn, 1) := dk_172 (dk_at dksX1_mean_0 23 rfl rfl)
theorem dX1_mean_24 : decode cX1_mean 24 = .ok (.aload_n 0, 1) := dk_42 (dk_at dksX1_mean_1 0 rfl rfl)
theorem dX1_mean_25 : decode cX1_mean 25 = .ok (.getfield 25, 3) := dk_180 0 25 (dk_at dksX1_mean_1 1 rfl rfl)
theorem dX1_mean_28 : decode cX1_mean 28 = .ok (.iload_n 1, 1) := dk_27 (dk_at dksX1_mean_1 4 rfl rfl)
theorem dX1_mean_29 : decode cX1_mean 29 = .ok (.iaload, 1) := dk_46 (dk_at dksX1_mean_1 5 rfl rfl)
theorem dX1_mean_30 : decode cX1_mean 30 = .ok (.ifCond .ne 9, 3) := dk_154 0 9 (dk_at dksX1_mean_1 6 rfl rfl)
theorem dX1_mean_33 : decode cX1_mean 33 = .ok (.aload_n 0, 1) := dk_42 (dk_at dksX1_mean_1 9 rfl rfl)
theorem dX1_mean_34 : decode cX1_mean 34 = .ok (.iconst 4, 1) := dk_7 (dk_at dksX1_mean_1 10 rfl rfl)
theorem dX1_mean_35 : decode cX1_mean 35 = .ok (.invokevirtual 82, 3) := dk_182 0 82 (dk_at dksX1_mean_1 11 rfl rfl)
theorem dX1_mean_38 : decode cX1_mean 38 = .ok (.ireturn, 1) := dk_172 (dk_at dksX1_mean_1 14 rfl rfl)
theorem dX1_mean_39 : decode cX1_mean 39 = .ok (.lconst 0, 1) := dk_9 (dk_at dksX1_mean_1 15 rfl rfl)
theorem dX1_mean_40 : decode cX1_mean 40 = .ok (.lstore_n 2, 1) := dk_65 (dk_at dksX1_mean_1 16 rfl rfl)
theorem dX1_mean_41 : decode cX1_mean 41 = .ok (.iconst 0, 1) := dk_3 (dk_at dksX1_mean_1 17 rfl rfl)
theorem dX1_mean_42 : decode cX1_mean 42 = .ok (.istore 4, 2) := dk_54 4 (dk_at dksX1_mean_1 18 rfl rfl)
theorem dX1_mean_44 : decode cX1_mean 44 = .ok (.iload 4, 2) := dk_21 4 (dk_at dksX1_mean_1 20 rfl rfl)
theorem dX1_mean_46 : decode cX1_mean 46 = .ok (.aload_n 0, 1) := dk_42 (dk_at dksX1_mean_1 22 rfl rfl)
theorem dX1_mean_47 : decode cX1_mean 47 = .ok (.getfield 25, 3) := dk_180 0 25 (dk_at dksX1_mean_2 0 rfl rfl)
theorem dX1_mean_50 : decode cX1_mean 50 = .ok (.iload_n 1, 1) := dk_27 (dk_at dksX1_mean_2 3 rfl rfl)
theorem dX1_mean_51 : decode cX1_mean 51 = .ok (.iaload, 1) := dk_46 (dk_at dksX1_mean_2 4 rfl rfl)
theorem dX1_mean_52 : decode cX1_mean 52 = .ok (.if_icmp .ge 25, 3) := dk_162 0 25 (dk_at dksX1_mean_2 5 rfl rfl)
theorem dX1_mean_55 : decode cX1_mean 55 = .ok (.lload_n 2, 1) := dk_32 (dk_at dksX1_mean_2 8 rfl rfl)
theorem dX1_mean_56 : decode cX1_mean 56 = .ok (.aload_n 0, 1) := dk_42 (dk_at dksX1_mean_2 9 rfl rfl)
theorem dX1_mean_57 : decode cX1_mean 57 = .ok (.getfield 28, 3) := dk_180 0 28 (dk_at dksX1_mean_2 10 rfl rfl)
theorem dX1_mean_60 : decode cX1_mean 60 = .ok (.bipush 40, 2) := dk_16 40 (dk_at dksX1_mean_2 13 rfl rfl)
theorem dX1_mean_62 : decode cX1_mean 62 = .ok (.iload_n 1, 1) := dk_27 (dk_at dksX1_mean_2 15 rfl rfl)
theorem dX1_mean_63 : decode cX1_mean 63 = .ok (.imul, 1) := dk_104 (dk_at dksX1_mean_2 16 rfl rfl)
theorem dX1_mean_64 : decode cX1_mean 64 = .ok (.iload 4, 2) := dk_21 4 (dk_at dksX1_mean_2 17 rfl rfl)
theorem dX1_mean_66 : decode cX1_mean 66 = .ok (.iadd, 1) := dk_96 (dk_at dksX1_mean_2 19 rfl rfl)
theorem dX1_mean_67 : decode cX1_mean 67 = .ok (.iaload, 1) := dk_46 (dk_at dksX1_mean_2 20 rfl rfl)
theorem dX1_mean_68 : decode cX1_mean 68 = .ok (.i2l, 1) := dk_133 (dk_at dksX1_mean_2 21 rfl rfl)
theorem dX1_mean_69 : decode cX1_mean 69 = .ok (.ladd, 1) := dk_97 (dk_at dksX1_mean_2 22 rfl rfl)
theorem dX1_mean_70 : decode cX1_mean 70 = .ok (.lstore_n 2, 1) := dk_65 (dk_at dksX1_mean_2 23 rfl rfl)
theorem dX1_mean_71 : decode cX1_mean 71 = .ok (.iinc 4 1, 3) := dk_132 4 1 (dk_at dksX1_mean_3 0 rfl rfl)
theorem dX1_mean_74 : decode cX1_mean 74 = .ok (.goto (-30), 3) := dk_167 255 226 (dk_at dksX1_mean_3 3 rfl rfl)
theorem dX1_mean_77 : decode cX1_mean 77 = .ok (.aload_n 0, 1) := dk_42 (dk_at dksX1_mean_3 6 rfl rfl)
theorem dX1_mean_78 : decode cX1_mean 78 = .ok (.lload_n 2, 1) := dk_32 (dk_at dksX1_mean_3 7 rfl rfl)
theorem dX1_mean_79 : decode cX1_mean 79 = .ok (.aload_n 0, 1) := dk_42 (dk_at dksX1_mean_3 8 rfl rfl)
theorem dX1_mean_80 : decode cX1_mean 80 = .ok (.getfield 25, 3) := dk_180 0 25 (dk_at dksX1_mean_3 9 rfl rfl)
theorem dX1_mean_83 : decode cX1_mean 83 = .ok (.iload_n 1, 1) := dk_27 (dk_at dksX1_mean_3 12 rfl rfl)
theorem dX1_mean_84 : decode cX1_mean 84 = .ok (.iaload, 1) := dk_46 (dk_at dksX1_mean_3 13 rfl rfl)
theorem dX1_mean_85 : decode cX1_mean 85 = .ok (.i2l, 1) := dk_133 (dk_at dksX1_mean_3 14 rfl rfl)
theorem dX1_mean_86 : decode cX1_mean 86 = .ok (.ldiv, 1) := dk_109 (dk_at dksX1_mean_3 15 rfl rfl)
theorem dX1_mean_87 : decode cX1_mean 87 = .ok (.l2i, 1) := dk_136 (dk_at dksX1_mean_3 16 rfl rfl)
theorem dX1_mean_88 : decode cX1_mean 88 = .ok (.invokevirtual 94, 3) := dk_182 0 94 (dk_at dksX1_mean_3 17 rfl rfl)
theorem dX1_mean_91 : decode cX1_mean 91 = .ok (.ireturn, 1) := dk_172 (dk_at dksX1_mean_3 20 rfl rfl)
abbrev cX1_text : ByteArray := prog_10_method_19_code
def yX1_text : MethodName := ⟨RX1, "text", "(II)I"⟩
def dkwX1_text_2 : List UInt8 := [29, 96, 16, 32, 79, 132, 3, 1, 167, 255, 234, 28, 172]
abbrev dktX1_text_2 : List UInt8 := dkwX1_text_2 ++ []
def dkwX1_text_1 : List UInt8 := [172, 42, 180, 0, 31, 27, 28, 79, 3, 62, 29, 16, 80, 162, 0, 22, 42, 180, 0, 34, 16, 80, 27, 104]
abbrev dktX1_text_1 : List UInt8 := dkwX1_text_1 ++ dktX1_text_2
def dkwX1_text_0 : List UInt8 := [27, 184, 0, 101, 153, 0, 9, 28, 16, 80, 164, 0, 5, 2, 172, 28, 156, 0, 9, 42, 8, 182, 0, 82]
abbrev dktX1_text_0 : List UInt8 := dkwX1_text_0 ++ dktX1_text_1
theorem dksX1_text_0 : cX1_text.data.toList.drop 0 = dktX1_text_0 := by decide +kernel
theorem dksX1_text_1 : cX1_text.data.toList.drop 24 = dktX1_text_1 := dk_seg dksX1_text_0 24 rfl rfl
theorem dksX1_text_2 : cX1_text.data.toList.drop 48 = dktX1_text_2 := dk_seg dksX1_text_1 24 rfl rfl
theorem dX1_text_0 : decode cX1_text 0 = .ok (.iload_n 1, 1) := dk_27 (dk_at dksX1_text_0 0 rfl rfl)
theorem dX1_text_1 : decode cX1_text 1 = .ok (.invokestatic 101, 3) := dk_184 0 101 (dk_at dksX1_text_0 1 rfl rfl)
theorem dX1_text_4 : decode cX1_text 4 = .ok (.ifCond .eq 9, 3) := dk_153 0 9 (dk_at dksX1_text_0 4 rfl rfl)
theorem dX1_text_7 : decode cX1_text 7 = .ok (.iload_n 2, 1) := dk_28 (dk_at dksX1_text_0 7 rfl rfl)
theorem dX1_text_8 : decode cX1_text 8 = .ok (.bipush 80, 2) := dk_16 80 (dk_at dksX1_text_0 8 rfl rfl)
theorem dX1_text_10 : decode cX1_text 10 = .ok (.if_icmp .le 5, 3) := dk_164 0 5 (dk_at dksX1_text_0 10 rfl rfl)
theorem dX1_text_13 : decode cX1_text 13 = .ok (.iconst (-1), 1) := dk_2 (dk_at dksX1_text_0 13 rfl rfl)
theorem dX1_text_14 : decode cX1_text 14 = .ok (.ireturn, 1) := dk_172 (dk_at dksX1_text_0 14 rfl rfl)
theorem dX1_text_15 : decode cX1_text 15 = .ok (.iload_n 2, 1) := dk_28 (dk_at dksX1_text_0 15 rfl rfl)
theorem dX1_text_16 : decode cX1_text 16 = .ok (.ifCond .ge 9, 3) := dk_156 0 9 (dk_at dksX1_text_0 16 rfl rfl)
theorem dX1_text_19 : decode cX1_text 19 = .ok (.aload_n 0, 1) := dk_42 (dk_at dksX1_text_0 19 rfl rfl)
theorem dX1_text_20 : decode cX1_text 20 = .ok (.iconst 5, 1) := dk_8 (dk_at dksX1_text_0 20 rfl rfl)
theorem dX1_text_21 : decode cX1_text 21 = .ok (.invokevirtual 82, 3) := dk_182 0 82 (dk_at dksX1_text_0 21 rfl rfl)
theorem dX1_text_24 : decode cX1_text 24 = .ok (.ireturn, 1) := dk_172 (dk_at dksX1_text_1 0 rfl rfl)
theorem dX1_text_25 : decode cX1_text 25 = .ok (.aload_n 0, 1) := dk_42 (dk_at dksX1_text_1 1 rfl rfl)
theorem dX1_text_26 : decode cX1_text 26 = .ok (.getfield 31, 3) := dk_180 0 31 (dk_at dksX1_text_1 2 rfl rfl)
theorem dX1_text_29 : decode cX1_text 29 = .ok (.iload_n 1, 1) := dk_27 (dk_at dksX1_text_1 5 rfl rfl)
theorem dX1_text_30 : decode cX1_text 30 = .ok (.iload_n 2, 1) := dk_28 (dk_at dksX1_text_1 6 rfl rfl)
theorem dX1_text_31 : decode cX1_text 31 = .ok (.iastore, 1) := dk_79 (dk_at dksX1_text_1 7 rfl rfl)
theorem dX1_text_32 : decode cX1_text 32 = .ok (.iconst 0, 1) := dk_3 (dk_at dksX1_text_1 8 rfl rfl)
theorem dX1_text_33 : decode cX1_text 33 = .ok (.istore_n 3, 1) := dk_62 (dk_at dksX1_text_1 9 rfl rfl)
theorem dX1_text_34 : decode cX1_text 34 = .ok (.iload_n 3, 1) := dk_29 (dk_at dksX1_text_1 10 rfl rfl)
theorem dX1_text_35 : decode cX1_text 35 = .ok (.bipush 80, 2) := dk_16 80 (dk_at dksX1_text_1 11 rfl rfl)
theorem dX1_text_37 : decode cX1_text 37 = .ok (.if_icmp .ge 22, 3) := dk_162 0 22 (dk_at dksX1_text_1 13 rfl rfl)
theorem dX1_text_40 : decode cX1_text 40 = .ok (.aload_n 0, 1) := dk_42 (dk_at dksX1_text_1 16 rfl rfl)
theorem dX1_text_41 : decode cX1_text 41 = .ok (.getfield 34, 3) := dk_180 0 34 (dk_at dksX1_text_1 17 rfl rfl)
theorem dX1_text_44 : decode cX1_text 44 = .ok (.bipush 80, 2) := dk_16 80 (dk_at dksX1_text_1 20 rfl rfl)
theorem dX1_text_46 : decode cX1_text 46 = .ok (.iload_n 1, 1) := dk_27 (dk_at dksX1_text_1 22 rfl rfl)
theorem dX1_text_47 : decode cX1_text 47 = .ok (.imul, 1) := dk_104 (dk_at dksX1_text_1 23 rfl rfl)
theorem dX1_text_48 : decode cX1_text 48 = .ok (.iload_n 3, 1) := dk_29 (dk_at dksX1_text_2 0 rfl rfl)
theorem dX1_text_49 : decode cX1_text 49 = .ok (.iadd, 1) := dk_96 (dk_at dksX1_text_2 1 rfl rfl)
theorem dX1_text_50 : decode cX1_text 50 = .ok (.bipush 32, 2) := dk_16 32 (dk_at dksX1_text_2 2 rfl rfl)
theorem dX1_text_52 : decode cX1_text 52 = .ok (.iastore, 1) := dk_79 (dk_at dksX1_text_2 4 rfl rfl)
theorem dX1_text_53 : decode cX1_text 53 = .ok (.iinc 3 1, 3) := dk_132 3 1 (dk_at dksX1_text_2 5 rfl rfl)
theorem dX1_text_56 : decode cX1_text 56 = .ok (.goto (-22), 3) := dk_167 255 234 (dk_at dksX1_text_2 8 rfl rfl)
theorem dX1_text_59 : decode cX1_text 59 = .ok (.iload_n 2, 1) := dk_28 (dk_at dksX1_text_2 11 rfl rfl)
theorem dX1_text_60 : decode cX1_text 60 = .ok (.ireturn, 1) := dk_172 (dk_at dksX1_text_2 12 rfl rfl)
abbrev cX1_isText : ByteArray := prog_10_method_9_code
def yX1_isText : MethodName := ⟨RX1, "isText", "(I)Z"⟩
def dkwX1_isText_0 : List UInt8 := [26, 133, 9, 20, 0, 76, 184, 0, 72, 172]
abbrev dktX1_isText_0 : List UInt8 := dkwX1_isText_0 ++ []
theorem dksX1_isText_0 : cX1_isText.data.toList.drop 0 = dktX1_isText_0 := by decide +kernel
theorem dX1_isText_0 : decode cX1_isText 0 = .ok (.iload_n 0, 1) := dk_26 (dk_at dksX1_isText_0 0 rfl rfl)
theorem dX1_isText_1 : decode cX1_isText 1 = .ok (.i2l, 1) := dk_133 (dk_at dksX1_isText_0 1 rfl rfl)
theorem dX1_isText_2 : decode cX1_isText 2 = .ok (.lconst 0, 1) := dk_9 (dk_at dksX1_isText_0 2 rfl rfl)
theorem dX1_isText_3 : decode cX1_isText 3 = .ok (.ldc2_w 76, 3) := dk_20 0 76 (dk_at dksX1_isText_0 3 rfl rfl)
theorem dX1_isText_6 : decode cX1_isText 6 = .ok (.invokestatic 72, 3) := dk_184 0 72 (dk_at dksX1_isText_0 6 rfl rfl)
theorem dX1_isText_9 : decode cX1_isText 9 = .ok (.ireturn, 1) := dk_172 (dk_at dksX1_isText_0 9 rfl rfl)
abbrev cX1_put : ByteArray := prog_10_method_20_code
def yX1_put : MethodName := ⟨RX1, "put", "(III)I"⟩
def dkwX1_put_3 : List UInt8 := [145, 79, 21, 4, 17, 3, 232, 96, 172]
abbrev dktX1_put_3 : List UInt8 := dkwX1_put_3 ++ []
def dkwX1_put_2 : List UInt8 := [42, 180, 0, 34, 16, 80, 27, 104, 28, 96, 46, 54, 4, 42, 180, 0, 34, 16, 80, 27, 104, 28, 96, 29]
abbrev dktX1_put_2 : List UInt8 := dkwX1_put_2 ++ dktX1_put_3
def dkwX1_put_1 : List UInt8 := [28, 133, 9, 42, 180, 0, 31, 27, 46, 4, 100, 133, 184, 0, 72, 154, 0, 9, 42, 5, 182, 0, 82, 172]
abbrev dktX1_put_1 : List UInt8 := dkwX1_put_1 ++ dktX1_put_2
def dkwX1_put_0 : List UInt8 := [27, 184, 0, 101, 154, 0, 5, 2, 172, 42, 180, 0, 31, 27, 46, 156, 0, 9, 42, 4, 182, 0, 82, 172]
abbrev dktX1_put_0 : List UInt8 := dkwX1_put_0 ++ dktX1_put_1
theorem dksX1_put_0 : cX1_put.data.toList.drop 0 = dktX1_put_0 := by decide +kernel
theorem dksX1_put_1 : cX1_put.data.toList.drop 24 = dktX1_put_1 := dk_seg dksX1_put_0 24 rfl rfl
theorem dksX1_put_2 : cX1_put.data.toList.drop 48 = dktX1_put_2 := dk_seg dksX1_put_1 24 rfl rfl
theorem dksX1_put_3 : cX1_put.data.toList.drop 72 = dktX1_put_3 := dk_seg dksX1_put_2 24 rfl rfl
theorem dX1_put_0 : decode cX1_put 0 = .ok (.iload_n 1, 1) := dk_27 (dk_at dksX1_put_0 0 rfl rfl)
theorem dX1_put_1 : decode cX1_put 1 = .ok (.invokestatic 101, 3) := dk_184 0 101 (dk_at dksX1_put_0 1 rfl rfl)
theorem dX1_put_4 : decode cX1_put 4 = .ok (.ifCond .ne 5, 3) := dk_154 0 5 (dk_at dksX1_put_0 4 rfl rfl)
theorem dX1_put_7 : decode cX1_put 7 = .ok (.iconst (-1), 1) := dk_2 (dk_at dksX1_put_0 7 rfl rfl)
theorem dX1_put_8 : decode cX1_put 8 = .ok (.ireturn, 1) := dk_172 (dk_at dksX1_put_0 8 rfl rfl)
theorem dX1_put_9 : decode cX1_put 9 = .ok (.aload_n 0, 1) := dk_42 (dk_at dksX1_put_0 9 rfl rfl)
theorem dX1_put_10 : decode cX1_put 10 = .ok (.getfield 31, 3) := dk_180 0 31 (dk_at dksX1_put_0 10 rfl rfl)
theorem dX1_put_13 : decode cX1_put 13 = .ok (.iload_n 1, 1) := dk_27 (dk_at dksX1_put_0 13 rfl rfl)
theorem dX1_put_14 : decode cX1_put 14 = .ok (.iaload, 1) := dk_46 (dk_at dksX1_put_0 14 rfl rfl)
theorem dX1_put_15 : decode cX1_put 15 = .ok (.ifCond .ge 9, 3) := dk_156 0 9 (dk_at dksX1_put_0 15 rfl rfl)
theorem dX1_put_18 : decode cX1_put 18 = .ok (.aload_n 0, 1) := dk_42 (dk_at dksX1_put_0 18 rfl rfl)
theorem dX1_put_19 : decode cX1_put 19 = .ok (.iconst 1, 1) := dk_4 (dk_at dksX1_put_0 19 rfl rfl)
theorem dX1_put_20 : decode cX1_put 20 = .ok (.invokevirtual 82, 3) := dk_182 0 82 (dk_at dksX1_put_0 20 rfl rfl)
theorem dX1_put_23 : decode cX1_put 23 = .ok (.ireturn, 1) := dk_172 (dk_at dksX1_put_0 23 rfl rfl)
theorem dX1_put_24 : decode cX1_put 24 = .ok (.iload_n 2, 1) := dk_28 (dk_at dksX1_put_1 0 rfl rfl)
theorem dX1_put_25 : decode cX1_put 25 = .ok (.i2l, 1) := dk_133 (dk_at dksX1_put_1 1 rfl rfl)
theorem dX1_put_26 : decode cX1_put 26 = .ok (.lconst 0, 1) := dk_9 (dk_at dksX1_put_1 2 rfl rfl)
theorem dX1_put_27 : decode cX1_put 27 = .ok (.aload_n 0, 1) := dk_42 (dk_at dksX1_put_1 3 rfl rfl)
theorem dX1_put_28 : decode cX1_put 28 = .ok (.getfield 31, 3) := dk_180 0 31 (dk_at dksX1_put_1 4 rfl rfl)
theorem dX1_put_31 : decode cX1_put 31 = .ok (.iload_n 1, 1) := dk_27 (dk_at dksX1_put_1 7 rfl rfl)
theorem dX1_put_32 : decode cX1_put 32 = .ok (.iaload, 1) := dk_46 (dk_at dksX1_put_1 8 rfl rfl)
theorem dX1_put_33 : decode cX1_put 33 = .ok (.iconst 1, 1) := dk_4 (dk_at dksX1_put_1 9 rfl rfl)
theorem dX1_put_34 : decode cX1_put 34 = .ok (.isub, 1) := dk_100 (dk_at dksX1_put_1 10 rfl rfl)
theorem dX1_put_35 : decode cX1_put 35 = .ok (.i2l, 1) := dk_133 (dk_at dksX1_put_1 11 rfl rfl)
theorem dX1_put_36 : decode cX1_put 36 = .ok (.invokestatic 72, 3) := dk_184 0 72 (dk_at dksX1_put_1 12 rfl rfl)
theorem dX1_put_39 : decode cX1_put 39 = .ok (.ifCond .ne 9, 3) := dk_154 0 9 (dk_at dksX1_put_1 15 rfl rfl)
theorem dX1_put_42 : decode cX1_put 42 = .ok (.aload_n 0, 1) := dk_42 (dk_at dksX1_put_1 18 rfl rfl)
theorem dX1_put_43 : decode cX1_put 43 = .ok (.iconst 2, 1) := dk_5 (dk_at dksX1_put_1 19 rfl rfl)
theorem dX1_put_44 : decode cX1_put 44 = .ok (.invokevirtual 82, 3) := dk_182 0 82 (dk_at dksX1_put_1 20 rfl rfl)
theorem dX1_put_47 : decode cX1_put 47 = .ok (.ireturn, 1) := dk_172 (dk_at dksX1_put_1 23 rfl rfl)
theorem dX1_put_48 : decode cX1_put 48 = .ok (.aload_n 0, 1) := dk_42 (dk_at dksX1_put_2 0 rfl rfl)
theorem dX1_put_49 : decode cX1_put 49 = .ok (.getfield 34, 3) := dk_180 0 34 (dk_at dksX1_put_2 1 rfl rfl)
theorem dX1_put_52 : decode cX1_put 52 = .ok (.bipush 80, 2) := dk_16 80 (dk_at dksX1_put_2 4 rfl rfl)
theorem dX1_put_54 : decode cX1_put 54 = .ok (.iload_n 1, 1) := dk_27 (dk_at dksX1_put_2 6 rfl rfl)
theorem dX1_put_55 : decode cX1_put 55 = .ok (.imul, 1) := dk_104 (dk_at dksX1_put_2 7 rfl rfl)
theorem dX1_put_56 : decode cX1_put 56 = .ok (.iload_n 2, 1) := dk_28 (dk_at dksX1_put_2 8 rfl rfl)
theorem dX1_put_57 : decode cX1_put 57 = .ok (.iadd, 1) := dk_96 (dk_at dksX1_put_2 9 rfl rfl)
theorem dX1_put_58 : decode cX1_put 58 = .ok (.iaload, 1) := dk_46 (dk_at dksX1_put_2 10 rfl rfl)
theorem dX1_put_59 : decode cX1_put 59 = .ok (.istore 4, 2) := dk_54 4 (dk_at dksX1_put_2 11 rfl rfl)
theorem dX1_put_61 : decode cX1_put 61 = .ok (.aload_n 0, 1) := dk_42 (dk_at dksX1_put_2 13 rfl rfl)
theorem dX1_put_62 : decode cX1_put 62 = .ok (.getfield 34, 3) := dk_180 0 34 (dk_at dksX1_put_2 14 rfl rfl)
theorem dX1_put_65 : decode cX1_put 65 = .ok (.bipush 80, 2) := dk_16 80 (dk_at dksX1_put_2 17 rfl rfl)
theorem dX1_put_67 : decode cX1_put 67 = .ok (.iload_n 1, 1) := dk_27 (dk_at dksX1_put_2 19 rfl rfl)
theorem dX1_put_68 : decode cX1_put 68 = .ok (.imul, 1) := dk_104 (dk_at dksX1_put_2 20 rfl rfl)
theorem dX1_put_69 : decode cX1_put 69 = .ok (.iload_n 2, 1) := dk_28 (dk_at dksX1_put_2 21 rfl rfl)
theorem dX1_put_70 : decode cX1_put 70 = .ok (.iadd, 1) := dk_96 (dk_at dksX1_put_2 22 rfl rfl)
theorem dX1_put_71 : decode cX1_put 71 = .ok (.iload_n 3, 1) := dk_29 (dk_at dksX1_put_2 23 rfl rfl)
theorem dX1_put_72 : decode cX1_put 72 = .ok (.i2b, 1) := dk_145 (dk_at dksX1_put_3 0 rfl rfl)
theorem dX1_put_73 : decode cX1_put 73 = .ok (.iastore, 1) := dk_79 (dk_at dksX1_put_3 1 rfl rfl)
theorem dX1_put_74 : decode cX1_put 74 = .ok (.iload 4, 2) := dk_21 4 (dk_at dksX1_put_3 2 rfl rfl)
theorem dX1_put_76 : decode cX1_put 76 = .ok (.sipush 1000, 3) := dk_17 3 232 (dk_at dksX1_put_3 4 rfl rfl)
theorem dX1_put_79 : decode cX1_put 79 = .ok (.iadd, 1) := dk_96 (dk_at dksX1_put_3 7 rfl rfl)
theorem dX1_put_80 : decode cX1_put 80 = .ok (.ireturn, 1) := dk_172 (dk_at dksX1_put_3 8 rfl rfl)
abbrev cX1_fault : ByteArray := prog_10_method_29_code
def yX1_fault : MethodName := ⟨RX1, "fault", "(I)I"⟩
def dkwX1_fault_1 : List UInt8 := [167, 0, 8, 42, 27, 182, 0, 144, 172]
abbrev dktX1_fault_1 : List UInt8 := dkwX1_fault_1 ++ []
def dkwX1_fault_0 : List UInt8 := [27, 184, 0, 101, 154, 0, 5, 2, 172, 42, 180, 0, 31, 27, 46, 156, 0, 11, 42, 4, 182, 0, 82]
abbrev dktX1_fault_0 : List UInt8 := dkwX1_fault_0 ++ dktX1_fault_1
theorem dksX1_fault_0 : cX1_fault.data.toList.drop 0 = dktX1_fault_0 := by decide +kernel
theorem dksX1_fault_1 : cX1_fault.data.toList.drop 23 = dktX1_fault_1 := dk_seg dksX1_fault_0 23 rfl rfl
theorem dX1_fault_0 : decode cX1_fault 0 = .ok (.iload_n 1, 1) := dk_27 (dk_at dksX1_fault_0 0 rfl rfl)
theorem dX1_fault_1 : decode cX1_fault 1 = .ok (.invokestatic 101, 3) := dk_184 0 101 (dk_at dksX1_fault_0 1 rfl rfl)
theorem dX1_fault_4 : decode cX1_fault 4 = .ok (.ifCond .ne 5, 3) := dk_154 0 5 (dk_at dksX1_fault_0 4 rfl rfl)
theorem dX1_fault_7 : decode cX1_fault 7 = .ok (.iconst (-1), 1) := dk_2 (dk_at dksX1_fault_0 7 rfl rfl)
theorem dX1_fault_8 : decode cX1_fault 8 = .ok (.ireturn, 1) := dk_172 (dk_at dksX1_fault_0 8 rfl rfl)
theorem dX1_fault_9 : decode cX1_fault 9 = .ok (.aload_n 0, 1) := dk_42 (dk_at dksX1_fault_0 9 rfl rfl)
theorem dX1_fault_10 : decode cX1_fault 10 = .ok (.getfield 31, 3) := dk_180 0 31 (dk_at dksX1_fault_0 10 rfl rfl)
theorem dX1_fault_13 : decode cX1_fault 13 = .ok (.iload_n 1, 1) := dk_27 (dk_at dksX1_fault_0 13 rfl rfl)
theorem dX1_fault_14 : decode cX1_fault 14 = .ok (.iaload, 1) := dk_46 (dk_at dksX1_fault_0 14 rfl rfl)
theorem dX1_fault_15 : decode cX1_fault 15 = .ok (.ifCond .ge 11, 3) := dk_156 0 11 (dk_at dksX1_fault_0 15 rfl rfl)
theorem dX1_fault_18 : decode cX1_fault 18 = .ok (.aload_n 0, 1) := dk_42 (dk_at dksX1_fault_0 18 rfl rfl)
theorem dX1_fault_19 : decode cX1_fault 19 = .ok (.iconst 1, 1) := dk_4 (dk_at dksX1_fault_0 19 rfl rfl)
theorem dX1_fault_20 : decode cX1_fault 20 = .ok (.invokevirtual 82, 3) := dk_182 0 82 (dk_at dksX1_fault_0 20 rfl rfl)
theorem dX1_fault_23 : decode cX1_fault 23 = .ok (.goto 8, 3) := dk_167 0 8 (dk_at dksX1_fault_1 0 rfl rfl)
theorem dX1_fault_26 : decode cX1_fault 26 = .ok (.aload_n 0, 1) := dk_42 (dk_at dksX1_fault_1 3 rfl rfl)
theorem dX1_fault_27 : decode cX1_fault 27 = .ok (.iload_n 1, 1) := dk_27 (dk_at dksX1_fault_1 4 rfl rfl)
theorem dX1_fault_28 : decode cX1_fault 28 = .ok (.invokevirtual 144, 3) := dk_182 0 144 (dk_at dksX1_fault_1 5 rfl rfl)
theorem dX1_fault_31 : decode cX1_fault 31 = .ok (.ireturn, 1) := dk_172 (dk_at dksX1_fault_1 8 rfl rfl)
abbrev cX1_faultOf : ByteArray := prog_10_method_28_code
def yX1_faultOf : MethodName := ⟨RX1, "faultOf", "(I)I"⟩
def dkwX1_faultOf_4 : List UInt8 := [158, 0, 8, 16, 247, 167, 0, 7, 42, 180, 0, 107, 172]
abbrev dktX1_faultOf_4 : List UInt8 := dkwX1_faultOf_4 ++ []
def dkwX1_faultOf_3 : List UInt8 := [182, 0, 141, 61, 28, 153, 255, 219, 42, 182, 0, 134, 167, 255, 212, 28, 153, 0, 15, 42, 180, 0, 119]
abbrev dktX1_faultOf_3 : List UInt8 := dkwX1_faultOf_3 ++ dktX1_faultOf_4
def dkwX1_faultOf_2 : List UInt8 := [180, 0, 110, 162, 0, 35, 42, 182, 0, 113, 16, 116, 160, 0, 10, 42, 182, 0, 137, 167, 0, 7, 42]
abbrev dktX1_faultOf_2 : List UInt8 := dkwX1_faultOf_2 ++ dktX1_faultOf_3
def dkwX1_faultOf_1 : List UInt8 := [3, 181, 0, 119, 42, 3, 181, 0, 122, 42, 182, 0, 134, 4, 61, 28, 153, 0, 46, 42, 180, 0, 107, 42]
abbrev dktX1_faultOf_1 : List UInt8 := dkwX1_faultOf_1 ++ dktX1_faultOf_2
def dkwX1_faultOf_0 : List UInt8 := [42, 16, 80, 27, 104, 181, 0, 104, 42, 3, 181, 0, 107, 42, 42, 180, 0, 31, 27, 46, 181, 0, 110, 42]
abbrev dktX1_faultOf_0 : List UInt8 := dkwX1_faultOf_0 ++ dktX1_faultOf_1
theorem dksX1_faultOf_0 : cX1_faultOf.data.toList.drop 0 = dktX1_faultOf_0 := by decide +kernel
theorem dksX1_faultOf_1 : cX1_faultOf.data.toList.drop 24 = dktX1_faultOf_1 := dk_seg dksX1_faultOf_0 24 rfl rfl
theorem dksX1_faultOf_2 : cX1_faultOf.data.toList.drop 48 = dktX1_faultOf_2 := dk_seg dksX1_faultOf_1 24 rfl rfl
theorem dksX1_faultOf_3 : cX1_faultOf.data.toList.drop 71 = dktX1_faultOf_3 := dk_seg dksX1_faultOf_2 23 rfl rfl
theorem dksX1_faultOf_4 : cX1_faultOf.data.toList.drop 94 = dktX1_faultOf_4 := dk_seg dksX1_faultOf_3 23 rfl rfl
theorem dX1_faultOf_0 : decode cX1_faultOf 0 = .ok (.aload_n 0, 1) := dk_42 (dk_at dksX1_faultOf_0 0 rfl rfl)
theorem dX1_faultOf_1 : decode cX1_faultOf 1 = .ok (.bipush 80, 2) := dk_16 80 (dk_at dksX1_faultOf_0 1 rfl rfl)
theorem dX1_faultOf_3 : decode cX1_faultOf 3 = .ok (.iload_n 1, 1) := dk_27 (dk_at dksX1_faultOf_0 3 rfl rfl)
theorem dX1_faultOf_4 : decode cX1_faultOf 4 = .ok (.imul, 1) := dk_104 (dk_at dksX1_faultOf_0 4 rfl rfl)
theorem dX1_faultOf_5 : decode cX1_faultOf 5 = .ok (.putfield 104, 3) := dk_181 0 104 (dk_at dksX1_faultOf_0 5 rfl rfl)
theorem dX1_faultOf_8 : decode cX1_faultOf 8 = .ok (.aload_n 0, 1) := dk_42 (dk_at dksX1_faultOf_0 8 rfl rfl)
theorem dX1_faultOf_9 : decode cX1_faultOf 9 = .ok (.iconst 0, 1) := dk_3 (dk_at dksX1_faultOf_0 9 rfl rfl)
theorem dX1_faultOf_10 : decode cX1_faultOf 10 = .ok (.putfield 107, 3) := dk_181 0 107 (dk_at dksX1_faultOf_0 10 rfl rfl)
theorem dX1_faultOf_13 : decode cX1_faultOf 13 = .ok (.aload_n 0, 1) := dk_42 (dk_at dksX1_faultOf_0 13 rfl rfl)
theorem dX1_faultOf_14 : decode cX1_faultOf 14 = .ok (.aload_n 0, 1) := dk_42 (dk_at dksX1_faultOf_0 14 rfl rfl)
theorem dX1_faultOf_15 : decode cX1_faultOf 15 = .ok (.getfield 31, 3) := dk_180 0 31 (dk_at dksX1_faultOf_0 15 rfl rfl)
theorem dX1_faultOf_18 : decode cX1_faultOf 18 = .ok (.iload_n 1, 1) := dk_27 (dk_at dksX1_faultOf_0 18 rfl rfl)
theorem dX1_faultOf_19 : decode cX1_faultOf 19 = .ok (.iaload, 1) := dk_46 (dk_at dksX1_faultOf_0 19 rfl rfl)
theorem dX1_faultOf_20 : decode cX1_faultOf 20 = .ok (.putfield 110, 3) := dk_181 0 110 (dk_at dksX1_faultOf_0 20 rfl rfl)
theorem dX1_faultOf_23 : decode cX1_faultOf 23 = .ok (.aload_n 0, 1) := dk_42 (dk_at dksX1_faultOf_0 23 rfl rfl)
theorem dX1_faultOf_24 : decode cX1_faultOf 24 = .ok (.iconst 0, 1) := dk_3 (dk_at dksX1_faultOf_1 0 rfl rfl)
theorem dX1_faultOf_25 : decode cX1_faultOf 25 = .ok (.putfield 119, 3) := dk_181 0 119 (dk_at dksX1_faultOf_1 1 rfl rfl)
theorem dX1_faultOf_28 : decode cX1_faultOf 28 = .ok (.aload_n 0, 1) := dk_42 (dk_at dksX1_faultOf_1 4 rfl rfl)
theorem dX1_faultOf_29 : decode cX1_faultOf 29 = .ok (.iconst 0, 1) := dk_3 (dk_at dksX1_faultOf_1 5 rfl rfl)
theorem dX1_faultOf_30 : decode cX1_faultOf 30 = .ok (.putfield 122, 3) := dk_181 0 122 (dk_at dksX1_faultOf_1 6 rfl rfl)
theorem dX1_faultOf_33 : decode cX1_faultOf 33 = .ok (.aload_n 0, 1) := dk_42 (dk_at dksX1_faultOf_1 9 rfl rfl)
theorem dX1_faultOf_34 : decode cX1_faultOf 34 = .ok (.invokevirtual 134, 3) := dk_182 0 134 (dk_at dksX1_faultOf_1 10 rfl rfl)
theorem dX1_faultOf_37 : decode cX1_faultOf 37 = .ok (.iconst 1, 1) := dk_4 (dk_at dksX1_faultOf_1 13 rfl rfl)
theorem dX1_faultOf_38 : decode cX1_faultOf 38 = .ok (.istore_n 2, 1) := dk_61 (dk_at dksX1_faultOf_1 14 rfl rfl)
theorem dX1_faultOf_39 : decode cX1_faultOf 39 = .ok (.iload_n 2, 1) := dk_28 (dk_at dksX1_faultOf_1 15 rfl rfl)
theorem dX1_faultOf_40 : decode cX1_faultOf 40 = .ok (.ifCond .eq 46, 3) := dk_153 0 46 (dk_at dksX1_faultOf_1 16 rfl rfl)
theorem dX1_faultOf_43 : decode cX1_faultOf 43 = .ok (.aload_n 0, 1) := dk_42 (dk_at dksX1_faultOf_1 19 rfl rfl)
theorem dX1_faultOf_44 : decode cX1_faultOf 44 = .ok (.getfield 107, 3) := dk_180 0 107 (dk_at dksX1_faultOf_1 20 rfl rfl)
theorem dX1_faultOf_47 : decode cX1_faultOf 47 = .ok (.aload_n 0, 1) := dk_42 (dk_at dksX1_faultOf_1 23 rfl rfl)
theorem dX1_faultOf_48 : decode cX1_faultOf 48 = .ok (.getfield 110, 3) := dk_180 0 110 (dk_at dksX1_faultOf_2 0 rfl rfl)
theorem dX1_faultOf_51 : decode cX1_faultOf 51 = .ok (.if_icmp .ge 35, 3) := dk_162 0 35 (dk_at dksX1_faultOf_2 3 rfl rfl)
theorem dX1_faultOf_54 : decode cX1_faultOf 54 = .ok (.aload_n 0, 1) := dk_42 (dk_at dksX1_faultOf_2 6 rfl rfl)
theorem dX1_faultOf_55 : decode cX1_faultOf 55 = .ok (.invokevirtual 113, 3) := dk_182 0 113 (dk_at dksX1_faultOf_2 7 rfl rfl)
theorem dX1_faultOf_58 : decode cX1_faultOf 58 = .ok (.bipush 116, 2) := dk_16 116 (dk_at dksX1_faultOf_2 10 rfl rfl)
theorem dX1_faultOf_60 : decode cX1_faultOf 60 = .ok (.if_icmp .ne 10, 3) := dk_160 0 10 (dk_at dksX1_faultOf_2 12 rfl rfl)
theorem dX1_faultOf_63 : decode cX1_faultOf 63 = .ok (.aload_n 0, 1) := dk_42 (dk_at dksX1_faultOf_2 15 rfl rfl)
theorem dX1_faultOf_64 : decode cX1_faultOf 64 = .ok (.invokevirtual 137, 3) := dk_182 0 137 (dk_at dksX1_faultOf_2 16 rfl rfl)
theorem dX1_faultOf_67 : decode cX1_faultOf 67 = .ok (.goto 7, 3) := dk_167 0 7 (dk_at dksX1_faultOf_2 19 rfl rfl)
theorem dX1_faultOf_70 : decode cX1_faultOf 70 = .ok (.aload_n 0, 1) := dk_42 (dk_at dksX1_faultOf_2 22 rfl rfl)
theorem dX1_faultOf_71 : decode cX1_faultOf 71 = .ok (.invokevirtual 141, 3) := dk_182 0 141 (dk_at dksX1_faultOf_3 0 rfl rfl)
theorem dX1_faultOf_74 : decode cX1_faultOf 74 = .ok (.istore_n 2, 1) := dk_61 (dk_at dksX1_faultOf_3 3 rfl rfl)
theorem dX1_faultOf_75 : decode cX1_faultOf 75 = .ok (.iload_n 2, 1) := dk_28 (dk_at dksX1_faultOf_3 4 rfl rfl)
theorem dX1_faultOf_76 : decode cX1_faultOf 76 = .ok (.ifCond .eq (-37), 3) := dk_153 255 219 (dk_at dksX1_faultOf_3 5 rfl rfl)
theorem dX1_faultOf_79 : decode cX1_faultOf 79 = .ok (.aload_n 0, 1) := dk_42 (dk_at dksX1_faultOf_3 8 rfl rfl)
theorem dX1_faultOf_80 : decode cX1_faultOf 80 = .ok (.invokevirtual 134, 3) := dk_182 0 134 (dk_at dksX1_faultOf_3 9 rfl rfl)
theorem dX1_faultOf_83 : decode cX1_faultOf 83 = .ok (.goto (-44), 3) := dk_167 255 212 (dk_at dksX1_faultOf_3 12 rfl rfl)
theorem dX1_faultOf_86 : decode cX1_faultOf 86 = .ok (.iload_n 2, 1) := dk_28 (dk_at dksX1_faultOf_3 15 rfl rfl)
theorem dX1_faultOf_87 : decode cX1_faultOf 87 = .ok (.ifCond .eq 15, 3) := dk_153 0 15 (dk_at dksX1_faultOf_3 16 rfl rfl)
theorem dX1_faultOf_90 : decode cX1_faultOf 90 = .ok (.aload_n 0, 1) := dk_42 (dk_at dksX1_faultOf_3 19 rfl rfl)
theorem dX1_faultOf_91 : decode cX1_faultOf 91 = .ok (.getfield 119, 3) := dk_180 0 119 (dk_at dksX1_faultOf_3 20 rfl rfl)
theorem dX1_faultOf_94 : decode cX1_faultOf 94 = .ok (.ifCond .le 8, 3) := dk_158 0 8 (dk_at dksX1_faultOf_4 0 rfl rfl)
theorem dX1_faultOf_97 : decode cX1_faultOf 97 = .ok (.bipush (-9), 2) := dk_16 247 (dk_at dksX1_faultOf_4 3 rfl rfl)
theorem dX1_faultOf_99 : decode cX1_faultOf 99 = .ok (.goto 7, 3) := dk_167 0 7 (dk_at dksX1_faultOf_4 5 rfl rfl)
theorem dX1_faultOf_102 : decode cX1_faultOf 102 = .ok (.aload_n 0, 1) := dk_42 (dk_at dksX1_faultOf_4 8 rfl rfl)
theorem dX1_faultOf_103 : decode cX1_faultOf 103 = .ok (.getfield 107, 3) := dk_180 0 107 (dk_at dksX1_faultOf_4 9 rfl rfl)
theorem dX1_faultOf_106 : decode cX1_faultOf 106 = .ok (.ireturn, 1) := dk_172 (dk_at dksX1_faultOf_4 12 rfl rfl)
abbrev cX1_skip : ByteArray := prog_10_method_22_code
def yX1_skip : MethodName := ⟨RX1, "skip", "()V"⟩
def dkwX1_skip_1 : List UInt8 := [180, 0, 107, 4, 96, 181, 0, 107, 167, 255, 226, 177]
abbrev dktX1_skip_1 : List UInt8 := dkwX1_skip_1 ++ []
def dkwX1_skip_0 : List UInt8 := [42, 180, 0, 107, 42, 180, 0, 110, 162, 0, 25, 42, 182, 0, 113, 16, 32, 160, 0, 16, 42, 89]
abbrev dktX1_skip_0 : List UInt8 := dkwX1_skip_0 ++ dktX1_skip_1
theorem dksX1_skip_0 : cX1_skip.data.toList.drop 0 = dktX1_skip_0 := by decide +kernel
theorem dksX1_skip_1 : cX1_skip.data.toList.drop 22 = dktX1_skip_1 := dk_seg dksX1_skip_0 22 rfl rfl
theorem dX1_skip_0 : decode cX1_skip 0 = .ok (.aload_n 0, 1) := dk_42 (dk_at dksX1_skip_0 0 rfl rfl)
theorem dX1_skip_1 : decode cX1_skip 1 = .ok (.getfield 107, 3) := dk_180 0 107 (dk_at dksX1_skip_0 1 rfl rfl)
theorem dX1_skip_4 : decode cX1_skip 4 = .ok (.aload_n 0, 1) := dk_42 (dk_at dksX1_skip_0 4 rfl rfl)
theorem dX1_skip_5 : decode cX1_skip 5 = .ok (.getfield 110, 3) := dk_180 0 110 (dk_at dksX1_skip_0 5 rfl rfl)
theorem dX1_skip_8 : decode cX1_skip 8 = .ok (.if_icmp .ge 25, 3) := dk_162 0 25 (dk_at dksX1_skip_0 8 rfl rfl)
theorem dX1_skip_11 : decode cX1_skip 11 = .ok (.aload_n 0, 1) := dk_42 (dk_at dksX1_skip_0 11 rfl rfl)
theorem dX1_skip_12 : decode cX1_skip 12 = .ok (.invokevirtual 113, 3) := dk_182 0 113 (dk_at dksX1_skip_0 12 rfl rfl)
theorem dX1_skip_15 : decode cX1_skip 15 = .ok (.bipush 32, 2) := dk_16 32 (dk_at dksX1_skip_0 15 rfl rfl)
theorem dX1_skip_17 : decode cX1_skip 17 = .ok (.if_icmp .ne 16, 3) := dk_160 0 16 (dk_at dksX1_skip_0 17 rfl rfl)
theorem dX1_skip_20 : decode cX1_skip 20 = .ok (.aload_n 0, 1) := dk_42 (dk_at dksX1_skip_0 20 rfl rfl)
theorem dX1_skip_21 : decode cX1_skip 21 = .ok (.dup, 1) := dk_89 (dk_at dksX1_skip_0 21 rfl rfl)
theorem dX1_skip_22 : decode cX1_skip 22 = .ok (.getfield 107, 3) := dk_180 0 107 (dk_at dksX1_skip_1 0 rfl rfl)
theorem dX1_skip_25 : decode cX1_skip 25 = .ok (.iconst 1, 1) := dk_4 (dk_at dksX1_skip_1 3 rfl rfl)
theorem dX1_skip_26 : decode cX1_skip 26 = .ok (.iadd, 1) := dk_96 (dk_at dksX1_skip_1 4 rfl rfl)
theorem dX1_skip_27 : decode cX1_skip 27 = .ok (.putfield 107, 3) := dk_181 0 107 (dk_at dksX1_skip_1 5 rfl rfl)
theorem dX1_skip_30 : decode cX1_skip 30 = .ok (.goto (-30), 3) := dk_167 255 226 (dk_at dksX1_skip_1 8 rfl rfl)
theorem dX1_skip_33 : decode cX1_skip 33 = .ok (.return_, 1) := dk_177 (dk_at dksX1_skip_1 11 rfl rfl)
abbrev cX1_here : ByteArray := prog_10_method_21_code
def yX1_here : MethodName := ⟨RX1, "here", "()I"⟩
def dkwX1_here_0 : List UInt8 := [42, 180, 0, 34, 42, 180, 0, 104, 42, 180, 0, 107, 96, 46, 172]
abbrev dktX1_here_0 : List UInt8 := dkwX1_here_0 ++ []
theorem dksX1_here_0 : cX1_here.data.toList.drop 0 = dktX1_here_0 := by decide +kernel
theorem dX1_here_0 : decode cX1_here 0 = .ok (.aload_n 0, 1) := dk_42 (dk_at dksX1_here_0 0 rfl rfl)
theorem dX1_here_1 : decode cX1_here 1 = .ok (.getfield 34, 3) := dk_180 0 34 (dk_at dksX1_here_0 1 rfl rfl)
theorem dX1_here_4 : decode cX1_here 4 = .ok (.aload_n 0, 1) := dk_42 (dk_at dksX1_here_0 4 rfl rfl)
theorem dX1_here_5 : decode cX1_here 5 = .ok (.getfield 104, 3) := dk_180 0 104 (dk_at dksX1_here_0 5 rfl rfl)
theorem dX1_here_8 : decode cX1_here 8 = .ok (.aload_n 0, 1) := dk_42 (dk_at dksX1_here_0 8 rfl rfl)
theorem dX1_here_9 : decode cX1_here 9 = .ok (.getfield 107, 3) := dk_180 0 107 (dk_at dksX1_here_0 9 rfl rfl)
theorem dX1_here_12 : decode cX1_here 12 = .ok (.iadd, 1) := dk_96 (dk_at dksX1_here_0 12 rfl rfl)
theorem dX1_here_13 : decode cX1_here 13 = .ok (.iaload, 1) := dk_46 (dk_at dksX1_here_0 13 rfl rfl)
theorem dX1_here_14 : decode cX1_here 14 = .ok (.ireturn, 1) := dk_172 (dk_at dksX1_here_0 14 rfl rfl)
abbrev cX1_readsThing : ByteArray := prog_10_method_25_code
def yX1_readsThing : MethodName := ⟨RX1, "readsThing", "()Z"⟩
def dkwX1_readsThing_3 : List UInt8 := [27, 96, 28, 79, 132, 1, 1, 167, 255, 208, 42, 89, 180, 0, 119, 4, 96, 181, 0, 119, 4, 172]
abbrev dktX1_readsThing_3 : List UInt8 := dkwX1_readsThing_3 ++ []
def dkwX1_readsThing_2 : List UInt8 := [16, 247, 182, 0, 125, 61, 28, 16, 247, 160, 0, 5, 3, 172, 42, 180, 0, 44, 8, 42, 180, 0, 119, 104]
abbrev dktX1_readsThing_2 : List UInt8 := dkwX1_readsThing_2 ++ dktX1_readsThing_3
def dkwX1_readsThing_1 : List UInt8 := [96, 181, 0, 107, 3, 60, 27, 8, 162, 0, 49, 42, 27, 7, 162, 0, 7, 6, 167, 0, 5, 16, 9]
abbrev dktX1_readsThing_1 : List UInt8 := dkwX1_readsThing_1 ++ dktX1_readsThing_2
def dkwX1_readsThing_0 : List UInt8 := [42, 180, 0, 119, 16, 6, 159, 0, 10, 42, 180, 0, 122, 158, 0, 5, 3, 172, 42, 89, 180, 0, 107, 4]
abbrev dktX1_readsThing_0 : List UInt8 := dkwX1_readsThing_0 ++ dktX1_readsThing_1
theorem dksX1_readsThing_0 : cX1_readsThing.data.toList.drop 0 = dktX1_readsThing_0 := by decide +kernel
theorem dksX1_readsThing_1 : cX1_readsThing.data.toList.drop 24 = dktX1_readsThing_1 := dk_seg dksX1_readsThing_0 24 rfl rfl
theorem dksX1_readsThing_2 : cX1_readsThing.data.toList.drop 47 = dktX1_readsThing_2 := dk_seg dksX1_readsThing_1 23 rfl rfl
theorem dksX1_readsThing_3 : cX1_readsThing.data.toList.drop 71 = dktX1_readsThing_3 := dk_seg dksX1_readsThing_2 24 rfl rfl
theorem dX1_readsThing_0 : decode cX1_readsThing 0 = .ok (.aload_n 0, 1) := dk_42 (dk_at dksX1_readsThing_0 0 rfl rfl)
theorem dX1_readsThing_1 : decode cX1_readsThing 1 = .ok (.getfield 119, 3) := dk_180 0 119 (dk_at dksX1_readsThing_0 1 rfl rfl)
theorem dX1_readsThing_4 : decode cX1_readsThing 4 = .ok (.bipush 6, 2) := dk_16 6 (dk_at dksX1_readsThing_0 4 rfl rfl)
theorem dX1_readsThing_6 : decode cX1_readsThing 6 = .ok (.if_icmp .eq 10, 3) := dk_159 0 10 (dk_at dksX1_readsThing_0 6 rfl rfl)
theorem dX1_readsThing_9 : decode cX1_readsThing 9 = .ok (.aload_n 0, 1) := dk_42 (dk_at dksX1_readsThing_0 9 rfl rfl)
theorem dX1_readsThing_10 : decode cX1_readsThing 10 = .ok (.getfield 122, 3) := dk_180 0 122 (dk_at dksX1_readsThing_0 10 rfl rfl)
theorem dX1_readsThing_13 : decode cX1_readsThing 13 = .ok (.ifCond .le 5, 3) := dk_158 0 5 (dk_at dksX1_readsThing_0 13 rfl rfl)
theorem dX1_readsThing_16 : decode cX1_readsThing 16 = .ok (.iconst 0, 1) := dk_3 (dk_at dksX1_readsThing_0 16 rfl rfl)
theorem dX1_readsThing_17 : decode cX1_readsThing 17 = .ok (.ireturn, 1) := dk_172 (dk_at dksX1_readsThing_0 17 rfl rfl)
theorem dX1_readsThing_18 : decode cX1_readsThing 18 = .ok (.aload_n 0, 1) := dk_42 (dk_at dksX1_readsThing_0 18 rfl rfl)
theorem dX1_readsThing_19 : decode cX1_readsThing 19 = .ok (.dup, 1) := dk_89 (dk_at dksX1_readsThing_0 19 rfl rfl)
theorem dX1_readsThing_20 : decode cX1_readsThing 20 = .ok (.getfield 107, 3) := dk_180 0 107 (dk_at dksX1_readsThing_0 20 rfl rfl)
theorem dX1_readsThing_23 : decode cX1_readsThing 23 = .ok (.iconst 1, 1) := dk_4 (dk_at dksX1_readsThing_0 23 rfl rfl)
theorem dX1_readsThing_24 : decode cX1_readsThing 24 = .ok (.iadd, 1) := dk_96 (dk_at dksX1_readsThing_1 0 rfl rfl)
theorem dX1_readsThing_25 : decode cX1_readsThing 25 = .ok (.putfield 107, 3) := dk_181 0 107 (dk_at dksX1_readsThing_1 1 rfl rfl)
theorem dX1_readsThing_28 : decode cX1_readsThing 28 = .ok (.iconst 0, 1) := dk_3 (dk_at dksX1_readsThing_1 4 rfl rfl)
theorem dX1_readsThing_29 : decode cX1_readsThing 29 = .ok (.istore_n 1, 1) := dk_60 (dk_at dksX1_readsThing_1 5 rfl rfl)
theorem dX1_readsThing_30 : decode cX1_readsThing 30 = .ok (.iload_n 1, 1) := dk_27 (dk_at dksX1_readsThing_1 6 rfl rfl)
theorem dX1_readsThing_31 : decode cX1_readsThing 31 = .ok (.iconst 5, 1) := dk_8 (dk_at dksX1_readsThing_1 7 rfl rfl)
theorem dX1_readsThing_32 : decode cX1_readsThing 32 = .ok (.if_icmp .ge 49, 3) := dk_162 0 49 (dk_at dksX1_readsThing_1 8 rfl rfl)
theorem dX1_readsThing_35 : decode cX1_readsThing 35 = .ok (.aload_n 0, 1) := dk_42 (dk_at dksX1_readsThing_1 11 rfl rfl)
theorem dX1_readsThing_36 : decode cX1_readsThing 36 = .ok (.iload_n 1, 1) := dk_27 (dk_at dksX1_readsThing_1 12 rfl rfl)
theorem dX1_readsThing_37 : decode cX1_readsThing 37 = .ok (.iconst 4, 1) := dk_7 (dk_at dksX1_readsThing_1 13 rfl rfl)
theorem dX1_readsThing_38 : decode cX1_readsThing 38 = .ok (.if_icmp .ge 7, 3) := dk_162 0 7 (dk_at dksX1_readsThing_1 14 rfl rfl)
theorem dX1_readsThing_41 : decode cX1_readsThing 41 = .ok (.iconst 3, 1) := dk_6 (dk_at dksX1_readsThing_1 17 rfl rfl)
theorem dX1_readsThing_42 : decode cX1_readsThing 42 = .ok (.goto 5, 3) := dk_167 0 5 (dk_at dksX1_readsThing_1 18 rfl rfl)
theorem dX1_readsThing_45 : decode cX1_readsThing 45 = .ok (.bipush 9, 2) := dk_16 9 (dk_at dksX1_readsThing_1 21 rfl rfl)
theorem dX1_readsThing_47 : decode cX1_readsThing 47 = .ok (.bipush (-9), 2) := dk_16 247 (dk_at dksX1_readsThing_2 0 rfl rfl)
theorem dX1_readsThing_49 : decode cX1_readsThing 49 = .ok (.invokevirtual 125, 3) := dk_182 0 125 (dk_at dksX1_readsThing_2 2 rfl rfl)
theorem dX1_readsThing_52 : decode cX1_readsThing 52 = .ok (.istore_n 2, 1) := dk_61 (dk_at dksX1_readsThing_2 5 rfl rfl)
theorem dX1_readsThing_53 : decode cX1_readsThing 53 = .ok (.iload_n 2, 1) := dk_28 (dk_at dksX1_readsThing_2 6 rfl rfl)
theorem dX1_readsThing_54 : decode cX1_readsThing 54 = .ok (.bipush (-9), 2) := dk_16 247 (dk_at dksX1_readsThing_2 7 rfl rfl)
theorem dX1_readsThing_56 : decode cX1_readsThing 56 = .ok (.if_icmp .ne 5, 3) := dk_160 0 5 (dk_at dksX1_readsThing_2 9 rfl rfl)
theorem dX1_readsThing_59 : decode cX1_readsThing 59 = .ok (.iconst 0, 1) := dk_3 (dk_at dksX1_readsThing_2 12 rfl rfl)
theorem dX1_readsThing_60 : decode cX1_readsThing 60 = .ok (.ireturn, 1) := dk_172 (dk_at dksX1_readsThing_2 13 rfl rfl)
theorem dX1_readsThing_61 : decode cX1_readsThing 61 = .ok (.aload_n 0, 1) := dk_42 (dk_at dksX1_readsThing_2 14 rfl rfl)
theorem dX1_readsThing_62 : decode cX1_readsThing 62 = .ok (.getfield 44, 3) := dk_180 0 44 (dk_at dksX1_readsThing_2 15 rfl rfl)
theorem dX1_readsThing_65 : decode cX1_readsThing 65 = .ok (.iconst 5, 1) := dk_8 (dk_at dksX1_readsThing_2 18 rfl rfl)
theorem dX1_readsThing_66 : decode cX1_readsThing 66 = .ok (.aload_n 0, 1) := dk_42 (dk_at dksX1_readsThing_2 19 rfl rfl)
theorem dX1_readsThing_67 : decode cX1_readsThing 67 = .ok (.getfield 119, 3) := dk_180 0 119 (dk_at dksX1_readsThing_2 20 rfl rfl)
theorem dX1_readsThing_70 : decode cX1_readsThing 70 = .ok (.imul, 1) := dk_104 (dk_at dksX1_readsThing_2 23 rfl rfl)
theorem dX1_readsThing_71 : decode cX1_readsThing 71 = .ok (.iload_n 1, 1) := dk_27 (dk_at dksX1_readsThing_3 0 rfl rfl)
theorem dX1_readsThing_72 : decode cX1_readsThing 72 = .ok (.iadd, 1) := dk_96 (dk_at dksX1_readsThing_3 1 rfl rfl)
theorem dX1_readsThing_73 : decode cX1_readsThing 73 = .ok (.iload_n 2, 1) := dk_28 (dk_at dksX1_readsThing_3 2 rfl rfl)
theorem dX1_readsThing_74 : decode cX1_readsThing 74 = .ok (.iastore, 1) := dk_79 (dk_at dksX1_readsThing_3 3 rfl rfl)
theorem dX1_readsThing_75 : decode cX1_readsThing 75 = .ok (.iinc 1 1, 3) := dk_132 1 1 (dk_at dksX1_readsThing_3 4 rfl rfl)
theorem dX1_readsThing_78 : decode cX1_readsThing 78 = .ok (.goto (-48), 3) := dk_167 255 208 (dk_at dksX1_readsThing_3 7 rfl rfl)
theorem dX1_readsThing_81 : decode cX1_readsThing 81 = .ok (.aload_n 0, 1) := dk_42 (dk_at dksX1_readsThing_3 10 rfl rfl)
theorem dX1_readsThing_82 : decode cX1_readsThing 82 = .ok (.dup, 1) := dk_89 (dk_at dksX1_readsThing_3 11 rfl rfl)
theorem dX1_readsThing_83 : decode cX1_readsThing 83 = .ok (.getfield 119, 3) := dk_180 0 119 (dk_at dksX1_readsThing_3 12 rfl rfl)
theorem dX1_readsThing_86 : decode cX1_readsThing 86 = .ok (.iconst 1, 1) := dk_4 (dk_at dksX1_readsThing_3 15 rfl rfl)
theorem dX1_readsThing_87 : decode cX1_readsThing 87 = .ok (.iadd, 1) := dk_96 (dk_at dksX1_readsThing_3 16 rfl rfl)
theorem dX1_readsThing_88 : decode cX1_readsThing 88 = .ok (.putfield 119, 3) := dk_181 0 119 (dk_at dksX1_readsThing_3 17 rfl rfl)
theorem dX1_readsThing_91 : decode cX1_readsThing 91 = .ok (.iconst 1, 1) := dk_4 (dk_at dksX1_readsThing_3 20 rfl rfl)
theorem dX1_readsThing_92 : decode cX1_readsThing 92 = .ok (.ireturn, 1) := dk_172 (dk_at dksX1_readsThing_3 21 rfl rfl)
abbrev cX1_figure : ByteArray := prog_10_method_23_code
def yX1_figure : MethodName := ⟨RX1, "figure", "(II)I"⟩
def dkwX1_figure_3 : List UInt8 := [16, 48, 100, 172]
abbrev dktX1_figure_3 : List UInt8 := dkwX1_figure_3 ++ []
def dkwX1_figure_2 : List UInt8 := [180, 0, 107, 4, 96, 181, 0, 107, 42, 180, 0, 34, 42, 180, 0, 104, 42, 180, 0, 107, 96, 4, 100, 46]
abbrev dktX1_figure_2 : List UInt8 := dkwX1_figure_2 ++ dktX1_figure_3
def dkwX1_figure_1 : List UInt8 := [184, 0, 72, 153, 0, 14, 42, 182, 0, 113, 16, 48, 100, 28, 160, 0, 6, 16, 247, 172, 42, 89]
abbrev dktX1_figure_1 : List UInt8 := dkwX1_figure_1 ++ dktX1_figure_2
def dkwX1_figure_0 : List UInt8 := [42, 180, 0, 107, 42, 180, 0, 110, 159, 0, 33, 42, 182, 0, 113, 133, 20, 0, 117, 16, 48, 27, 96, 133]
abbrev dktX1_figure_0 : List UInt8 := dkwX1_figure_0 ++ dktX1_figure_1
theorem dksX1_figure_0 : cX1_figure.data.toList.drop 0 = dktX1_figure_0 := by decide +kernel
theorem dksX1_figure_1 : cX1_figure.data.toList.drop 24 = dktX1_figure_1 := dk_seg dksX1_figure_0 24 rfl rfl
theorem dksX1_figure_2 : cX1_figure.data.toList.drop 46 = dktX1_figure_2 := dk_seg dksX1_figure_1 22 rfl rfl
theorem dksX1_figure_3 : cX1_figure.data.toList.drop 70 = dktX1_figure_3 := dk_seg dksX1_figure_2 24 rfl rfl
theorem dX1_figure_0 : decode cX1_figure 0 = .ok (.aload_n 0, 1) := dk_42 (dk_at dksX1_figure_0 0 rfl rfl)
theorem dX1_figure_1 : decode cX1_figure 1 = .ok (.getfield 107, 3) := dk_180 0 107 (dk_at dksX1_figure_0 1 rfl rfl)
theorem dX1_figure_4 : decode cX1_figure 4 = .ok (.aload_n 0, 1) := dk_42 (dk_at dksX1_figure_0 4 rfl rfl)
theorem dX1_figure_5 : decode cX1_figure 5 = .ok (.getfield 110, 3) := dk_180 0 110 (dk_at dksX1_figure_0 5 rfl rfl)
theorem dX1_figure_8 : decode cX1_figure 8 = .ok (.if_icmp .eq 33, 3) := dk_159 0 33 (dk_at dksX1_figure_0 8 rfl rfl)
theorem dX1_figure_11 : decode cX1_figure 11 = .ok (.aload_n 0, 1) := dk_42 (dk_at dksX1_figure_0 11 rfl rfl)
theorem dX1_figure_12 : decode cX1_figure 12 = .ok (.invokevirtual 113, 3) := dk_182 0 113 (dk_at dksX1_figure_0 12 rfl rfl)
theorem dX1_figure_15 : decode cX1_figure 15 = .ok (.i2l, 1) := dk_133 (dk_at dksX1_figure_0 15 rfl rfl)
theorem dX1_figure_16 : decode cX1_figure 16 = .ok (.ldc2_w 117, 3) := dk_20 0 117 (dk_at dksX1_figure_0 16 rfl rfl)
theorem dX1_figure_19 : decode cX1_figure 19 = .ok (.bipush 48, 2) := dk_16 48 (dk_at dksX1_figure_0 19 rfl rfl)
theorem dX1_figure_21 : decode cX1_figure 21 = .ok (.iload_n 1, 1) := dk_27 (dk_at dksX1_figure_0 21 rfl rfl)
theorem dX1_figure_22 : decode cX1_figure 22 = .ok (.iadd, 1) := dk_96 (dk_at dksX1_figure_0 22 rfl rfl)
theorem dX1_figure_23 : decode cX1_figure 23 = .ok (.i2l, 1) := dk_133 (dk_at dksX1_figure_0 23 rfl rfl)
theorem dX1_figure_24 : decode cX1_figure 24 = .ok (.invokestatic 72, 3) := dk_184 0 72 (dk_at dksX1_figure_1 0 rfl rfl)
theorem dX1_figure_27 : decode cX1_figure 27 = .ok (.ifCond .eq 14, 3) := dk_153 0 14 (dk_at dksX1_figure_1 3 rfl rfl)
theorem dX1_figure_30 : decode cX1_figure 30 = .ok (.aload_n 0, 1) := dk_42 (dk_at dksX1_figure_1 6 rfl rfl)
theorem dX1_figure_31 : decode cX1_figure 31 = .ok (.invokevirtual 113, 3) := dk_182 0 113 (dk_at dksX1_figure_1 7 rfl rfl)
theorem dX1_figure_34 : decode cX1_figure 34 = .ok (.bipush 48, 2) := dk_16 48 (dk_at dksX1_figure_1 10 rfl rfl)
theorem dX1_figure_36 : decode cX1_figure 36 = .ok (.isub, 1) := dk_100 (dk_at dksX1_figure_1 12 rfl rfl)
theorem dX1_figure_37 : decode cX1_figure 37 = .ok (.iload_n 2, 1) := dk_28 (dk_at dksX1_figure_1 13 rfl rfl)
theorem dX1_figure_38 : decode cX1_figure 38 = .ok (.if_icmp .ne 6, 3) := dk_160 0 6 (dk_at dksX1_figure_1 14 rfl rfl)
theorem dX1_figure_41 : decode cX1_figure 41 = .ok (.bipush (-9), 2) := dk_16 247 (dk_at dksX1_figure_1 17 rfl rfl)
theorem dX1_figure_43 : decode cX1_figure 43 = .ok (.ireturn, 1) := dk_172 (dk_at dksX1_figure_1 19 rfl rfl)
theorem dX1_figure_44 : decode cX1_figure 44 = .ok (.aload_n 0, 1) := dk_42 (dk_at dksX1_figure_1 20 rfl rfl)
theorem dX1_figure_45 : decode cX1_figure 45 = .ok (.dup, 1) := dk_89 (dk_at dksX1_figure_1 21 rfl rfl)
theorem dX1_figure_46 : decode cX1_figure 46 = .ok (.getfield 107, 3) := dk_180 0 107 (dk_at dksX1_figure_2 0 rfl rfl)
theorem dX1_figure_49 : decode cX1_figure 49 = .ok (.iconst 1, 1) := dk_4 (dk_at dksX1_figure_2 3 rfl rfl)
theorem dX1_figure_50 : decode cX1_figure 50 = .ok (.iadd, 1) := dk_96 (dk_at dksX1_figure_2 4 rfl rfl)
theorem dX1_figure_51 : decode cX1_figure 51 = .ok (.putfield 107, 3) := dk_181 0 107 (dk_at dksX1_figure_2 5 rfl rfl)
theorem dX1_figure_54 : decode cX1_figure 54 = .ok (.aload_n 0, 1) := dk_42 (dk_at dksX1_figure_2 8 rfl rfl)
theorem dX1_figure_55 : decode cX1_figure 55 = .ok (.getfield 34, 3) := dk_180 0 34 (dk_at dksX1_figure_2 9 rfl rfl)
theorem dX1_figure_58 : decode cX1_figure 58 = .ok (.aload_n 0, 1) := dk_42 (dk_at dksX1_figure_2 12 rfl rfl)
theorem dX1_figure_59 : decode cX1_figure 59 = .ok (.getfield 104, 3) := dk_180 0 104 (dk_at dksX1_figure_2 13 rfl rfl)
theorem dX1_figure_62 : decode cX1_figure 62 = .ok (.aload_n 0, 1) := dk_42 (dk_at dksX1_figure_2 16 rfl rfl)
theorem dX1_figure_63 : decode cX1_figure 63 = .ok (.getfield 107, 3) := dk_180 0 107 (dk_at dksX1_figure_2 17 rfl rfl)
theorem dX1_figure_66 : decode cX1_figure 66 = .ok (.iadd, 1) := dk_96 (dk_at dksX1_figure_2 20 rfl rfl)
theorem dX1_figure_67 : decode cX1_figure 67 = .ok (.iconst 1, 1) := dk_4 (dk_at dksX1_figure_2 21 rfl rfl)
theorem dX1_figure_68 : decode cX1_figure 68 = .ok (.isub, 1) := dk_100 (dk_at dksX1_figure_2 22 rfl rfl)
theorem dX1_figure_69 : decode cX1_figure 69 = .ok (.iaload, 1) := dk_46 (dk_at dksX1_figure_2 23 rfl rfl)
theorem dX1_figure_70 : decode cX1_figure 70 = .ok (.bipush 48, 2) := dk_16 48 (dk_at dksX1_figure_3 0 rfl rfl)
theorem dX1_figure_72 : decode cX1_figure 72 = .ok (.isub, 1) := dk_100 (dk_at dksX1_figure_3 2 rfl rfl)
theorem dX1_figure_73 : decode cX1_figure 73 = .ok (.ireturn, 1) := dk_172 (dk_at dksX1_figure_3 3 rfl rfl)
abbrev cX1_readsClause : ByteArray := prog_10_method_27_code
def yX1_readsClause : MethodName := ⟨RX1, "readsClause", "()Z"⟩
def dkwX1_readsClause_6 : List UInt8 := [181, 0, 122, 4, 172]
abbrev dktX1_readsClause_6 : List UInt8 := dkwX1_readsClause_6 ++ []
def dkwX1_readsClause_5 : List UInt8 := [28, 79, 42, 180, 0, 47, 6, 42, 180, 0, 122, 104, 5, 96, 29, 79, 42, 89, 180, 0, 122, 4, 96]
abbrev dktX1_readsClause_5 : List UInt8 := dkwX1_readsClause_5 ++ dktX1_readsClause_6
def dkwX1_readsClause_4 : List UInt8 := [42, 180, 0, 47, 6, 42, 180, 0, 122, 104, 27, 79, 42, 180, 0, 47, 6, 42, 180, 0, 122, 104, 4, 96]
abbrev dktX1_readsClause_4 : List UInt8 := dkwX1_readsClause_4 ++ dktX1_readsClause_5
def dkwX1_readsClause_3 : List UInt8 := [182, 0, 125, 167, 0, 5, 16, 247, 62, 27, 184, 0, 131, 153, 0, 11, 29, 16, 247, 160, 0, 5, 3, 172]
abbrev dktX1_readsClause_3 : List UInt8 := dkwX1_readsClause_3 ++ dktX1_readsClause_4
def dkwX1_readsClause_2 : List UInt8 := [182, 0, 125, 61, 28, 16, 247, 160, 0, 5, 3, 172, 27, 184, 0, 131, 153, 0, 12, 42, 6, 28]
abbrev dktX1_readsClause_2 : List UInt8 := dkwX1_readsClause_2 ++ dktX1_readsClause_3
def dkwX1_readsClause_1 : List UInt8 := [180, 0, 122, 16, 8, 160, 0, 5, 3, 172, 42, 89, 180, 0, 107, 4, 96, 181, 0, 107, 42, 6, 16, 247]
abbrev dktX1_readsClause_1 : List UInt8 := dkwX1_readsClause_1 ++ dktX1_readsClause_2
def dkwX1_readsClause_0 : List UInt8 := [42, 182, 0, 113, 184, 0, 128, 60, 27, 16, 247, 159, 0, 19, 42, 180, 0, 119, 153, 0, 12, 42]
abbrev dktX1_readsClause_0 : List UInt8 := dkwX1_readsClause_0 ++ dktX1_readsClause_1
theorem dksX1_readsClause_0 : cX1_readsClause.data.toList.drop 0 = dktX1_readsClause_0 := by decide +kernel
theorem dksX1_readsClause_1 : cX1_readsClause.data.toList.drop 22 = dktX1_readsClause_1 := dk_seg dksX1_readsClause_0 22 rfl rfl
theorem dksX1_readsClause_2 : cX1_readsClause.data.toList.drop 46 = dktX1_readsClause_2 := dk_seg dksX1_readsClause_1 24 rfl rfl
theorem dksX1_readsClause_3 : cX1_readsClause.data.toList.drop 68 = dktX1_readsClause_3 := dk_seg dksX1_readsClause_2 22 rfl rfl
theorem dksX1_readsClause_4 : cX1_readsClause.data.toList.drop 92 = dktX1_readsClause_4 := dk_seg dksX1_readsClause_3 24 rfl rfl
theorem dksX1_readsClause_5 : cX1_readsClause.data.toList.drop 116 = dktX1_readsClause_5 := dk_seg dksX1_readsClause_4 24 rfl rfl
theorem dksX1_readsClause_6 : cX1_readsClause.data.toList.drop 139 = dktX1_readsClause_6 := dk_seg dksX1_readsClause_5 23 rfl rfl
theorem dX1_readsClause_0 : decode cX1_readsClause 0 = .ok (.aload_n 0, 1) := dk_42 (dk_at dksX1_readsClause_0 0 rfl rfl)
theorem dX1_readsClause_1 : decode cX1_readsClause 1 = .ok (.invokevirtual 113, 3) := dk_182 0 113 (dk_at dksX1_readsClause_0 1 rfl rfl)
theorem dX1_readsClause_4 : decode cX1_readsClause 4 = .ok (.invokestatic 128, 3) := dk_184 0 128 (dk_at dksX1_readsClause_0 4 rfl rfl)
theorem dX1_readsClause_7 : decode cX1_readsClause 7 = .ok (.istore_n 1, 1) := dk_60 (dk_at dksX1_readsClause_0 7 rfl rfl)
theorem dX1_readsClause_8 : decode cX1_readsClause 8 = .ok (.iload_n 1, 1) := dk_27 (dk_at dksX1_readsClause_0 8 rfl rfl)
theorem dX1_readsClause_9 : decode cX1_readsClause 9 = .ok (.bipush (-9), 2) := dk_16 247 (dk_at dksX1_readsClause_0 9 rfl rfl)
theorem dX1_readsClause_11 : decode cX1_readsClause 11 = .ok (.if_icmp .eq 19, 3) := dk_159 0 19 (dk_at dksX1_readsClause_0 11 rfl rfl)
theorem dX1_readsClause_14 : decode cX1_readsClause 14 = .ok (.aload_n 0, 1) := dk_42 (dk_at dksX1_readsClause_0 14 rfl rfl)
theorem dX1_readsClause_15 : decode cX1_readsClause 15 = .ok (.getfield 119, 3) := dk_180 0 119 (dk_at dksX1_readsClause_0 15 rfl rfl)
theorem dX1_readsClause_18 : decode cX1_readsClause 18 = .ok (.ifCond .eq 12, 3) := dk_153 0 12 (dk_at dksX1_readsClause_0 18 rfl rfl)
theorem dX1_readsClause_21 : decode cX1_readsClause 21 = .ok (.aload_n 0, 1) := dk_42 (dk_at dksX1_readsClause_0 21 rfl rfl)
theorem dX1_readsClause_22 : decode cX1_readsClause 22 = .ok (.getfield 122, 3) := dk_180 0 122 (dk_at dksX1_readsClause_1 0 rfl rfl)
theorem dX1_readsClause_25 : decode cX1_readsClause 25 = .ok (.bipush 8, 2) := dk_16 8 (dk_at dksX1_readsClause_1 3 rfl rfl)
theorem dX1_readsClause_27 : decode cX1_readsClause 27 = .ok (.if_icmp .ne 5, 3) := dk_160 0 5 (dk_at dksX1_readsClause_1 5 rfl rfl)
theorem dX1_readsClause_30 : decode cX1_readsClause 30 = .ok (.iconst 0, 1) := dk_3 (dk_at dksX1_readsClause_1 8 rfl rfl)
theorem dX1_readsClause_31 : decode cX1_readsClause 31 = .ok (.ireturn, 1) := dk_172 (dk_at dksX1_readsClause_1 9 rfl rfl)
theorem dX1_readsClause_32 : decode cX1_readsClause 32 = .ok (.aload_n 0, 1) := dk_42 (dk_at dksX1_readsClause_1 10 rfl rfl)
theorem dX1_readsClause_33 : decode cX1_readsClause 33 = .ok (.dup, 1) := dk_89 (dk_at dksX1_readsClause_1 11 rfl rfl)
theorem dX1_readsClause_34 : decode cX1_readsClause 34 = .ok (.getfield 107, 3) := dk_180 0 107 (dk_at dksX1_readsClause_1 12 rfl rfl)
theorem dX1_readsClause_37 : decode cX1_readsClause 37 = .ok (.iconst 1, 1) := dk_4 (dk_at dksX1_readsClause_1 15 rfl rfl)
theorem dX1_readsClause_38 : decode cX1_readsClause 38 = .ok (.iadd, 1) := dk_96 (dk_at dksX1_readsClause_1 16 rfl rfl)
theorem dX1_readsClause_39 : decode cX1_readsClause 39 = .ok (.putfield 107, 3) := dk_181 0 107 (dk_at dksX1_readsClause_1 17 rfl rfl)
theorem dX1_readsClause_42 : decode cX1_readsClause 42 = .ok (.aload_n 0, 1) := dk_42 (dk_at dksX1_readsClause_1 20 rfl rfl)
theorem dX1_readsClause_43 : decode cX1_readsClause 43 = .ok (.iconst 3, 1) := dk_6 (dk_at dksX1_readsClause_1 21 rfl rfl)
theorem dX1_readsClause_44 : decode cX1_readsClause 44 = .ok (.bipush (-9), 2) := dk_16 247 (dk_at dksX1_readsClause_1 22 rfl rfl)
theorem dX1_readsClause_46 : decode cX1_readsClause 46 = .ok (.invokevirtual 125, 3) := dk_182 0 125 (dk_at dksX1_readsClause_2 0 rfl rfl)
theorem dX1_readsClause_49 : decode cX1_readsClause 49 = .ok (.istore_n 2, 1) := dk_61 (dk_at dksX1_readsClause_2 3 rfl rfl)
theorem dX1_readsClause_50 : decode cX1_readsClause 50 = .ok (.iload_n 2, 1) := dk_28 (dk_at dksX1_readsClause_2 4 rfl rfl)
theorem dX1_readsClause_51 : decode cX1_readsClause 51 = .ok (.bipush (-9), 2) := dk_16 247 (dk_at dksX1_readsClause_2 5 rfl rfl)
theorem dX1_readsClause_53 : decode cX1_readsClause 53 = .ok (.if_icmp .ne 5, 3) := dk_160 0 5 (dk_at dksX1_readsClause_2 7 rfl rfl)
theorem dX1_readsClause_56 : decode cX1_readsClause 56 = .ok (.iconst 0, 1) := dk_3 (dk_at dksX1_readsClause_2 10 rfl rfl)
theorem dX1_readsClause_57 : decode cX1_readsClause 57 = .ok (.ireturn, 1) := dk_172 (dk_at dksX1_readsClause_2 11 rfl rfl)
theorem dX1_readsClause_58 : decode cX1_readsClause 58 = .ok (.iload_n 1, 1) := dk_27 (dk_at dksX1_readsClause_2 12 rfl rfl)
theorem dX1_readsClause_59 : decode cX1_readsClause 59 = .ok (.invokestatic 131, 3) := dk_184 0 131 (dk_at dksX1_readsClause_2 13 rfl rfl)
theorem dX1_readsClause_62 : decode cX1_readsClause 62 = .ok (.ifCond .eq 12, 3) := dk_153 0 12 (dk_at dksX1_readsClause_2 16 rfl rfl)
theorem dX1_readsClause_65 : decode cX1_readsClause 65 = .ok (.aload_n 0, 1) := dk_42 (dk_at dksX1_readsClause_2 19 rfl rfl)
theorem dX1_readsClause_66 : decode cX1_readsClause 66 = .ok (.iconst 3, 1) := dk_6 (dk_at dksX1_readsClause_2 20 rfl rfl)
theorem dX1_readsClause_67 : decode cX1_readsClause 67 = .ok (.iload_n 2, 1) := dk_28 (dk_at dksX1_readsClause_2 21 rfl rfl)
theorem dX1_readsClause_68 : decode cX1_readsClause 68 = .ok (.invokevirtual 125, 3) := dk_182 0 125 (dk_at dksX1_readsClause_3 0 rfl rfl)
theorem dX1_readsClause_71 : decode cX1_readsClause 71 = .ok (.goto 5, 3) := dk_167 0 5 (dk_at dksX1_readsClause_3 3 rfl rfl)
theorem dX1_readsClause_74 : decode cX1_readsClause 74 = .ok (.bipush (-9), 2) := dk_16 247 (dk_at dksX1_readsClause_3 6 rfl rfl)
theorem dX1_readsClause_76 : decode cX1_readsClause 76 = .ok (.istore_n 3, 1) := dk_62 (dk_at dksX1_readsClause_3 8 rfl rfl)
theorem dX1_readsClause_77 : decode cX1_readsClause 77 = .ok (.iload_n 1, 1) := dk_27 (dk_at dksX1_readsClause_3 9 rfl rfl)
theorem dX1_readsClause_78 : decode cX1_readsClause 78 = .ok (.invokestatic 131, 3) := dk_184 0 131 (dk_at dksX1_readsClause_3 10 rfl rfl)
theorem dX1_readsClause_81 : decode cX1_readsClause 81 = .ok (.ifCond .eq 11, 3) := dk_153 0 11 (dk_at dksX1_readsClause_3 13 rfl rfl)
theorem dX1_readsClause_84 : decode cX1_readsClause 84 = .ok (.iload_n 3, 1) := dk_29 (dk_at dksX1_readsClause_3 16 rfl rfl)
theorem dX1_readsClause_85 : decode cX1_readsClause 85 = .ok (.bipush (-9), 2) := dk_16 247 (dk_at dksX1_readsClause_3 17 rfl rfl)
theorem dX1_readsClause_87 : decode cX1_readsClause 87 = .ok (.if_icmp .ne 5, 3) := dk_160 0 5 (dk_at dksX1_readsClause_3 19 rfl rfl)
theorem dX1_readsClause_90 : decode cX1_readsClause 90 = .ok (.iconst 0, 1) := dk_3 (dk_at dksX1_readsClause_3 22 rfl rfl)
theorem dX1_readsClause_91 : decode cX1_readsClause 91 = .ok (.ireturn, 1) := dk_172 (dk_at dksX1_readsClause_3 23 rfl rfl)
theorem dX1_readsClause_92 : decode cX1_readsClause 92 = .ok (.aload_n 0, 1) := dk_42 (dk_at dksX1_readsClause_4 0 rfl rfl)
theorem dX1_readsClause_93 : decode cX1_readsClause 93 = .ok (.getfield 47, 3) := dk_180 0 47 (dk_at dksX1_readsClause_4 1 rfl rfl)
theorem dX1_readsClause_96 : decode cX1_readsClause 96 = .ok (.iconst 3, 1) := dk_6 (dk_at dksX1_readsClause_4 4 rfl rfl)
theorem dX1_readsClause_97 : decode cX1_readsClause 97 = .ok (.aload_n 0, 1) := dk_42 (dk_at dksX1_readsClause_4 5 rfl rfl)
theorem dX1_readsClause_98 : decode cX1_readsClause 98 = .ok (.getfield 122, 3) := dk_180 0 122 (dk_at dksX1_readsClause_4 6 rfl rfl)
theorem dX1_readsClause_101 : decode cX1_readsClause 101 = .ok (.imul, 1) := dk_104 (dk_at dksX1_readsClause_4 9 rfl rfl)
theorem dX1_readsClause_102 : decode cX1_readsClause 102 = .ok (.iload_n 1, 1) := dk_27 (dk_at dksX1_readsClause_4 10 rfl rfl)
theorem dX1_readsClause_103 : decode cX1_readsClause 103 = .ok (.iastore, 1) := dk_79 (dk_at dksX1_readsClause_4 11 rfl rfl)
theorem dX1_readsClause_104 : decode cX1_readsClause 104 = .ok (.aload_n 0, 1) := dk_42 (dk_at dksX1_readsClause_4 12 rfl rfl)
theorem dX1_readsClause_105 : decode cX1_readsClause 105 = .ok (.getfield 47, 3) := dk_180 0 47 (dk_at dksX1_readsClause_4 13 rfl rfl)
theorem dX1_readsClause_108 : decode cX1_readsClause 108 = .ok (.iconst 3, 1) := dk_6 (dk_at dksX1_readsClause_4 16 rfl rfl)
theorem dX1_readsClause_109 : decode cX1_readsClause 109 = .ok (.aload_n 0, 1) := dk_42 (dk_at dksX1_readsClause_4 17 rfl rfl)
theorem dX1_readsClause_110 : decode cX1_readsClause 110 = .ok (.getfield 122, 3) := dk_180 0 122 (dk_at dksX1_readsClause_4 18 rfl rfl)
theorem dX1_readsClause_113 : decode cX1_readsClause 113 = .ok (.imul, 1) := dk_104 (dk_at dksX1_readsClause_4 21 rfl rfl)
theorem dX1_readsClause_114 : decode cX1_readsClause 114 = .ok (.iconst 1, 1) := dk_4 (dk_at dksX1_readsClause_4 22 rfl rfl)
theorem dX1_readsClause_115 : decode cX1_readsClause 115 = .ok (.iadd, 1) := dk_96 (dk_at dksX1_readsClause_4 23 rfl rfl)
theorem dX1_readsClause_116 : decode cX1_readsClause 116 = .ok (.iload_n 2, 1) := dk_28 (dk_at dksX1_readsClause_5 0 rfl rfl)
theorem dX1_readsClause_117 : decode cX1_readsClause 117 = .ok (.iastore, 1) := dk_79 (dk_at dksX1_readsClause_5 1 rfl rfl)
theorem dX1_readsClause_118 : decode cX1_readsClause 118 = .ok (.aload_n 0, 1) := dk_42 (dk_at dksX1_readsClause_5 2 rfl rfl)
theorem dX1_readsClause_119 : decode cX1_readsClause 119 = .ok (.getfield 47, 3) := dk_180 0 47 (dk_at dksX1_readsClause_5 3 rfl rfl)
theorem dX1_readsClause_122 : decode cX1_readsClause 122 = .ok (.iconst 3, 1) := dk_6 (dk_at dksX1_readsClause_5 6 rfl rfl)
theorem dX1_readsClause_123 : decode cX1_readsClause 123 = .ok (.aload_n 0, 1) := dk_42 (dk_at dksX1_readsClause_5 7 rfl rfl)
theorem dX1_readsClause_124 : decode cX1_readsClause 124 = .ok (.getfield 122, 3) := dk_180 0 122 (dk_at dksX1_readsClause_5 8 rfl rfl)
theorem dX1_readsClause_127 : decode cX1_readsClause 127 = .ok (.imul, 1) := dk_104 (dk_at dksX1_readsClause_5 11 rfl rfl)
theorem dX1_readsClause_128 : decode cX1_readsClause 128 = .ok (.iconst 2, 1) := dk_5 (dk_at dksX1_readsClause_5 12 rfl rfl)
theorem dX1_readsClause_129 : decode cX1_readsClause 129 = .ok (.iadd, 1) := dk_96 (dk_at dksX1_readsClause_5 13 rfl rfl)
theorem dX1_readsClause_130 : decode cX1_readsClause 130 = .ok (.iload_n 3, 1) := dk_29 (dk_at dksX1_readsClause_5 14 rfl rfl)
theorem dX1_readsClause_131 : decode cX1_readsClause 131 = .ok (.iastore, 1) := dk_79 (dk_at dksX1_readsClause_5 15 rfl rfl)
theorem dX1_readsClause_132 : decode cX1_readsClause 132 = .ok (.aload_n 0, 1) := dk_42 (dk_at dksX1_readsClause_5 16 rfl rfl)
theorem dX1_readsClause_133 : decode cX1_readsClause 133 = .ok (.dup, 1) := dk_89 (dk_at dksX1_readsClause_5 17 rfl rfl)
theorem dX1_readsClause_134 : decode cX1_readsClause 134 = .ok (.getfield 122, 3) := dk_180 0 122 (dk_at dksX1_readsClause_5 18 rfl rfl)
theorem dX1_readsClause_137 : decode cX1_readsClause 137 = .ok (.iconst 1, 1) := dk_4 (dk_at dksX1_readsClause_5 21 rfl rfl)
theorem dX1_readsClause_138 : decode cX1_readsClause 138 = .ok (.iadd, 1) := dk_96 (dk_at dksX1_readsClause_5 22 rfl rfl)
theorem dX1_readsClause_139 : decode cX1_readsClause 139 = .ok (.putfield 122, 3) := dk_181 0 122 (dk_at dksX1_readsClause_6 0 rfl rfl)
theorem dX1_readsClause_142 : decode cX1_readsClause 142 = .ok (.iconst 1, 1) := dk_4 (dk_at dksX1_readsClause_6 3 rfl rfl)
theorem dX1_readsClause_143 : decode cX1_readsClause 143 = .ok (.ireturn, 1) := dk_172 (dk_at dksX1_readsClause_6 4 rfl rfl)
abbrev cX1_kindOfLetter : ByteArray := prog_10_method_24_code
def yX1_kindOfLetter : MethodName := ⟨RX1, "kindOfLetter", "(I)I"⟩
def dkwX1_kindOfLetter_2 : List UInt8 := [167, 0, 15, 26, 16, 120, 160, 0, 7, 8, 167, 0, 5, 16, 247, 172]
abbrev dktX1_kindOfLetter_2 : List UInt8 := dkwX1_kindOfLetter_2 ++ []
def dkwX1_kindOfLetter_1 : List UInt8 := [160, 0, 7, 5, 167, 0, 35, 26, 16, 117, 160, 0, 7, 6, 167, 0, 25, 26, 16, 104, 160, 0, 7, 7]
abbrev dktX1_kindOfLetter_1 : List UInt8 := dkwX1_kindOfLetter_1 ++ dktX1_kindOfLetter_2
def dkwX1_kindOfLetter_0 : List UInt8 := [26, 16, 99, 160, 0, 7, 3, 167, 0, 55, 26, 16, 110, 160, 0, 7, 4, 167, 0, 45, 26, 16, 98]
abbrev dktX1_kindOfLetter_0 : List UInt8 := dkwX1_kindOfLetter_0 ++ dktX1_kindOfLetter_1
theorem dksX1_kindOfLetter_0 : cX1_kindOfLetter.data.toList.drop 0 = dktX1_kindOfLetter_0 := by decide +kernel
theorem dksX1_kindOfLetter_1 : cX1_kindOfLetter.data.toList.drop 23 = dktX1_kindOfLetter_1 := dk_seg dksX1_kindOfLetter_0 23 rfl rfl
theorem dksX1_kindOfLetter_2 : cX1_kindOfLetter.data.toList.drop 47 = dktX1_kindOfLetter_2 := dk_seg dksX1_kindOfLetter_1 24 rfl rfl
theorem dX1_kindOfLetter_0 : decode cX1_kindOfLetter 0 = .ok (.iload_n 0, 1) := dk_26 (dk_at dksX1_kindOfLetter_0 0 rfl rfl)
theorem dX1_kindOfLetter_1 : decode cX1_kindOfLetter 1 = .ok (.bipush 99, 2) := dk_16 99 (dk_at dksX1_kindOfLetter_0 1 rfl rfl)
theorem dX1_kindOfLetter_3 : decode cX1_kindOfLetter 3 = .ok (.if_icmp .ne 7, 3) := dk_160 0 7 (dk_at dksX1_kindOfLetter_0 3 rfl rfl)
theorem dX1_kindOfLetter_6 : decode cX1_kindOfLetter 6 = .ok (.iconst 0, 1) := dk_3 (dk_at dksX1_kindOfLetter_0 6 rfl rfl)
theorem dX1_kindOfLetter_7 : decode cX1_kindOfLetter 7 = .ok (.goto 55, 3) := dk_167 0 55 (dk_at dksX1_kindOfLetter_0 7 rfl rfl)
theorem dX1_kindOfLetter_10 : decode cX1_kindOfLetter 10 = .ok (.iload_n 0, 1) := dk_26 (dk_at dksX1_kindOfLetter_0 10 rfl rfl)
theorem dX1_kindOfLetter_11 : decode cX1_kindOfLetter 11 = .ok (.bipush 110, 2) := dk_16 110 (dk_at dksX1_kindOfLetter_0 11 rfl rfl)
theorem dX1_kindOfLetter_13 : decode cX1_kindOfLetter 13 = .ok (.if_icmp .ne 7, 3) := dk_160 0 7 (dk_at dksX1_kindOfLetter_0 13 rfl rfl)
theorem dX1_kindOfLetter_16 : decode cX1_kindOfLetter 16 = .ok (.iconst 1, 1) := dk_4 (dk_at dksX1_kindOfLetter_0 16 rfl rfl)
theorem dX1_kindOfLetter_17 : decode cX1_kindOfLetter 17 = .ok (.goto 45, 3) := dk_167 0 45 (dk_at dksX1_kindOfLetter_0 17 rfl rfl)
theorem dX1_kindOfLetter_20 : decode cX1_kindOfLetter 20 = .ok (.iload_n 0, 1) := dk_26 (dk_at dksX1_kindOfLetter_0 20 rfl rfl)
theorem dX1_kindOfLetter_21 : decode cX1_kindOfLetter 21 = .ok (.bipush 98, 2) := dk_16 98 (dk_at dksX1_kindOfLetter_0 21 rfl rfl)
theorem dX1_kindOfLetter_23 : decode cX1_kindOfLetter 23 = .ok (.if_icmp .ne 7, 3) := dk_160 0 7 (dk_at dksX1_kindOfLetter_1 0 rfl rfl)
theorem dX1_kindOfLetter_26 : decode cX1_kindOfLetter 26 = .ok (.iconst 2, 1) := dk_5 (dk_at dksX1_kindOfLetter_1 3 rfl rfl)
theorem dX1_kindOfLetter_27 : decode cX1_kindOfLetter 27 = .ok (.goto 35, 3) := dk_167 0 35 (dk_at dksX1_kindOfLetter_1 4 rfl rfl)
theorem dX1_kindOfLetter_30 : decode cX1_kindOfLetter 30 = .ok (.iload_n 0, 1) := dk_26 (dk_at dksX1_kindOfLetter_1 7 rfl rfl)
theorem dX1_kindOfLetter_31 : decode cX1_kindOfLetter 31 = .ok (.bipush 117, 2) := dk_16 117 (dk_at dksX1_kindOfLetter_1 8 rfl rfl)
theorem dX1_kindOfLetter_33 : decode cX1_kindOfLetter 33 = .ok (.if_icmp .ne 7, 3) := dk_160 0 7 (dk_at dksX1_kindOfLetter_1 10 rfl rfl)
theorem dX1_kindOfLetter_36 : decode cX1_kindOfLetter 36 = .ok (.iconst 3, 1) := dk_6 (dk_at dksX1_kindOfLetter_1 13 rfl rfl)
theorem dX1_kindOfLetter_37 : decode cX1_kindOfLetter 37 = .ok (.goto 25, 3) := dk_167 0 25 (dk_at dksX1_kindOfLetter_1 14 rfl rfl)
theorem dX1_kindOfLetter_40 : decode cX1_kindOfLetter 40 = .ok (.iload_n 0, 1) := dk_26 (dk_at dksX1_kindOfLetter_1 17 rfl rfl)
theorem dX1_kindOfLetter_41 : decode cX1_kindOfLetter 41 = .ok (.bipush 104, 2) := dk_16 104 (dk_at dksX1_kindOfLetter_1 18 rfl rfl)
theorem dX1_kindOfLetter_43 : decode cX1_kindOfLetter 43 = .ok (.if_icmp .ne 7, 3) := dk_160 0 7 (dk_at dksX1_kindOfLetter_1 20 rfl rfl)
theorem dX1_kindOfLetter_46 : decode cX1_kindOfLetter 46 = .ok (.iconst 4, 1) := dk_7 (dk_at dksX1_kindOfLetter_1 23 rfl rfl)
theorem dX1_kindOfLetter_47 : decode cX1_kindOfLetter 47 = .ok (.goto 15, 3) := dk_167 0 15 (dk_at dksX1_kindOfLetter_2 0 rfl rfl)
theorem dX1_kindOfLetter_50 : decode cX1_kindOfLetter 50 = .ok (.iload_n 0, 1) := dk_26 (dk_at dksX1_kindOfLetter_2 3 rfl rfl)
theorem dX1_kindOfLetter_51 : decode cX1_kindOfLetter 51 = .ok (.bipush 120, 2) := dk_16 120 (dk_at dksX1_kindOfLetter_2 4 rfl rfl)
theorem dX1_kindOfLetter_53 : decode cX1_kindOfLetter 53 = .ok (.if_icmp .ne 7, 3) := dk_160 0 7 (dk_at dksX1_kindOfLetter_2 6 rfl rfl)
theorem dX1_kindOfLetter_56 : decode cX1_kindOfLetter 56 = .ok (.iconst 5, 1) := dk_8 (dk_at dksX1_kindOfLetter_2 9 rfl rfl)
theorem dX1_kindOfLetter_57 : decode cX1_kindOfLetter 57 = .ok (.goto 5, 3) := dk_167 0 5 (dk_at dksX1_kindOfLetter_2 10 rfl rfl)
theorem dX1_kindOfLetter_60 : decode cX1_kindOfLetter 60 = .ok (.bipush (-9), 2) := dk_16 247 (dk_at dksX1_kindOfLetter_2 13 rfl rfl)
theorem dX1_kindOfLetter_62 : decode cX1_kindOfLetter 62 = .ok (.ireturn, 1) := dk_172 (dk_at dksX1_kindOfLetter_2 15 rfl rfl)
abbrev cX1_isOfTwo : ByteArray := prog_10_method_26_code
def yX1_isOfTwo : MethodName := ⟨RX1, "isOfTwo", "(I)Z"⟩
def dkwX1_isOfTwo_0 : List UInt8 := [26, 5, 159, 0, 8, 26, 8, 160, 0, 7, 4, 167, 0, 4, 3, 172]
abbrev dktX1_isOfTwo_0 : List UInt8 := dkwX1_isOfTwo_0 ++ []
theorem dksX1_isOfTwo_0 : cX1_isOfTwo.data.toList.drop 0 = dktX1_isOfTwo_0 := by decide +kernel
theorem dX1_isOfTwo_0 : decode cX1_isOfTwo 0 = .ok (.iload_n 0, 1) := dk_26 (dk_at dksX1_isOfTwo_0 0 rfl rfl)
theorem dX1_isOfTwo_1 : decode cX1_isOfTwo 1 = .ok (.iconst 2, 1) := dk_5 (dk_at dksX1_isOfTwo_0 1 rfl rfl)
theorem dX1_isOfTwo_2 : decode cX1_isOfTwo 2 = .ok (.if_icmp .eq 8, 3) := dk_159 0 8 (dk_at dksX1_isOfTwo_0 2 rfl rfl)
theorem dX1_isOfTwo_5 : decode cX1_isOfTwo 5 = .ok (.iload_n 0, 1) := dk_26 (dk_at dksX1_isOfTwo_0 5 rfl rfl)
theorem dX1_isOfTwo_6 : decode cX1_isOfTwo 6 = .ok (.iconst 5, 1) := dk_8 (dk_at dksX1_isOfTwo_0 6 rfl rfl)
theorem dX1_isOfTwo_7 : decode cX1_isOfTwo 7 = .ok (.if_icmp .ne 7, 3) := dk_160 0 7 (dk_at dksX1_isOfTwo_0 7 rfl rfl)
theorem dX1_isOfTwo_10 : decode cX1_isOfTwo 10 = .ok (.iconst 1, 1) := dk_4 (dk_at dksX1_isOfTwo_0 10 rfl rfl)
theorem dX1_isOfTwo_11 : decode cX1_isOfTwo 11 = .ok (.goto 4, 3) := dk_167 0 4 (dk_at dksX1_isOfTwo_0 11 rfl rfl)
theorem dX1_isOfTwo_14 : decode cX1_isOfTwo 14 = .ok (.iconst 0, 1) := dk_3 (dk_at dksX1_isOfTwo_0 14 rfl rfl)
theorem dX1_isOfTwo_15 : decode cX1_isOfTwo 15 = .ok (.ireturn, 1) := dk_172 (dk_at dksX1_isOfTwo_0 15 rfl rfl)
abbrev cX1_court : ByteArray := prog_10_method_30_code
def yX1_court : MethodName := ⟨RX1, "court", "(I)I"⟩
def dkwX1_court_6 : List UInt8 := [182, 0, 57, 42, 180, 0, 147, 172]
abbrev dktX1_court_6 : List UInt8 := dkwX1_court_6 ++ []
def dkwX1_court_5 : List UInt8 := [42, 180, 0, 22, 28, 42, 180, 0, 47, 6, 28, 104, 5, 96, 46, 79, 132, 2, 1, 167, 255, 199, 42]
abbrev dktX1_court_5 : List UInt8 := dkwX1_court_5 ++ dktX1_court_6
def dkwX1_court_4 : List UInt8 := [180, 0, 47, 6, 28, 104, 46, 79, 42, 180, 0, 19, 28, 42, 180, 0, 47, 6, 28, 104, 4, 96, 46, 79]
abbrev dktX1_court_4 : List UInt8 := dkwX1_court_4 ++ dktX1_court_5
def dkwX1_court_3 : List UInt8 := [42, 180, 0, 122, 181, 0, 60, 3, 61, 28, 42, 180, 0, 60, 162, 0, 55, 42, 180, 0, 16, 28, 42]
abbrev dktX1_court_3 : List UInt8 := dkwX1_court_3 ++ dktX1_court_4
def dkwX1_court_2 : List UInt8 := [16, 30, 162, 0, 21, 42, 180, 0, 13, 28, 42, 180, 0, 44, 28, 46, 79, 132, 2, 1, 167, 255, 235, 42]
abbrev dktX1_court_2 : List UInt8 := dkwX1_court_2 ++ dktX1_court_3
def dkwX1_court_1 : List UInt8 := [42, 27, 182, 0, 144, 16, 247, 159, 0, 6, 16, 252, 172, 42, 42, 180, 0, 119, 181, 0, 147, 3, 61, 28]
abbrev dktX1_court_1 : List UInt8 := dkwX1_court_1 ++ dktX1_court_2
def dkwX1_court_0 : List UInt8 := [27, 184, 0, 101, 154, 0, 5, 2, 172, 42, 180, 0, 31, 27, 46, 156, 0, 9, 42, 4, 182, 0, 82, 172]
abbrev dktX1_court_0 : List UInt8 := dkwX1_court_0 ++ dktX1_court_1
theorem dksX1_court_0 : cX1_court.data.toList.drop 0 = dktX1_court_0 := by decide +kernel
theorem dksX1_court_1 : cX1_court.data.toList.drop 24 = dktX1_court_1 := dk_seg dksX1_court_0 24 rfl rfl
theorem dksX1_court_2 : cX1_court.data.toList.drop 48 = dktX1_court_2 := dk_seg dksX1_court_1 24 rfl rfl
theorem dksX1_court_3 : cX1_court.data.toList.drop 72 = dktX1_court_3 := dk_seg dksX1_court_2 24 rfl rfl
theorem dksX1_court_4 : cX1_court.data.toList.drop 95 = dktX1_court_4 := dk_seg dksX1_court_3 23 rfl rfl
theorem dksX1_court_5 : cX1_court.data.toList.drop 119 = dktX1_court_5 := dk_seg dksX1_court_4 24 rfl rfl
theorem dksX1_court_6 : cX1_court.data.toList.drop 142 = dktX1_court_6 := dk_seg dksX1_court_5 23 rfl rfl
theorem dX1_court_0 : decode cX1_court 0 = .ok (.iload_n 1, 1) := dk_27 (dk_at dksX1_court_0 0 rfl rfl)
theorem dX1_court_1 : decode cX1_court 1 = .ok (.invokestatic 101, 3) := dk_184 0 101 (dk_at dksX1_court_0 1 rfl rfl)
theorem dX1_court_4 : decode cX1_court 4 = .ok (.ifCond .ne 5, 3) := dk_154 0 5 (dk_at dksX1_court_0 4 rfl rfl)
theorem dX1_court_7 : decode cX1_court 7 = .ok (.iconst (-1), 1) := dk_2 (dk_at dksX1_court_0 7 rfl rfl)
theorem dX1_court_8 : decode cX1_court 8 = .ok (.ireturn, 1) := dk_172 (dk_at dksX1_court_0 8 rfl rfl)
theorem dX1_court_9 : decode cX1_court 9 = .ok (.aload_n 0, 1) := dk_42 (dk_at dksX1_court_0 9 rfl rfl)
theorem dX1_court_10 : decode cX1_court 10 = .ok (.getfield 31, 3) := dk_180 0 31 (dk_at dksX1_court_0 10 rfl rfl)
theorem dX1_court_13 : decode cX1_court 13 = .ok (.iload_n 1, 1) := dk_27 (dk_at dksX1_court_0 13 rfl rfl)
theorem dX1_court_14 : decode cX1_court 14 = .ok (.iaload, 1) := dk_46 (dk_at dksX1_court_0 14 rfl rfl)
theorem dX1_court_15 : decode cX1_court 15 = .ok (.ifCond .ge 9, 3) := dk_156 0 9 (dk_at dksX1_court_0 15 rfl rfl)
theorem dX1_court_18 : decode cX1_court 18 = .ok (.aload_n 0, 1) := dk_42 (dk_at dksX1_court_0 18 rfl rfl)
theorem dX1_court_19 : decode cX1_court 19 = .ok (.iconst 1, 1) := dk_4 (dk_at dksX1_court_0 19 rfl rfl)
theorem dX1_court_20 : decode cX1_court 20 = .ok (.invokevirtual 82, 3) := dk_182 0 82 (dk_at dksX1_court_0 20 rfl rfl)
theorem dX1_court_23 : decode cX1_court 23 = .ok (.ireturn, 1) := dk_172 (dk_at dksX1_court_0 23 rfl rfl)
theorem dX1_court_24 : decode cX1_court 24 = .ok (.aload_n 0, 1) := dk_42 (dk_at dksX1_court_1 0 rfl rfl)
theorem dX1_court_25 : decode cX1_court 25 = .ok (.iload_n 1, 1) := dk_27 (dk_at dksX1_court_1 1 rfl rfl)
theorem dX1_court_26 : decode cX1_court 26 = .ok (.invokevirtual 144, 3) := dk_182 0 144 (dk_at dksX1_court_1 2 rfl rfl)
theorem dX1_court_29 : decode cX1_court 29 = .ok (.bipush (-9), 2) := dk_16 247 (dk_at dksX1_court_1 5 rfl rfl)
theorem dX1_court_31 : decode cX1_court 31 = .ok (.if_icmp .eq 6, 3) := dk_159 0 6 (dk_at dksX1_court_1 7 rfl rfl)
theorem dX1_court_34 : decode cX1_court 34 = .ok (.bipush (-4), 2) := dk_16 252 (dk_at dksX1_court_1 10 rfl rfl)
theorem dX1_court_36 : decode cX1_court 36 = .ok (.ireturn, 1) := dk_172 (dk_at dksX1_court_1 12 rfl rfl)
theorem dX1_court_37 : decode cX1_court 37 = .ok (.aload_n 0, 1) := dk_42 (dk_at dksX1_court_1 13 rfl rfl)
theorem dX1_court_38 : decode cX1_court 38 = .ok (.aload_n 0, 1) := dk_42 (dk_at dksX1_court_1 14 rfl rfl)
theorem dX1_court_39 : decode cX1_court 39 = .ok (.getfield 119, 3) := dk_180 0 119 (dk_at dksX1_court_1 15 rfl rfl)
theorem dX1_court_42 : decode cX1_court 42 = .ok (.putfield 147, 3) := dk_181 0 147 (dk_at dksX1_court_1 18 rfl rfl)
theorem dX1_court_45 : decode cX1_court 45 = .ok (.iconst 0, 1) := dk_3 (dk_at dksX1_court_1 21 rfl rfl)
theorem dX1_court_46 : decode cX1_court 46 = .ok (.istore_n 2, 1) := dk_61 (dk_at dksX1_court_1 22 rfl rfl)
theorem dX1_court_47 : decode cX1_court 47 = .ok (.iload_n 2, 1) := dk_28 (dk_at dksX1_court_1 23 rfl rfl)
theorem dX1_court_48 : decode cX1_court 48 = .ok (.bipush 30, 2) := dk_16 30 (dk_at dksX1_court_2 0 rfl rfl)
theorem dX1_court_50 : decode cX1_court 50 = .ok (.if_icmp .ge 21, 3) := dk_162 0 21 (dk_at dksX1_court_2 2 rfl rfl)
theorem dX1_court_53 : decode cX1_court 53 = .ok (.aload_n 0, 1) := dk_42 (dk_at dksX1_court_2 5 rfl rfl)
theorem dX1_court_54 : decode cX1_court 54 = .ok (.getfield 13, 3) := dk_180 0 13 (dk_at dksX1_court_2 6 rfl rfl)
theorem dX1_court_57 : decode cX1_court 57 = .ok (.iload_n 2, 1) := dk_28 (dk_at dksX1_court_2 9 rfl rfl)
theorem dX1_court_58 : decode cX1_court 58 = .ok (.aload_n 0, 1) := dk_42 (dk_at dksX1_court_2 10 rfl rfl)
theorem dX1_court_59 : decode cX1_court 59 = .ok (.getfield 44, 3) := dk_180 0 44 (dk_at dksX1_court_2 11 rfl rfl)
theorem dX1_court_62 : decode cX1_court 62 = .ok (.iload_n 2, 1) := dk_28 (dk_at dksX1_court_2 14 rfl rfl)
theorem dX1_court_63 : decode cX1_court 63 = .ok (.iaload, 1) := dk_46 (dk_at dksX1_court_2 15 rfl rfl)
theorem dX1_court_64 : decode cX1_court 64 = .ok (.iastore, 1) := dk_79 (dk_at dksX1_court_2 16 rfl rfl)
theorem dX1_court_65 : decode cX1_court 65 = .ok (.iinc 2 1, 3) := dk_132 2 1 (dk_at dksX1_court_2 17 rfl rfl)
theorem dX1_court_68 : decode cX1_court 68 = .ok (.goto (-21), 3) := dk_167 255 235 (dk_at dksX1_court_2 20 rfl rfl)
theorem dX1_court_71 : decode cX1_court 71 = .ok (.aload_n 0, 1) := dk_42 (dk_at dksX1_court_2 23 rfl rfl)
theorem dX1_court_72 : decode cX1_court 72 = .ok (.aload_n 0, 1) := dk_42 (dk_at dksX1_court_3 0 rfl rfl)
theorem dX1_court_73 : decode cX1_court 73 = .ok (.getfield 122, 3) := dk_180 0 122 (dk_at dksX1_court_3 1 rfl rfl)
theorem dX1_court_76 : decode cX1_court 76 = .ok (.putfield 60, 3) := dk_181 0 60 (dk_at dksX1_court_3 4 rfl rfl)
theorem dX1_court_79 : decode cX1_court 79 = .ok (.iconst 0, 1) := dk_3 (dk_at dksX1_court_3 7 rfl rfl)
theorem dX1_court_80 : decode cX1_court 80 = .ok (.istore_n 2, 1) := dk_61 (dk_at dksX1_court_3 8 rfl rfl)
theorem dX1_court_81 : decode cX1_court 81 = .ok (.iload_n 2, 1) := dk_28 (dk_at dksX1_court_3 9 rfl rfl)
theorem dX1_court_82 : decode cX1_court 82 = .ok (.aload_n 0, 1) := dk_42 (dk_at dksX1_court_3 10 rfl rfl)
theorem dX1_court_83 : decode cX1_court 83 = .ok (.getfield 60, 3) := dk_180 0 60 (dk_at dksX1_court_3 11 rfl rfl)
theorem dX1_court_86 : decode cX1_court 86 = .ok (.if_icmp .ge 55, 3) := dk_162 0 55 (dk_at dksX1_court_3 14 rfl rfl)
theorem dX1_court_89 : decode cX1_court 89 = .ok (.aload_n 0, 1) := dk_42 (dk_at dksX1_court_3 17 rfl rfl)
theorem dX1_court_90 : decode cX1_court 90 = .ok (.getfield 16, 3) := dk_180 0 16 (dk_at dksX1_court_3 18 rfl rfl)
theorem dX1_court_93 : decode cX1_court 93 = .ok (.iload_n 2, 1) := dk_28 (dk_at dksX1_court_3 21 rfl rfl)
theorem dX1_court_94 : decode cX1_court 94 = .ok (.aload_n 0, 1) := dk_42 (dk_at dksX1_court_3 22 rfl rfl)
theorem dX1_court_95 : decode cX1_court 95 = .ok (.getfield 47, 3) := dk_180 0 47 (dk_at dksX1_court_4 0 rfl rfl)
theorem dX1_court_98 : decode cX1_court 98 = .ok (.iconst 3, 1) := dk_6 (dk_at dksX1_court_4 3 rfl rfl)
theorem dX1_court_99 : decode cX1_court 99 = .ok (.iload_n 2, 1) := dk_28 (dk_at dksX1_court_4 4 rfl rfl)
theorem dX1_court_100 : decode cX1_court 100 = .ok (.imul, 1) := dk_104 (dk_at dksX1_court_4 5 rfl rfl)
theorem dX1_court_101 : decode cX1_court 101 = .ok (.iaload, 1) := dk_46 (dk_at dksX1_court_4 6 rfl rfl)
theorem dX1_court_102 : decode cX1_court 102 = .ok (.iastore, 1) := dk_79 (dk_at dksX1_court_4 7 rfl rfl)
theorem dX1_court_103 : decode cX1_court 103 = .ok (.aload_n 0, 1) := dk_42 (dk_at dksX1_court_4 8 rfl rfl)
theorem dX1_court_104 : decode cX1_court 104 = .ok (.getfield 19, 3) := dk_180 0 19 (dk_at dksX1_court_4 9 rfl rfl)
theorem dX1_court_107 : decode cX1_court 107 = .ok (.iload_n 2, 1) := dk_28 (dk_at dksX1_court_4 12 rfl rfl)
theorem dX1_court_108 : decode cX1_court 108 = .ok (.aload_n 0, 1) := dk_42 (dk_at dksX1_court_4 13 rfl rfl)
theorem dX1_court_109 : decode cX1_court 109 = .ok (.getfield 47, 3) := dk_180 0 47 (dk_at dksX1_court_4 14 rfl rfl)
theorem dX1_court_112 : decode cX1_court 112 = .ok (.iconst 3, 1) := dk_6 (dk_at dksX1_court_4 17 rfl rfl)
theorem dX1_court_113 : decode cX1_court 113 = .ok (.iload_n 2, 1) := dk_28 (dk_at dksX1_court_4 18 rfl rfl)
theorem dX1_court_114 : decode cX1_court 114 = .ok (.imul, 1) := dk_104 (dk_at dksX1_court_4 19 rfl rfl)
theorem dX1_court_115 : decode cX1_court 115 = .ok (.iconst 1, 1) := dk_4 (dk_at dksX1_court_4 20 rfl rfl)
theorem dX1_court_116 : decode cX1_court 116 = .ok (.iadd, 1) := dk_96 (dk_at dksX1_court_4 21 rfl rfl)
theorem dX1_court_117 : decode cX1_court 117 = .ok (.iaload, 1) := dk_46 (dk_at dksX1_court_4 22 rfl rfl)
theorem dX1_court_118 : decode cX1_court 118 = .ok (.iastore, 1) := dk_79 (dk_at dksX1_court_4 23 rfl rfl)
theorem dX1_court_119 : decode cX1_court 119 = .ok (.aload_n 0, 1) := dk_42 (dk_at dksX1_court_5 0 rfl rfl)
theorem dX1_court_120 : decode cX1_court 120 = .ok (.getfield 22, 3) := dk_180 0 22 (dk_at dksX1_court_5 1 rfl rfl)
theorem dX1_court_123 : decode cX1_court 123 = .ok (.iload_n 2, 1) := dk_28 (dk_at dksX1_court_5 4 rfl rfl)
theorem dX1_court_124 : decode cX1_court 124 = .ok (.aload_n 0, 1) := dk_42 (dk_at dksX1_court_5 5 rfl rfl)
theorem dX1_court_125 : decode cX1_court 125 = .ok (.getfield 47, 3) := dk_180 0 47 (dk_at dksX1_court_5 6 rfl rfl)
theorem dX1_court_128 : decode cX1_court 128 = .ok (.iconst 3, 1) := dk_6 (dk_at dksX1_court_5 9 rfl rfl)
theorem dX1_court_129 : decode cX1_court 129 = .ok (.iload_n 2, 1) := dk_28 (dk_at dksX1_court_5 10 rfl rfl)
theorem dX1_court_130 : decode cX1_court 130 = .ok (.imul, 1) := dk_104 (dk_at dksX1_court_5 11 rfl rfl)
theorem dX1_court_131 : decode cX1_court 131 = .ok (.iconst 2, 1) := dk_5 (dk_at dksX1_court_5 12 rfl rfl)
theorem dX1_court_132 : decode cX1_court 132 = .ok (.iadd, 1) := dk_96 (dk_at dksX1_court_5 13 rfl rfl)
theorem dX1_court_133 : decode cX1_court 133 = .ok (.iaload, 1) := dk_46 (dk_at dksX1_court_5 14 rfl rfl)
theorem dX1_court_134 : decode cX1_court 134 = .ok (.iastore, 1) := dk_79 (dk_at dksX1_court_5 15 rfl rfl)
theorem dX1_court_135 : decode cX1_court 135 = .ok (.iinc 2 1, 3) := dk_132 2 1 (dk_at dksX1_court_5 16 rfl rfl)
theorem dX1_court_138 : decode cX1_court 138 = .ok (.goto (-57), 3) := dk_167 255 199 (dk_at dksX1_court_5 19 rfl rfl)
theorem dX1_court_141 : decode cX1_court 141 = .ok (.aload_n 0, 1) := dk_42 (dk_at dksX1_court_5 22 rfl rfl)
theorem dX1_court_142 : decode cX1_court 142 = .ok (.invokevirtual 57, 3) := dk_182 0 57 (dk_at dksX1_court_6 0 rfl rfl)
theorem dX1_court_145 : decode cX1_court 145 = .ok (.aload_n 0, 1) := dk_42 (dk_at dksX1_court_6 3 rfl rfl)
theorem dX1_court_146 : decode cX1_court 146 = .ok (.getfield 147, 3) := dk_180 0 147 (dk_at dksX1_court_6 4 rfl rfl)
theorem dX1_court_149 : decode cX1_court 149 = .ok (.ireturn, 1) := dk_172 (dk_at dksX1_court_6 7 rfl rfl)
abbrev cX1_thing : ByteArray := prog_10_method_47_code
def yX1_thing : MethodName := ⟨RX1, "thing", "(II)I"⟩
def dkwX1_thing_2 : List UInt8 := [172]
abbrev dktX1_thing_2 : List UInt8 := dkwX1_thing_2 ++ []
def dkwX1_thing_1 : List UInt8 := [184, 0, 72, 153, 0, 20, 42, 42, 180, 0, 13, 8, 27, 104, 28, 96, 46, 182, 0, 94, 167, 0, 4, 2]
abbrev dktX1_thing_1 : List UInt8 := dkwX1_thing_1 ++ dktX1_thing_2
def dkwX1_thing_0 : List UInt8 := [27, 133, 9, 42, 180, 0, 147, 4, 100, 133, 184, 0, 72, 153, 0, 32, 28, 133, 9, 20, 0, 188]
abbrev dktX1_thing_0 : List UInt8 := dkwX1_thing_0 ++ dktX1_thing_1
theorem dksX1_thing_0 : cX1_thing.data.toList.drop 0 = dktX1_thing_0 := by decide +kernel
theorem dksX1_thing_1 : cX1_thing.data.toList.drop 22 = dktX1_thing_1 := dk_seg dksX1_thing_0 22 rfl rfl
theorem dksX1_thing_2 : cX1_thing.data.toList.drop 46 = dktX1_thing_2 := dk_seg dksX1_thing_1 24 rfl rfl
theorem dX1_thing_0 : decode cX1_thing 0 = .ok (.iload_n 1, 1) := dk_27 (dk_at dksX1_thing_0 0 rfl rfl)
theorem dX1_thing_1 : decode cX1_thing 1 = .ok (.i2l, 1) := dk_133 (dk_at dksX1_thing_0 1 rfl rfl)
theorem dX1_thing_2 : decode cX1_thing 2 = .ok (.lconst 0, 1) := dk_9 (dk_at dksX1_thing_0 2 rfl rfl)
theorem dX1_thing_3 : decode cX1_thing 3 = .ok (.aload_n 0, 1) := dk_42 (dk_at dksX1_thing_0 3 rfl rfl)
theorem dX1_thing_4 : decode cX1_thing 4 = .ok (.getfield 147, 3) := dk_180 0 147 (dk_at dksX1_thing_0 4 rfl rfl)
theorem dX1_thing_7 : decode cX1_thing 7 = .ok (.iconst 1, 1) := dk_4 (dk_at dksX1_thing_0 7 rfl rfl)
theorem dX1_thing_8 : decode cX1_thing 8 = .ok (.isub, 1) := dk_100 (dk_at dksX1_thing_0 8 rfl rfl)
theorem dX1_thing_9 : decode cX1_thing 9 = .ok (.i2l, 1) := dk_133 (dk_at dksX1_thing_0 9 rfl rfl)
theorem dX1_thing_10 : decode cX1_thing 10 = .ok (.invokestatic 72, 3) := dk_184 0 72 (dk_at dksX1_thing_0 10 rfl rfl)
theorem dX1_thing_13 : decode cX1_thing 13 = .ok (.ifCond .eq 32, 3) := dk_153 0 32 (dk_at dksX1_thing_0 13 rfl rfl)
theorem dX1_thing_16 : decode cX1_thing 16 = .ok (.iload_n 2, 1) := dk_28 (dk_at dksX1_thing_0 16 rfl rfl)
theorem dX1_thing_17 : decode cX1_thing 17 = .ok (.i2l, 1) := dk_133 (dk_at dksX1_thing_0 17 rfl rfl)
theorem dX1_thing_18 : decode cX1_thing 18 = .ok (.lconst 0, 1) := dk_9 (dk_at dksX1_thing_0 18 rfl rfl)
theorem dX1_thing_19 : decode cX1_thing 19 = .ok (.ldc2_w 188, 3) := dk_20 0 188 (dk_at dksX1_thing_0 19 rfl rfl)
theorem dX1_thing_22 : decode cX1_thing 22 = .ok (.invokestatic 72, 3) := dk_184 0 72 (dk_at dksX1_thing_1 0 rfl rfl)
theorem dX1_thing_25 : decode cX1_thing 25 = .ok (.ifCond .eq 20, 3) := dk_153 0 20 (dk_at dksX1_thing_1 3 rfl rfl)
theorem dX1_thing_28 : decode cX1_thing 28 = .ok (.aload_n 0, 1) := dk_42 (dk_at dksX1_thing_1 6 rfl rfl)
theorem dX1_thing_29 : decode cX1_thing 29 = .ok (.aload_n 0, 1) := dk_42 (dk_at dksX1_thing_1 7 rfl rfl)
theorem dX1_thing_30 : decode cX1_thing 30 = .ok (.getfield 13, 3) := dk_180 0 13 (dk_at dksX1_thing_1 8 rfl rfl)
theorem dX1_thing_33 : decode cX1_thing 33 = .ok (.iconst 5, 1) := dk_8 (dk_at dksX1_thing_1 11 rfl rfl)
theorem dX1_thing_34 : decode cX1_thing 34 = .ok (.iload_n 1, 1) := dk_27 (dk_at dksX1_thing_1 12 rfl rfl)
theorem dX1_thing_35 : decode cX1_thing 35 = .ok (.imul, 1) := dk_104 (dk_at dksX1_thing_1 13 rfl rfl)
theorem dX1_thing_36 : decode cX1_thing 36 = .ok (.iload_n 2, 1) := dk_28 (dk_at dksX1_thing_1 14 rfl rfl)
theorem dX1_thing_37 : decode cX1_thing 37 = .ok (.iadd, 1) := dk_96 (dk_at dksX1_thing_1 15 rfl rfl)
theorem dX1_thing_38 : decode cX1_thing 38 = .ok (.iaload, 1) := dk_46 (dk_at dksX1_thing_1 16 rfl rfl)
theorem dX1_thing_39 : decode cX1_thing 39 = .ok (.invokevirtual 94, 3) := dk_182 0 94 (dk_at dksX1_thing_1 17 rfl rfl)
theorem dX1_thing_42 : decode cX1_thing 42 = .ok (.goto 4, 3) := dk_167 0 4 (dk_at dksX1_thing_1 20 rfl rfl)
theorem dX1_thing_45 : decode cX1_thing 45 = .ok (.iconst (-1), 1) := dk_2 (dk_at dksX1_thing_1 23 rfl rfl)
theorem dX1_thing_46 : decode cX1_thing 46 = .ok (.ireturn, 1) := dk_172 (dk_at dksX1_thing_2 0 rfl rfl)
abbrev cX1_clause : ByteArray := prog_10_method_50_code
def yX1_clause : MethodName := ⟨RX1, "clause", "(II)I"⟩
def dkwX1_clause_1 : List UInt8 := [182, 0, 197, 182, 0, 94, 167, 0, 4, 2, 172]
abbrev dktX1_clause_1 : List UInt8 := dkwX1_clause_1 ++ []
def dkwX1_clause_0 : List UInt8 := [42, 27, 182, 0, 194, 153, 0, 28, 28, 133, 9, 20, 0, 188, 184, 0, 72, 153, 0, 16, 42, 42, 27, 28]
abbrev dktX1_clause_0 : List UInt8 := dkwX1_clause_0 ++ dktX1_clause_1
theorem dksX1_clause_0 : cX1_clause.data.toList.drop 0 = dktX1_clause_0 := by decide +kernel
theorem dksX1_clause_1 : cX1_clause.data.toList.drop 24 = dktX1_clause_1 := dk_seg dksX1_clause_0 24 rfl rfl
theorem dX1_clause_0 : decode cX1_clause 0 = .ok (.aload_n 0, 1) := dk_42 (dk_at dksX1_clause_0 0 rfl rfl)
theorem dX1_clause_1 : decode cX1_clause 1 = .ok (.iload_n 1, 1) := dk_27 (dk_at dksX1_clause_0 1 rfl rfl)
theorem dX1_clause_2 : decode cX1_clause 2 = .ok (.invokevirtual 194, 3) := dk_182 0 194 (dk_at dksX1_clause_0 2 rfl rfl)
theorem dX1_clause_5 : decode cX1_clause 5 = .ok (.ifCond .eq 28, 3) := dk_153 0 28 (dk_at dksX1_clause_0 5 rfl rfl)
theorem dX1_clause_8 : decode cX1_clause 8 = .ok (.iload_n 2, 1) := dk_28 (dk_at dksX1_clause_0 8 rfl rfl)
theorem dX1_clause_9 : decode cX1_clause 9 = .ok (.i2l, 1) := dk_133 (dk_at dksX1_clause_0 9 rfl rfl)
theorem dX1_clause_10 : decode cX1_clause 10 = .ok (.lconst 0, 1) := dk_9 (dk_at dksX1_clause_0 10 rfl rfl)
theorem dX1_clause_11 : decode cX1_clause 11 = .ok (.ldc2_w 188, 3) := dk_20 0 188 (dk_at dksX1_clause_0 11 rfl rfl)
theorem dX1_clause_14 : decode cX1_clause 14 = .ok (.invokestatic 72, 3) := dk_184 0 72 (dk_at dksX1_clause_0 14 rfl rfl)
theorem dX1_clause_17 : decode cX1_clause 17 = .ok (.ifCond .eq 16, 3) := dk_153 0 16 (dk_at dksX1_clause_0 17 rfl rfl)
theorem dX1_clause_20 : decode cX1_clause 20 = .ok (.aload_n 0, 1) := dk_42 (dk_at dksX1_clause_0 20 rfl rfl)
theorem dX1_clause_21 : decode cX1_clause 21 = .ok (.aload_n 0, 1) := dk_42 (dk_at dksX1_clause_0 21 rfl rfl)
theorem dX1_clause_22 : decode cX1_clause 22 = .ok (.iload_n 1, 1) := dk_27 (dk_at dksX1_clause_0 22 rfl rfl)
theorem dX1_clause_23 : decode cX1_clause 23 = .ok (.iload_n 2, 1) := dk_28 (dk_at dksX1_clause_0 23 rfl rfl)
theorem dX1_clause_24 : decode cX1_clause 24 = .ok (.invokevirtual 197, 3) := dk_182 0 197 (dk_at dksX1_clause_1 0 rfl rfl)
theorem dX1_clause_27 : decode cX1_clause 27 = .ok (.invokevirtual 94, 3) := dk_182 0 94 (dk_at dksX1_clause_1 3 rfl rfl)
theorem dX1_clause_30 : decode cX1_clause 30 = .ok (.goto 4, 3) := dk_167 0 4 (dk_at dksX1_clause_1 6 rfl rfl)
theorem dX1_clause_33 : decode cX1_clause 33 = .ok (.iconst (-1), 1) := dk_2 (dk_at dksX1_clause_1 9 rfl rfl)
theorem dX1_clause_34 : decode cX1_clause 34 = .ok (.ireturn, 1) := dk_172 (dk_at dksX1_clause_1 10 rfl rfl)
abbrev cX1_isClause : ByteArray := prog_10_method_31_code
def yX1_isClause : MethodName := ⟨RX1, "isClause", "(I)Z"⟩
def dkwX1_isClause_0 : List UInt8 := [27, 133, 9, 42, 180, 0, 60, 4, 100, 133, 184, 0, 72, 172]
abbrev dktX1_isClause_0 : List UInt8 := dkwX1_isClause_0 ++ []
theorem dksX1_isClause_0 : cX1_isClause.data.toList.drop 0 = dktX1_isClause_0 := by decide +kernel
theorem dX1_isClause_0 : decode cX1_isClause 0 = .ok (.iload_n 1, 1) := dk_27 (dk_at dksX1_isClause_0 0 rfl rfl)
theorem dX1_isClause_1 : decode cX1_isClause 1 = .ok (.i2l, 1) := dk_133 (dk_at dksX1_isClause_0 1 rfl rfl)
theorem dX1_isClause_2 : decode cX1_isClause 2 = .ok (.lconst 0, 1) := dk_9 (dk_at dksX1_isClause_0 2 rfl rfl)
theorem dX1_isClause_3 : decode cX1_isClause 3 = .ok (.aload_n 0, 1) := dk_42 (dk_at dksX1_isClause_0 3 rfl rfl)
theorem dX1_isClause_4 : decode cX1_isClause 4 = .ok (.getfield 60, 3) := dk_180 0 60 (dk_at dksX1_isClause_0 4 rfl rfl)
theorem dX1_isClause_7 : decode cX1_isClause 7 = .ok (.iconst 1, 1) := dk_4 (dk_at dksX1_isClause_0 7 rfl rfl)
theorem dX1_isClause_8 : decode cX1_isClause 8 = .ok (.isub, 1) := dk_100 (dk_at dksX1_isClause_0 8 rfl rfl)
theorem dX1_isClause_9 : decode cX1_isClause 9 = .ok (.i2l, 1) := dk_133 (dk_at dksX1_isClause_0 9 rfl rfl)
theorem dX1_isClause_10 : decode cX1_isClause 10 = .ok (.invokestatic 72, 3) := dk_184 0 72 (dk_at dksX1_isClause_0 10 rfl rfl)
theorem dX1_isClause_13 : decode cX1_isClause 13 = .ok (.ireturn, 1) := dk_172 (dk_at dksX1_isClause_0 13 rfl rfl)
abbrev cX1_toldOf : ByteArray := prog_10_method_49_code
def yX1_toldOf : MethodName := ⟨RX1, "toldOf", "(II)I"⟩
def dkwX1_toldOf_4 : List UInt8 := [180, 0, 22, 27, 46, 182, 0, 190, 172]
abbrev dktX1_toldOf_4 : List UInt8 := dkwX1_toldOf_4 ++ []
def dkwX1_toldOf_3 : List UInt8 := [180, 0, 7, 4, 46, 27, 122, 4, 126, 172, 42, 42, 180, 0, 16, 27, 46, 42, 180, 0, 19, 27, 46, 42]
abbrev dktX1_toldOf_3 : List UInt8 := dkwX1_toldOf_3 ++ dktX1_toldOf_4
def dkwX1_toldOf_2 : List UInt8 := [42, 180, 0, 16, 27, 46, 172, 42, 180, 0, 19, 27, 46, 172, 42, 180, 0, 22, 27, 46, 172, 42]
abbrev dktX1_toldOf_2 : List UInt8 := dkwX1_toldOf_2 ++ dktX1_toldOf_3
def dkwX1_toldOf_1 : List UInt8 := [170, 0, 0, 0, 0, 0, 63, 0, 0, 0, 0, 0, 0, 0, 3, 0, 0, 0, 31, 0, 0, 0, 38, 0, 0, 0, 45, 0, 0, 0, 52]
abbrev dktX1_toldOf_1 : List UInt8 := dkwX1_toldOf_1 ++ dktX1_toldOf_2
def dkwX1_toldOf_0 : List UInt8 := [28]
abbrev dktX1_toldOf_0 : List UInt8 := dkwX1_toldOf_0 ++ dktX1_toldOf_1
theorem dksX1_toldOf_0 : cX1_toldOf.data.toList.drop 0 = dktX1_toldOf_0 := by decide +kernel
theorem dksX1_toldOf_1 : cX1_toldOf.data.toList.drop 1 = dktX1_toldOf_1 := dk_seg dksX1_toldOf_0 1 rfl rfl
theorem dksX1_toldOf_2 : cX1_toldOf.data.toList.drop 32 = dktX1_toldOf_2 := dk_seg dksX1_toldOf_1 31 rfl rfl
theorem dksX1_toldOf_3 : cX1_toldOf.data.toList.drop 54 = dktX1_toldOf_3 := dk_seg dksX1_toldOf_2 22 rfl rfl
theorem dksX1_toldOf_4 : cX1_toldOf.data.toList.drop 78 = dktX1_toldOf_4 := dk_seg dksX1_toldOf_3 24 rfl rfl
theorem dX1_toldOf_0 : decode cX1_toldOf 0 = .ok (.iload_n 2, 1) := dk_28 (dk_at dksX1_toldOf_0 0 rfl rfl)
theorem dX1_toldOf_1 : decode cX1_toldOf 1 = .ok (.tableswitch 63 0 3 #[31, 38, 45, 52], 31) := by decide +kernel
theorem dX1_toldOf_32 : decode cX1_toldOf 32 = .ok (.aload_n 0, 1) := dk_42 (dk_at dksX1_toldOf_2 0 rfl rfl)
theorem dX1_toldOf_33 : decode cX1_toldOf 33 = .ok (.getfield 16, 3) := dk_180 0 16 (dk_at dksX1_toldOf_2 1 rfl rfl)
theorem dX1_toldOf_36 : decode cX1_toldOf 36 = .ok (.iload_n 1, 1) := dk_27 (dk_at dksX1_toldOf_2 4 rfl rfl)
theorem dX1_toldOf_37 : decode cX1_toldOf 37 = .ok (.iaload, 1) := dk_46 (dk_at dksX1_toldOf_2 5 rfl rfl)
theorem dX1_toldOf_38 : decode cX1_toldOf 38 = .ok (.ireturn, 1) := dk_172 (dk_at dksX1_toldOf_2 6 rfl rfl)
theorem dX1_toldOf_39 : decode cX1_toldOf 39 = .ok (.aload_n 0, 1) := dk_42 (dk_at dksX1_toldOf_2 7 rfl rfl)
theorem dX1_toldOf_40 : decode cX1_toldOf 40 = .ok (.getfield 19, 3) := dk_180 0 19 (dk_at dksX1_toldOf_2 8 rfl rfl)
theorem dX1_toldOf_43 : decode cX1_toldOf 43 = .ok (.iload_n 1, 1) := dk_27 (dk_at dksX1_toldOf_2 11 rfl rfl)
theorem dX1_toldOf_44 : decode cX1_toldOf 44 = .ok (.iaload, 1) := dk_46 (dk_at dksX1_toldOf_2 12 rfl rfl)
theorem dX1_toldOf_45 : decode cX1_toldOf 45 = .ok (.ireturn, 1) := dk_172 (dk_at dksX1_toldOf_2 13 rfl rfl)
theorem dX1_toldOf_46 : decode cX1_toldOf 46 = .ok (.aload_n 0, 1) := dk_42 (dk_at dksX1_toldOf_2 14 rfl rfl)
theorem dX1_toldOf_47 : decode cX1_toldOf 47 = .ok (.getfield 22, 3) := dk_180 0 22 (dk_at dksX1_toldOf_2 15 rfl rfl)
theorem dX1_toldOf_50 : decode cX1_toldOf 50 = .ok (.iload_n 1, 1) := dk_27 (dk_at dksX1_toldOf_2 18 rfl rfl)
theorem dX1_toldOf_51 : decode cX1_toldOf 51 = .ok (.iaload, 1) := dk_46 (dk_at dksX1_toldOf_2 19 rfl rfl)
theorem dX1_toldOf_52 : decode cX1_toldOf 52 = .ok (.ireturn, 1) := dk_172 (dk_at dksX1_toldOf_2 20 rfl rfl)
theorem dX1_toldOf_53 : decode cX1_toldOf 53 = .ok (.aload_n 0, 1) := dk_42 (dk_at dksX1_toldOf_2 21 rfl rfl)
theorem dX1_toldOf_54 : decode cX1_toldOf 54 = .ok (.getfield 7, 3) := dk_180 0 7 (dk_at dksX1_toldOf_3 0 rfl rfl)
theorem dX1_toldOf_57 : decode cX1_toldOf 57 = .ok (.iconst 1, 1) := dk_4 (dk_at dksX1_toldOf_3 3 rfl rfl)
theorem dX1_toldOf_58 : decode cX1_toldOf 58 = .ok (.iaload, 1) := dk_46 (dk_at dksX1_toldOf_3 4 rfl rfl)
theorem dX1_toldOf_59 : decode cX1_toldOf 59 = .ok (.iload_n 1, 1) := dk_27 (dk_at dksX1_toldOf_3 5 rfl rfl)
theorem dX1_toldOf_60 : decode cX1_toldOf 60 = .ok (.ishr, 1) := dk_122 (dk_at dksX1_toldOf_3 6 rfl rfl)
theorem dX1_toldOf_61 : decode cX1_toldOf 61 = .ok (.iconst 1, 1) := dk_4 (dk_at dksX1_toldOf_3 7 rfl rfl)
theorem dX1_toldOf_62 : decode cX1_toldOf 62 = .ok (.iand, 1) := dk_126 (dk_at dksX1_toldOf_3 8 rfl rfl)
theorem dX1_toldOf_63 : decode cX1_toldOf 63 = .ok (.ireturn, 1) := dk_172 (dk_at dksX1_toldOf_3 9 rfl rfl)
theorem dX1_toldOf_64 : decode cX1_toldOf 64 = .ok (.aload_n 0, 1) := dk_42 (dk_at dksX1_toldOf_3 10 rfl rfl)
theorem dX1_toldOf_65 : decode cX1_toldOf 65 = .ok (.aload_n 0, 1) := dk_42 (dk_at dksX1_toldOf_3 11 rfl rfl)
theorem dX1_toldOf_66 : decode cX1_toldOf 66 = .ok (.getfield 16, 3) := dk_180 0 16 (dk_at dksX1_toldOf_3 12 rfl rfl)
theorem dX1_toldOf_69 : decode cX1_toldOf 69 = .ok (.iload_n 1, 1) := dk_27 (dk_at dksX1_toldOf_3 15 rfl rfl)
theorem dX1_toldOf_70 : decode cX1_toldOf 70 = .ok (.iaload, 1) := dk_46 (dk_at dksX1_toldOf_3 16 rfl rfl)
theorem dX1_toldOf_71 : decode cX1_toldOf 71 = .ok (.aload_n 0, 1) := dk_42 (dk_at dksX1_toldOf_3 17 rfl rfl)
theorem dX1_toldOf_72 : decode cX1_toldOf 72 = .ok (.getfield 19, 3) := dk_180 0 19 (dk_at dksX1_toldOf_3 18 rfl rfl)
theorem dX1_toldOf_75 : decode cX1_toldOf 75 = .ok (.iload_n 1, 1) := dk_27 (dk_at dksX1_toldOf_3 21 rfl rfl)
theorem dX1_toldOf_76 : decode cX1_toldOf 76 = .ok (.iaload, 1) := dk_46 (dk_at dksX1_toldOf_3 22 rfl rfl)
theorem dX1_toldOf_77 : decode cX1_toldOf 77 = .ok (.aload_n 0, 1) := dk_42 (dk_at dksX1_toldOf_3 23 rfl rfl)
theorem dX1_toldOf_78 : decode cX1_toldOf 78 = .ok (.getfield 22, 3) := dk_180 0 22 (dk_at dksX1_toldOf_4 0 rfl rfl)
theorem dX1_toldOf_81 : decode cX1_toldOf 81 = .ok (.iload_n 1, 1) := dk_27 (dk_at dksX1_toldOf_4 3 rfl rfl)
theorem dX1_toldOf_82 : decode cX1_toldOf 82 = .ok (.iaload, 1) := dk_46 (dk_at dksX1_toldOf_4 4 rfl rfl)
theorem dX1_toldOf_83 : decode cX1_toldOf 83 = .ok (.invokevirtual 190, 3) := dk_182 0 190 (dk_at dksX1_toldOf_4 5 rfl rfl)
theorem dX1_toldOf_86 : decode cX1_toldOf 86 = .ok (.ireturn, 1) := dk_172 (dk_at dksX1_toldOf_4 8 rfl rfl)
abbrev cX1_heldMany : ByteArray := prog_10_method_48_code
def yX1_heldMany : MethodName := ⟨RX1, "heldMany", "(III)I"⟩
def dkwX1_heldMany_1 : List UInt8 := [182, 0, 178, 153, 0, 7, 4, 167, 0, 4, 3, 96, 54, 4, 132, 5, 1, 167, 255, 222, 21, 4, 172]
abbrev dktX1_heldMany_1 : List UInt8 := dkwX1_heldMany_1 ++ []
def dkwX1_heldMany_0 : List UInt8 := [3, 54, 4, 3, 54, 5, 21, 5, 42, 182, 0, 150, 162, 0, 31, 21, 4, 42, 27, 28, 29, 21, 5]
abbrev dktX1_heldMany_0 : List UInt8 := dkwX1_heldMany_0 ++ dktX1_heldMany_1
theorem dksX1_heldMany_0 : cX1_heldMany.data.toList.drop 0 = dktX1_heldMany_0 := by decide +kernel
theorem dksX1_heldMany_1 : cX1_heldMany.data.toList.drop 23 = dktX1_heldMany_1 := dk_seg dksX1_heldMany_0 23 rfl rfl
theorem dX1_heldMany_0 : decode cX1_heldMany 0 = .ok (.iconst 0, 1) := dk_3 (dk_at dksX1_heldMany_0 0 rfl rfl)
theorem dX1_heldMany_1 : decode cX1_heldMany 1 = .ok (.istore 4, 2) := dk_54 4 (dk_at dksX1_heldMany_0 1 rfl rfl)
theorem dX1_heldMany_3 : decode cX1_heldMany 3 = .ok (.iconst 0, 1) := dk_3 (dk_at dksX1_heldMany_0 3 rfl rfl)
theorem dX1_heldMany_4 : decode cX1_heldMany 4 = .ok (.istore 5, 2) := dk_54 5 (dk_at dksX1_heldMany_0 4 rfl rfl)
theorem dX1_heldMany_6 : decode cX1_heldMany 6 = .ok (.iload 5, 2) := dk_21 5 (dk_at dksX1_heldMany_0 6 rfl rfl)
theorem dX1_heldMany_8 : decode cX1_heldMany 8 = .ok (.aload_n 0, 1) := dk_42 (dk_at dksX1_heldMany_0 8 rfl rfl)
theorem dX1_heldMany_9 : decode cX1_heldMany 9 = .ok (.invokevirtual 150, 3) := dk_182 0 150 (dk_at dksX1_heldMany_0 9 rfl rfl)
theorem dX1_heldMany_12 : decode cX1_heldMany 12 = .ok (.if_icmp .ge 31, 3) := dk_162 0 31 (dk_at dksX1_heldMany_0 12 rfl rfl)
theorem dX1_heldMany_15 : decode cX1_heldMany 15 = .ok (.iload 4, 2) := dk_21 4 (dk_at dksX1_heldMany_0 15 rfl rfl)
theorem dX1_heldMany_17 : decode cX1_heldMany 17 = .ok (.aload_n 0, 1) := dk_42 (dk_at dksX1_heldMany_0 17 rfl rfl)
theorem dX1_heldMany_18 : decode cX1_heldMany 18 = .ok (.iload_n 1, 1) := dk_27 (dk_at dksX1_heldMany_0 18 rfl rfl)
theorem dX1_heldMany_19 : decode cX1_heldMany 19 = .ok (.iload_n 2, 1) := dk_28 (dk_at dksX1_heldMany_0 19 rfl rfl)
theorem dX1_heldMany_20 : decode cX1_heldMany 20 = .ok (.iload_n 3, 1) := dk_29 (dk_at dksX1_heldMany_0 20 rfl rfl)
theorem dX1_heldMany_21 : decode cX1_heldMany 21 = .ok (.iload 5, 2) := dk_21 5 (dk_at dksX1_heldMany_0 21 rfl rfl)
theorem dX1_heldMany_23 : decode cX1_heldMany 23 = .ok (.invokevirtual 178, 3) := dk_182 0 178 (dk_at dksX1_heldMany_1 0 rfl rfl)
theorem dX1_heldMany_26 : decode cX1_heldMany 26 = .ok (.ifCond .eq 7, 3) := dk_153 0 7 (dk_at dksX1_heldMany_1 3 rfl rfl)
theorem dX1_heldMany_29 : decode cX1_heldMany 29 = .ok (.iconst 1, 1) := dk_4 (dk_at dksX1_heldMany_1 6 rfl rfl)
theorem dX1_heldMany_30 : decode cX1_heldMany 30 = .ok (.goto 4, 3) := dk_167 0 4 (dk_at dksX1_heldMany_1 7 rfl rfl)
theorem dX1_heldMany_33 : decode cX1_heldMany 33 = .ok (.iconst 0, 1) := dk_3 (dk_at dksX1_heldMany_1 10 rfl rfl)
theorem dX1_heldMany_34 : decode cX1_heldMany 34 = .ok (.iadd, 1) := dk_96 (dk_at dksX1_heldMany_1 11 rfl rfl)
theorem dX1_heldMany_35 : decode cX1_heldMany 35 = .ok (.istore 4, 2) := dk_54 4 (dk_at dksX1_heldMany_1 12 rfl rfl)
theorem dX1_heldMany_37 : decode cX1_heldMany 37 = .ok (.iinc 5 1, 3) := dk_132 5 1 (dk_at dksX1_heldMany_1 14 rfl rfl)
theorem dX1_heldMany_40 : decode cX1_heldMany 40 = .ok (.goto (-34), 3) := dk_167 255 222 (dk_at dksX1_heldMany_1 17 rfl rfl)
theorem dX1_heldMany_43 : decode cX1_heldMany 43 = .ok (.iload 4, 2) := dk_21 4 (dk_at dksX1_heldMany_1 20 rfl rfl)
theorem dX1_heldMany_45 : decode cX1_heldMany 45 = .ok (.ireturn, 1) := dk_172 (dk_at dksX1_heldMany_1 22 rfl rfl)
abbrev cX1_ways : ByteArray := prog_10_method_33_code
def yX1_ways : MethodName := ⟨RX1, "ways", "()I"⟩
def dkwX1_ways_0 : List UInt8 := [4, 42, 180, 0, 147, 120, 172]
abbrev dktX1_ways_0 : List UInt8 := dkwX1_ways_0 ++ []
theorem dksX1_ways_0 : cX1_ways.data.toList.drop 0 = dktX1_ways_0 := by decide +kernel
theorem dX1_ways_0 : decode cX1_ways 0 = .ok (.iconst 1, 1) := dk_4 (dk_at dksX1_ways_0 0 rfl rfl)
theorem dX1_ways_1 : decode cX1_ways 1 = .ok (.aload_n 0, 1) := dk_42 (dk_at dksX1_ways_0 1 rfl rfl)
theorem dX1_ways_2 : decode cX1_ways 2 = .ok (.getfield 147, 3) := dk_180 0 147 (dk_at dksX1_ways_0 2 rfl rfl)
theorem dX1_ways_5 : decode cX1_ways 5 = .ok (.ishl, 1) := dk_120 (dk_at dksX1_ways_0 5 rfl rfl)
theorem dX1_ways_6 : decode cX1_ways 6 = .ok (.ireturn, 1) := dk_172 (dk_at dksX1_ways_0 6 rfl rfl)
abbrev cX1_holdsOf : ByteArray := prog_10_method_42_code
def yX1_holdsOf : MethodName := ⟨RX1, "holdsOf", "(IIII)Z"⟩
def dkwX1_holdsOf_7 : List UInt8 := [21, 4, 28, 182, 0, 169, 172]
abbrev dktX1_holdsOf_7 : List UInt8 := dkwX1_holdsOf_7 ++ []
def dkwX1_holdsOf_6 : List UInt8 := [182, 0, 169, 153, 0, 17, 42, 21, 4, 29, 182, 0, 175, 153, 0, 7, 4, 167, 0, 4, 3, 172, 42]
abbrev dktX1_holdsOf_6 : List UInt8 := dkwX1_holdsOf_6 ++ dktX1_holdsOf_7
def dkwX1_holdsOf_5 : List UInt8 := [42, 42, 28, 182, 0, 172, 28, 182, 0, 166, 153, 0, 7, 4, 167, 0, 4, 3, 172, 42, 21, 4, 28]
abbrev dktX1_holdsOf_5 : List UInt8 := dkwX1_holdsOf_5 ++ dktX1_holdsOf_6
def dkwX1_holdsOf_4 : List UInt8 := [154, 0, 7, 4, 167, 0, 4, 3, 172, 42, 21, 4, 28, 182, 0, 157, 42, 28, 182, 0, 172, 160, 0, 20]
abbrev dktX1_holdsOf_4 : List UInt8 := dkwX1_holdsOf_4 ++ dktX1_holdsOf_5
def dkwX1_holdsOf_3 : List UInt8 := [21, 4, 29, 182, 0, 169, 153, 0, 7, 4, 167, 0, 4, 3, 172, 42, 21, 4, 28, 182, 0, 169]
abbrev dktX1_holdsOf_3 : List UInt8 := dkwX1_holdsOf_3 ++ dktX1_holdsOf_4
def dkwX1_holdsOf_2 : List UInt8 := [42, 42, 21, 4, 28, 182, 0, 157, 28, 182, 0, 166, 172, 42, 21, 4, 28, 182, 0, 169, 153, 0, 17, 42]
abbrev dktX1_holdsOf_2 : List UInt8 := dkwX1_holdsOf_2 ++ dktX1_holdsOf_3
def dkwX1_holdsOf_1 : List UInt8 := [170, 0, 0, 0, 0, 0, 150, 0, 0, 0, 1, 0, 0, 0, 5, 0, 0, 0, 35, 0, 0, 0, 48, 0, 0, 0, 74, 0, 0, 0, 90, 0, 0, 0, 124]
abbrev dktX1_holdsOf_1 : List UInt8 := dkwX1_holdsOf_1 ++ dktX1_holdsOf_2
def dkwX1_holdsOf_0 : List UInt8 := [27]
abbrev dktX1_holdsOf_0 : List UInt8 := dkwX1_holdsOf_0 ++ dktX1_holdsOf_1
theorem dksX1_holdsOf_0 : cX1_holdsOf.data.toList.drop 0 = dktX1_holdsOf_0 := by decide +kernel
theorem dksX1_holdsOf_1 : cX1_holdsOf.data.toList.drop 1 = dktX1_holdsOf_1 := dk_seg dksX1_holdsOf_0 1 rfl rfl
theorem dksX1_holdsOf_2 : cX1_holdsOf.data.toList.drop 36 = dktX1_holdsOf_2 := dk_seg dksX1_holdsOf_1 35 rfl rfl
theorem dksX1_holdsOf_3 : cX1_holdsOf.data.toList.drop 60 = dktX1_holdsOf_3 := dk_seg dksX1_holdsOf_2 24 rfl rfl
theorem dksX1_holdsOf_4 : cX1_holdsOf.data.toList.drop 82 = dktX1_holdsOf_4 := dk_seg dksX1_holdsOf_3 22 rfl rfl
theorem dksX1_holdsOf_5 : cX1_holdsOf.data.toList.drop 106 = dktX1_holdsOf_5 := dk_seg dksX1_holdsOf_4 24 rfl rfl
theorem dksX1_holdsOf_6 : cX1_holdsOf.data.toList.drop 129 = dktX1_holdsOf_6 := dk_seg dksX1_holdsOf_5 23 rfl rfl
theorem dksX1_holdsOf_7 : cX1_holdsOf.data.toList.drop 152 = dktX1_holdsOf_7 := dk_seg dksX1_holdsOf_6 23 rfl rfl
theorem dX1_holdsOf_0 : decode cX1_holdsOf 0 = .ok (.iload_n 1, 1) := dk_27 (dk_at dksX1_holdsOf_0 0 rfl rfl)
theorem dX1_holdsOf_1 : decode cX1_holdsOf 1 = .ok (.tableswitch 150 1 5 #[35, 48, 74, 90, 124], 35) := by decide +kernel
theorem dX1_holdsOf_36 : decode cX1_holdsOf 36 = .ok (.aload_n 0, 1) := dk_42 (dk_at dksX1_holdsOf_2 0 rfl rfl)
theorem dX1_holdsOf_37 : decode cX1_holdsOf 37 = .ok (.aload_n 0, 1) := dk_42 (dk_at dksX1_holdsOf_2 1 rfl rfl)
theorem dX1_holdsOf_38 : decode cX1_holdsOf 38 = .ok (.iload 4, 2) := dk_21 4 (dk_at dksX1_holdsOf_2 2 rfl rfl)
theorem dX1_holdsOf_40 : decode cX1_holdsOf 40 = .ok (.iload_n 2, 1) := dk_28 (dk_at dksX1_holdsOf_2 4 rfl rfl)
theorem dX1_holdsOf_41 : decode cX1_holdsOf 41 = .ok (.invokevirtual 157, 3) := dk_182 0 157 (dk_at dksX1_holdsOf_2 5 rfl rfl)
theorem dX1_holdsOf_44 : decode cX1_holdsOf 44 = .ok (.iload_n 2, 1) := dk_28 (dk_at dksX1_holdsOf_2 8 rfl rfl)
theorem dX1_holdsOf_45 : decode cX1_holdsOf 45 = .ok (.invokevirtual 166, 3) := dk_182 0 166 (dk_at dksX1_holdsOf_2 9 rfl rfl)
theorem dX1_holdsOf_48 : decode cX1_holdsOf 48 = .ok (.ireturn, 1) := dk_172 (dk_at dksX1_holdsOf_2 12 rfl rfl)
theorem dX1_holdsOf_49 : decode cX1_holdsOf 49 = .ok (.aload_n 0, 1) := dk_42 (dk_at dksX1_holdsOf_2 13 rfl rfl)
theorem dX1_holdsOf_50 : decode cX1_holdsOf 50 = .ok (.iload 4, 2) := dk_21 4 (dk_at dksX1_holdsOf_2 14 rfl rfl)
theorem dX1_holdsOf_52 : decode cX1_holdsOf 52 = .ok (.iload_n 2, 1) := dk_28 (dk_at dksX1_holdsOf_2 16 rfl rfl)
theorem dX1_holdsOf_53 : decode cX1_holdsOf 53 = .ok (.invokevirtual 169, 3) := dk_182 0 169 (dk_at dksX1_holdsOf_2 17 rfl rfl)
theorem dX1_holdsOf_56 : decode cX1_holdsOf 56 = .ok (.ifCond .eq 17, 3) := dk_153 0 17 (dk_at dksX1_holdsOf_2 20 rfl rfl)
theorem dX1_holdsOf_59 : decode cX1_holdsOf 59 = .ok (.aload_n 0, 1) := dk_42 (dk_at dksX1_holdsOf_2 23 rfl rfl)
theorem dX1_holdsOf_60 : decode cX1_holdsOf 60 = .ok (.iload 4, 2) := dk_21 4 (dk_at dksX1_holdsOf_3 0 rfl rfl)
theorem dX1_holdsOf_62 : decode cX1_holdsOf 62 = .ok (.iload_n 3, 1) := dk_29 (dk_at dksX1_holdsOf_3 2 rfl rfl)
theorem dX1_holdsOf_63 : decode cX1_holdsOf 63 = .ok (.invokevirtual 169, 3) := dk_182 0 169 (dk_at dksX1_holdsOf_3 3 rfl rfl)
theorem dX1_holdsOf_66 : decode cX1_holdsOf 66 = .ok (.ifCond .eq 7, 3) := dk_153 0 7 (dk_at dksX1_holdsOf_3 6 rfl rfl)
theorem dX1_holdsOf_69 : decode cX1_holdsOf 69 = .ok (.iconst 1, 1) := dk_4 (dk_at dksX1_holdsOf_3 9 rfl rfl)
theorem dX1_holdsOf_70 : decode cX1_holdsOf 70 = .ok (.goto 4, 3) := dk_167 0 4 (dk_at dksX1_holdsOf_3 10 rfl rfl)
theorem dX1_holdsOf_73 : decode cX1_holdsOf 73 = .ok (.iconst 0, 1) := dk_3 (dk_at dksX1_holdsOf_3 13 rfl rfl)
theorem dX1_holdsOf_74 : decode cX1_holdsOf 74 = .ok (.ireturn, 1) := dk_172 (dk_at dksX1_holdsOf_3 14 rfl rfl)
theorem dX1_holdsOf_75 : decode cX1_holdsOf 75 = .ok (.aload_n 0, 1) := dk_42 (dk_at dksX1_holdsOf_3 15 rfl rfl)
theorem dX1_holdsOf_76 : decode cX1_holdsOf 76 = .ok (.iload 4, 2) := dk_21 4 (dk_at dksX1_holdsOf_3 16 rfl rfl)
theorem dX1_holdsOf_78 : decode cX1_holdsOf 78 = .ok (.iload_n 2, 1) := dk_28 (dk_at dksX1_holdsOf_3 18 rfl rfl)
theorem dX1_holdsOf_79 : decode cX1_holdsOf 79 = .ok (.invokevirtual 169, 3) := dk_182 0 169 (dk_at dksX1_holdsOf_3 19 rfl rfl)
theorem dX1_holdsOf_82 : decode cX1_holdsOf 82 = .ok (.ifCond .ne 7, 3) := dk_154 0 7 (dk_at dksX1_holdsOf_4 0 rfl rfl)
theorem dX1_holdsOf_85 : decode cX1_holdsOf 85 = .ok (.iconst 1, 1) := dk_4 (dk_at dksX1_holdsOf_4 3 rfl rfl)
theorem dX1_holdsOf_86 : decode cX1_holdsOf 86 = .ok (.goto 4, 3) := dk_167 0 4 (dk_at dksX1_holdsOf_4 4 rfl rfl)
theorem dX1_holdsOf_89 : decode cX1_holdsOf 89 = .ok (.iconst 0, 1) := dk_3 (dk_at dksX1_holdsOf_4 7 rfl rfl)
theorem dX1_holdsOf_90 : decode cX1_holdsOf 90 = .ok (.ireturn, 1) := dk_172 (dk_at dksX1_holdsOf_4 8 rfl rfl)
theorem dX1_holdsOf_91 : decode cX1_holdsOf 91 = .ok (.aload_n 0, 1) := dk_42 (dk_at dksX1_holdsOf_4 9 rfl rfl)
theorem dX1_holdsOf_92 : decode cX1_holdsOf 92 = .ok (.iload 4, 2) := dk_21 4 (dk_at dksX1_holdsOf_4 10 rfl rfl)
theorem dX1_holdsOf_94 : decode cX1_holdsOf 94 = .ok (.iload_n 2, 1) := dk_28 (dk_at dksX1_holdsOf_4 12 rfl rfl)
theorem dX1_holdsOf_95 : decode cX1_holdsOf 95 = .ok (.invokevirtual 157, 3) := dk_182 0 157 (dk_at dksX1_holdsOf_4 13 rfl rfl)
theorem dX1_holdsOf_98 : decode cX1_holdsOf 98 = .ok (.aload_n 0, 1) := dk_42 (dk_at dksX1_holdsOf_4 16 rfl rfl)
theorem dX1_holdsOf_99 : decode cX1_holdsOf 99 = .ok (.iload_n 2, 1) := dk_28 (dk_at dksX1_holdsOf_4 17 rfl rfl)
theorem dX1_holdsOf_100 : decode cX1_holdsOf 100 = .ok (.invokevirtual 172, 3) := dk_182 0 172 (dk_at dksX1_holdsOf_4 18 rfl rfl)
theorem dX1_holdsOf_103 : decode cX1_holdsOf 103 = .ok (.if_icmp .ne 20, 3) := dk_160 0 20 (dk_at dksX1_holdsOf_4 21 rfl rfl)
theorem dX1_holdsOf_106 : decode cX1_holdsOf 106 = .ok (.aload_n 0, 1) := dk_42 (dk_at dksX1_holdsOf_5 0 rfl rfl)
theorem dX1_holdsOf_107 : decode cX1_holdsOf 107 = .ok (.aload_n 0, 1) := dk_42 (dk_at dksX1_holdsOf_5 1 rfl rfl)
theorem dX1_holdsOf_108 : decode cX1_holdsOf 108 = .ok (.iload_n 2, 1) := dk_28 (dk_at dksX1_holdsOf_5 2 rfl rfl)
theorem dX1_holdsOf_109 : decode cX1_holdsOf 109 = .ok (.invokevirtual 172, 3) := dk_182 0 172 (dk_at dksX1_holdsOf_5 3 rfl rfl)
theorem dX1_holdsOf_112 : decode cX1_holdsOf 112 = .ok (.iload_n 2, 1) := dk_28 (dk_at dksX1_holdsOf_5 6 rfl rfl)
theorem dX1_holdsOf_113 : decode cX1_holdsOf 113 = .ok (.invokevirtual 166, 3) := dk_182 0 166 (dk_at dksX1_holdsOf_5 7 rfl rfl)
theorem dX1_holdsOf_116 : decode cX1_holdsOf 116 = .ok (.ifCond .eq 7, 3) := dk_153 0 7 (dk_at dksX1_holdsOf_5 10 rfl rfl)
theorem dX1_holdsOf_119 : decode cX1_holdsOf 119 = .ok (.iconst 1, 1) := dk_4 (dk_at dksX1_holdsOf_5 13 rfl rfl)
theorem dX1_holdsOf_120 : decode cX1_holdsOf 120 = .ok (.goto 4, 3) := dk_167 0 4 (dk_at dksX1_holdsOf_5 14 rfl rfl)
theorem dX1_holdsOf_123 : decode cX1_holdsOf 123 = .ok (.iconst 0, 1) := dk_3 (dk_at dksX1_holdsOf_5 17 rfl rfl)
theorem dX1_holdsOf_124 : decode cX1_holdsOf 124 = .ok (.ireturn, 1) := dk_172 (dk_at dksX1_holdsOf_5 18 rfl rfl)
theorem dX1_holdsOf_125 : decode cX1_holdsOf 125 = .ok (.aload_n 0, 1) := dk_42 (dk_at dksX1_holdsOf_5 19 rfl rfl)
theorem dX1_holdsOf_126 : decode cX1_holdsOf 126 = .ok (.iload 4, 2) := dk_21 4 (dk_at dksX1_holdsOf_5 20 rfl rfl)
theorem dX1_holdsOf_128 : decode cX1_holdsOf 128 = .ok (.iload_n 2, 1) := dk_28 (dk_at dksX1_holdsOf_5 22 rfl rfl)
theorem dX1_holdsOf_129 : decode cX1_holdsOf 129 = .ok (.invokevirtual 169, 3) := dk_182 0 169 (dk_at dksX1_holdsOf_6 0 rfl rfl)
theorem dX1_holdsOf_132 : decode cX1_holdsOf 132 = .ok (.ifCond .eq 17, 3) := dk_153 0 17 (dk_at dksX1_holdsOf_6 3 rfl rfl)
theorem dX1_holdsOf_135 : decode cX1_holdsOf 135 = .ok (.aload_n 0, 1) := dk_42 (dk_at dksX1_holdsOf_6 6 rfl rfl)
theorem dX1_holdsOf_136 : decode cX1_holdsOf 136 = .ok (.iload 4, 2) := dk_21 4 (dk_at dksX1_holdsOf_6 7 rfl rfl)
theorem dX1_holdsOf_138 : decode cX1_holdsOf 138 = .ok (.iload_n 3, 1) := dk_29 (dk_at dksX1_holdsOf_6 9 rfl rfl)
theorem dX1_holdsOf_139 : decode cX1_holdsOf 139 = .ok (.invokevirtual 175, 3) := dk_182 0 175 (dk_at dksX1_holdsOf_6 10 rfl rfl)
theorem dX1_holdsOf_142 : decode cX1_holdsOf 142 = .ok (.ifCond .eq 7, 3) := dk_153 0 7 (dk_at dksX1_holdsOf_6 13 rfl rfl)
theorem dX1_holdsOf_145 : decode cX1_holdsOf 145 = .ok (.iconst 1, 1) := dk_4 (dk_at dksX1_holdsOf_6 16 rfl rfl)
theorem dX1_holdsOf_146 : decode cX1_holdsOf 146 = .ok (.goto 4, 3) := dk_167 0 4 (dk_at dksX1_holdsOf_6 17 rfl rfl)
theorem dX1_holdsOf_149 : decode cX1_holdsOf 149 = .ok (.iconst 0, 1) := dk_3 (dk_at dksX1_holdsOf_6 20 rfl rfl)
theorem dX1_holdsOf_150 : decode cX1_holdsOf 150 = .ok (.ireturn, 1) := dk_172 (dk_at dksX1_holdsOf_6 21 rfl rfl)
theorem dX1_holdsOf_151 : decode cX1_holdsOf 151 = .ok (.aload_n 0, 1) := dk_42 (dk_at dksX1_holdsOf_6 22 rfl rfl)
theorem dX1_holdsOf_152 : decode cX1_holdsOf 152 = .ok (.iload 4, 2) := dk_21 4 (dk_at dksX1_holdsOf_7 0 rfl rfl)
theorem dX1_holdsOf_154 : decode cX1_holdsOf 154 = .ok (.iload_n 2, 1) := dk_28 (dk_at dksX1_holdsOf_7 2 rfl rfl)
theorem dX1_holdsOf_155 : decode cX1_holdsOf 155 = .ok (.invokevirtual 169, 3) := dk_182 0 169 (dk_at dksX1_holdsOf_7 3 rfl rfl)
theorem dX1_holdsOf_158 : decode cX1_holdsOf 158 = .ok (.ireturn, 1) := dk_172 (dk_at dksX1_holdsOf_7 6 rfl rfl)
abbrev cX1_valueOf : ByteArray := prog_10_method_35_code
def yX1_valueOf : MethodName := ⟨RX1, "valueOf", "(II)I"⟩
def dkwX1_valueOf_2 : List UInt8 := [8, 164, 0, 7, 8, 167, 0, 4, 29, 172]
abbrev dktX1_valueOf_2 : List UInt8 := dkwX1_valueOf_2 ++ []
def dkwX1_valueOf_1 : List UInt8 := [42, 180, 0, 13, 8, 21, 4, 104, 28, 96, 46, 167, 0, 4, 3, 96, 62, 132, 4, 1, 167, 255, 217, 29]
abbrev dktX1_valueOf_1 : List UInt8 := dkwX1_valueOf_1 ++ dktX1_valueOf_2
def dkwX1_valueOf_0 : List UInt8 := [3, 62, 3, 54, 4, 21, 4, 42, 180, 0, 147, 162, 0, 36, 29, 27, 21, 4, 184, 0, 153, 153, 0, 17]
abbrev dktX1_valueOf_0 : List UInt8 := dkwX1_valueOf_0 ++ dktX1_valueOf_1
theorem dksX1_valueOf_0 : cX1_valueOf.data.toList.drop 0 = dktX1_valueOf_0 := by decide +kernel
theorem dksX1_valueOf_1 : cX1_valueOf.data.toList.drop 24 = dktX1_valueOf_1 := dk_seg dksX1_valueOf_0 24 rfl rfl
theorem dksX1_valueOf_2 : cX1_valueOf.data.toList.drop 48 = dktX1_valueOf_2 := dk_seg dksX1_valueOf_1 24 rfl rfl
theorem dX1_valueOf_0 : decode cX1_valueOf 0 = .ok (.iconst 0, 1) := dk_3 (dk_at dksX1_valueOf_0 0 rfl rfl)
theorem dX1_valueOf_1 : decode cX1_valueOf 1 = .ok (.istore_n 3, 1) := dk_62 (dk_at dksX1_valueOf_0 1 rfl rfl)
theorem dX1_valueOf_2 : decode cX1_valueOf 2 = .ok (.iconst 0, 1) := dk_3 (dk_at dksX1_valueOf_0 2 rfl rfl)
theorem dX1_valueOf_3 : decode cX1_valueOf 3 = .ok (.istore 4, 2) := dk_54 4 (dk_at dksX1_valueOf_0 3 rfl rfl)
theorem dX1_valueOf_5 : decode cX1_valueOf 5 = .ok (.iload 4, 2) := dk_21 4 (dk_at dksX1_valueOf_0 5 rfl rfl)
theorem dX1_valueOf_7 : decode cX1_valueOf 7 = .ok (.aload_n 0, 1) := dk_42 (dk_at dksX1_valueOf_0 7 rfl rfl)
theorem dX1_valueOf_8 : decode cX1_valueOf 8 = .ok (.getfield 147, 3) := dk_180 0 147 (dk_at dksX1_valueOf_0 8 rfl rfl)
theorem dX1_valueOf_11 : decode cX1_valueOf 11 = .ok (.if_icmp .ge 36, 3) := dk_162 0 36 (dk_at dksX1_valueOf_0 11 rfl rfl)
theorem dX1_valueOf_14 : decode cX1_valueOf 14 = .ok (.iload_n 3, 1) := dk_29 (dk_at dksX1_valueOf_0 14 rfl rfl)
theorem dX1_valueOf_15 : decode cX1_valueOf 15 = .ok (.iload_n 1, 1) := dk_27 (dk_at dksX1_valueOf_0 15 rfl rfl)
theorem dX1_valueOf_16 : decode cX1_valueOf 16 = .ok (.iload 4, 2) := dk_21 4 (dk_at dksX1_valueOf_0 16 rfl rfl)
theorem dX1_valueOf_18 : decode cX1_valueOf 18 = .ok (.invokestatic 153, 3) := dk_184 0 153 (dk_at dksX1_valueOf_0 18 rfl rfl)
theorem dX1_valueOf_21 : decode cX1_valueOf 21 = .ok (.ifCond .eq 17, 3) := dk_153 0 17 (dk_at dksX1_valueOf_0 21 rfl rfl)
theorem dX1_valueOf_24 : decode cX1_valueOf 24 = .ok (.aload_n 0, 1) := dk_42 (dk_at dksX1_valueOf_1 0 rfl rfl)
theorem dX1_valueOf_25 : decode cX1_valueOf 25 = .ok (.getfield 13, 3) := dk_180 0 13 (dk_at dksX1_valueOf_1 1 rfl rfl)
theorem dX1_valueOf_28 : decode cX1_valueOf 28 = .ok (.iconst 5, 1) := dk_8 (dk_at dksX1_valueOf_1 4 rfl rfl)
theorem dX1_valueOf_29 : decode cX1_valueOf 29 = .ok (.iload 4, 2) := dk_21 4 (dk_at dksX1_valueOf_1 5 rfl rfl)
theorem dX1_valueOf_31 : decode cX1_valueOf 31 = .ok (.imul, 1) := dk_104 (dk_at dksX1_valueOf_1 7 rfl rfl)
theorem dX1_valueOf_32 : decode cX1_valueOf 32 = .ok (.iload_n 2, 1) := dk_28 (dk_at dksX1_valueOf_1 8 rfl rfl)
theorem dX1_valueOf_33 : decode cX1_valueOf 33 = .ok (.iadd, 1) := dk_96 (dk_at dksX1_valueOf_1 9 rfl rfl)
theorem dX1_valueOf_34 : decode cX1_valueOf 34 = .ok (.iaload, 1) := dk_46 (dk_at dksX1_valueOf_1 10 rfl rfl)
theorem dX1_valueOf_35 : decode cX1_valueOf 35 = .ok (.goto 4, 3) := dk_167 0 4 (dk_at dksX1_valueOf_1 11 rfl rfl)
theorem dX1_valueOf_38 : decode cX1_valueOf 38 = .ok (.iconst 0, 1) := dk_3 (dk_at dksX1_valueOf_1 14 rfl rfl)
theorem dX1_valueOf_39 : decode cX1_valueOf 39 = .ok (.iadd, 1) := dk_96 (dk_at dksX1_valueOf_1 15 rfl rfl)
theorem dX1_valueOf_40 : decode cX1_valueOf 40 = .ok (.istore_n 3, 1) := dk_62 (dk_at dksX1_valueOf_1 16 rfl rfl)
theorem dX1_valueOf_41 : decode cX1_valueOf 41 = .ok (.iinc 4 1, 3) := dk_132 4 1 (dk_at dksX1_valueOf_1 17 rfl rfl)
theorem dX1_valueOf_44 : decode cX1_valueOf 44 = .ok (.goto (-39), 3) := dk_167 255 217 (dk_at dksX1_valueOf_1 20 rfl rfl)
theorem dX1_valueOf_47 : decode cX1_valueOf 47 = .ok (.iload_n 3, 1) := dk_29 (dk_at dksX1_valueOf_1 23 rfl rfl)
theorem dX1_valueOf_48 : decode cX1_valueOf 48 = .ok (.iconst 5, 1) := dk_8 (dk_at dksX1_valueOf_2 0 rfl rfl)
theorem dX1_valueOf_49 : decode cX1_valueOf 49 = .ok (.if_icmp .le 7, 3) := dk_164 0 7 (dk_at dksX1_valueOf_2 1 rfl rfl)
theorem dX1_valueOf_52 : decode cX1_valueOf 52 = .ok (.iconst 5, 1) := dk_8 (dk_at dksX1_valueOf_2 4 rfl rfl)
theorem dX1_valueOf_53 : decode cX1_valueOf 53 = .ok (.goto 4, 3) := dk_167 0 4 (dk_at dksX1_valueOf_2 5 rfl rfl)
theorem dX1_valueOf_56 : decode cX1_valueOf 56 = .ok (.iload_n 3, 1) := dk_29 (dk_at dksX1_valueOf_2 8 rfl rfl)
theorem dX1_valueOf_57 : decode cX1_valueOf 57 = .ok (.ireturn, 1) := dk_172 (dk_at dksX1_valueOf_2 9 rfl rfl)
abbrev cX1_has : ByteArray := prog_10_method_5_code
def yX1_has : MethodName := ⟨RX1, "has", "(II)Z"⟩
def dkwX1_has_0 : List UInt8 := [26, 27, 122, 4, 126, 4, 160, 0, 7, 4, 167, 0, 4, 3, 172]
abbrev dktX1_has_0 : List UInt8 := dkwX1_has_0 ++ []
theorem dksX1_has_0 : cX1_has.data.toList.drop 0 = dktX1_has_0 := by decide +kernel
theorem dX1_has_0 : decode cX1_has 0 = .ok (.iload_n 0, 1) := dk_26 (dk_at dksX1_has_0 0 rfl rfl)
theorem dX1_has_1 : decode cX1_has 1 = .ok (.iload_n 1, 1) := dk_27 (dk_at dksX1_has_0 1 rfl rfl)
theorem dX1_has_2 : decode cX1_has 2 = .ok (.ishr, 1) := dk_122 (dk_at dksX1_has_0 2 rfl rfl)
theorem dX1_has_3 : decode cX1_has 3 = .ok (.iconst 1, 1) := dk_4 (dk_at dksX1_has_0 3 rfl rfl)
theorem dX1_has_4 : decode cX1_has 4 = .ok (.iand, 1) := dk_126 (dk_at dksX1_has_0 4 rfl rfl)
theorem dX1_has_5 : decode cX1_has 5 = .ok (.iconst 1, 1) := dk_4 (dk_at dksX1_has_0 5 rfl rfl)
theorem dX1_has_6 : decode cX1_has 6 = .ok (.if_icmp .ne 7, 3) := dk_160 0 7 (dk_at dksX1_has_0 6 rfl rfl)
theorem dX1_has_9 : decode cX1_has 9 = .ok (.iconst 1, 1) := dk_4 (dk_at dksX1_has_0 9 rfl rfl)
theorem dX1_has_10 : decode cX1_has 10 = .ok (.goto 4, 3) := dk_167 0 4 (dk_at dksX1_has_0 10 rfl rfl)
theorem dX1_has_13 : decode cX1_has 13 = .ok (.iconst 0, 1) := dk_3 (dk_at dksX1_has_0 13 rfl rfl)
theorem dX1_has_14 : decode cX1_has 14 = .ok (.ireturn, 1) := dk_172 (dk_at dksX1_has_0 14 rfl rfl)
abbrev cX1_isBetween : ByteArray := prog_10_method_40_code
def yX1_isBetween : MethodName := ⟨RX1, "isBetween", "(II)Z"⟩
def dkwX1_isBetween_0 : List UInt8 := [27, 42, 28, 182, 0, 163, 164, 0, 16, 27, 42, 28, 182, 0, 160, 162, 0, 7, 4, 167, 0, 4, 3, 172]
abbrev dktX1_isBetween_0 : List UInt8 := dkwX1_isBetween_0 ++ []
theorem dksX1_isBetween_0 : cX1_isBetween.data.toList.drop 0 = dktX1_isBetween_0 := by decide +kernel
theorem dX1_isBetween_0 : decode cX1_isBetween 0 = .ok (.iload_n 1, 1) := dk_27 (dk_at dksX1_isBetween_0 0 rfl rfl)
theorem dX1_isBetween_1 : decode cX1_isBetween 1 = .ok (.aload_n 0, 1) := dk_42 (dk_at dksX1_isBetween_0 1 rfl rfl)
theorem dX1_isBetween_2 : decode cX1_isBetween 2 = .ok (.iload_n 2, 1) := dk_28 (dk_at dksX1_isBetween_0 2 rfl rfl)
theorem dX1_isBetween_3 : decode cX1_isBetween 3 = .ok (.invokevirtual 163, 3) := dk_182 0 163 (dk_at dksX1_isBetween_0 3 rfl rfl)
theorem dX1_isBetween_6 : decode cX1_isBetween 6 = .ok (.if_icmp .le 16, 3) := dk_164 0 16 (dk_at dksX1_isBetween_0 6 rfl rfl)
theorem dX1_isBetween_9 : decode cX1_isBetween 9 = .ok (.iload_n 1, 1) := dk_27 (dk_at dksX1_isBetween_0 9 rfl rfl)
theorem dX1_isBetween_10 : decode cX1_isBetween 10 = .ok (.aload_n 0, 1) := dk_42 (dk_at dksX1_isBetween_0 10 rfl rfl)
theorem dX1_isBetween_11 : decode cX1_isBetween 11 = .ok (.iload_n 2, 1) := dk_28 (dk_at dksX1_isBetween_0 11 rfl rfl)
theorem dX1_isBetween_12 : decode cX1_isBetween 12 = .ok (.invokevirtual 160, 3) := dk_182 0 160 (dk_at dksX1_isBetween_0 12 rfl rfl)
theorem dX1_isBetween_15 : decode cX1_isBetween 15 = .ok (.if_icmp .ge 7, 3) := dk_162 0 7 (dk_at dksX1_isBetween_0 15 rfl rfl)
theorem dX1_isBetween_18 : decode cX1_isBetween 18 = .ok (.iconst 1, 1) := dk_4 (dk_at dksX1_isBetween_0 18 rfl rfl)
theorem dX1_isBetween_19 : decode cX1_isBetween 19 = .ok (.goto 4, 3) := dk_167 0 4 (dk_at dksX1_isBetween_0 19 rfl rfl)
theorem dX1_isBetween_22 : decode cX1_isBetween 22 = .ok (.iconst 0, 1) := dk_3 (dk_at dksX1_isBetween_0 22 rfl rfl)
theorem dX1_isBetween_23 : decode cX1_isBetween 23 = .ok (.ireturn, 1) := dk_172 (dk_at dksX1_isBetween_0 23 rfl rfl)
abbrev cX1_lowerOf : ByteArray := prog_10_method_36_code
def yX1_lowerOf : MethodName := ⟨RX1, "lowerOf", "(I)I"⟩
def dkwX1_lowerOf_0 : List UInt8 := [42, 180, 0, 7, 5, 5, 27, 104, 96, 46, 172]
abbrev dktX1_lowerOf_0 : List UInt8 := dkwX1_lowerOf_0 ++ []
theorem dksX1_lowerOf_0 : cX1_lowerOf.data.toList.drop 0 = dktX1_lowerOf_0 := by decide +kernel
theorem dX1_lowerOf_0 : decode cX1_lowerOf 0 = .ok (.aload_n 0, 1) := dk_42 (dk_at dksX1_lowerOf_0 0 rfl rfl)
theorem dX1_lowerOf_1 : decode cX1_lowerOf 1 = .ok (.getfield 7, 3) := dk_180 0 7 (dk_at dksX1_lowerOf_0 1 rfl rfl)
theorem dX1_lowerOf_4 : decode cX1_lowerOf 4 = .ok (.iconst 2, 1) := dk_5 (dk_at dksX1_lowerOf_0 4 rfl rfl)
theorem dX1_lowerOf_5 : decode cX1_lowerOf 5 = .ok (.iconst 2, 1) := dk_5 (dk_at dksX1_lowerOf_0 5 rfl rfl)
theorem dX1_lowerOf_6 : decode cX1_lowerOf 6 = .ok (.iload_n 1, 1) := dk_27 (dk_at dksX1_lowerOf_0 6 rfl rfl)
theorem dX1_lowerOf_7 : decode cX1_lowerOf 7 = .ok (.imul, 1) := dk_104 (dk_at dksX1_lowerOf_0 7 rfl rfl)
theorem dX1_lowerOf_8 : decode cX1_lowerOf 8 = .ok (.iadd, 1) := dk_96 (dk_at dksX1_lowerOf_0 8 rfl rfl)
theorem dX1_lowerOf_9 : decode cX1_lowerOf 9 = .ok (.iaload, 1) := dk_46 (dk_at dksX1_lowerOf_0 9 rfl rfl)
theorem dX1_lowerOf_10 : decode cX1_lowerOf 10 = .ok (.ireturn, 1) := dk_172 (dk_at dksX1_lowerOf_0 10 rfl rfl)
abbrev cX1_upperOf : ByteArray := prog_10_method_37_code
def yX1_upperOf : MethodName := ⟨RX1, "upperOf", "(I)I"⟩
def dkwX1_upperOf_0 : List UInt8 := [42, 180, 0, 7, 5, 5, 27, 104, 96, 4, 96, 46, 172]
abbrev dktX1_upperOf_0 : List UInt8 := dkwX1_upperOf_0 ++ []
theorem dksX1_upperOf_0 : cX1_upperOf.data.toList.drop 0 = dktX1_upperOf_0 := by decide +kernel
theorem dX1_upperOf_0 : decode cX1_upperOf 0 = .ok (.aload_n 0, 1) := dk_42 (dk_at dksX1_upperOf_0 0 rfl rfl)
theorem dX1_upperOf_1 : decode cX1_upperOf 1 = .ok (.getfield 7, 3) := dk_180 0 7 (dk_at dksX1_upperOf_0 1 rfl rfl)
theorem dX1_upperOf_4 : decode cX1_upperOf 4 = .ok (.iconst 2, 1) := dk_5 (dk_at dksX1_upperOf_0 4 rfl rfl)
theorem dX1_upperOf_5 : decode cX1_upperOf 5 = .ok (.iconst 2, 1) := dk_5 (dk_at dksX1_upperOf_0 5 rfl rfl)
theorem dX1_upperOf_6 : decode cX1_upperOf 6 = .ok (.iload_n 1, 1) := dk_27 (dk_at dksX1_upperOf_0 6 rfl rfl)
theorem dX1_upperOf_7 : decode cX1_upperOf 7 = .ok (.imul, 1) := dk_104 (dk_at dksX1_upperOf_0 7 rfl rfl)
theorem dX1_upperOf_8 : decode cX1_upperOf 8 = .ok (.iadd, 1) := dk_96 (dk_at dksX1_upperOf_0 8 rfl rfl)
theorem dX1_upperOf_9 : decode cX1_upperOf 9 = .ok (.iconst 1, 1) := dk_4 (dk_at dksX1_upperOf_0 9 rfl rfl)
theorem dX1_upperOf_10 : decode cX1_upperOf 10 = .ok (.iadd, 1) := dk_96 (dk_at dksX1_upperOf_0 10 rfl rfl)
theorem dX1_upperOf_11 : decode cX1_upperOf 11 = .ok (.iaload, 1) := dk_46 (dk_at dksX1_upperOf_0 11 rfl rfl)
theorem dX1_upperOf_12 : decode cX1_upperOf 12 = .ok (.ireturn, 1) := dk_172 (dk_at dksX1_upperOf_0 12 rfl rfl)
abbrev cX1_isMuch : ByteArray := prog_10_method_38_code
def yX1_isMuch : MethodName := ⟨RX1, "isMuch", "(II)Z"⟩
def dkwX1_isMuch_0 : List UInt8 := [42, 27, 28, 182, 0, 157, 42, 28, 182, 0, 160, 161, 0, 7, 4, 167, 0, 4, 3, 172]
abbrev dktX1_isMuch_0 : List UInt8 := dkwX1_isMuch_0 ++ []
theorem dksX1_isMuch_0 : cX1_isMuch.data.toList.drop 0 = dktX1_isMuch_0 := by decide +kernel
theorem dX1_isMuch_0 : decode cX1_isMuch 0 = .ok (.aload_n 0, 1) := dk_42 (dk_at dksX1_isMuch_0 0 rfl rfl)
theorem dX1_isMuch_1 : decode cX1_isMuch 1 = .ok (.iload_n 1, 1) := dk_27 (dk_at dksX1_isMuch_0 1 rfl rfl)
theorem dX1_isMuch_2 : decode cX1_isMuch 2 = .ok (.iload_n 2, 1) := dk_28 (dk_at dksX1_isMuch_0 2 rfl rfl)
theorem dX1_isMuch_3 : decode cX1_isMuch 3 = .ok (.invokevirtual 157, 3) := dk_182 0 157 (dk_at dksX1_isMuch_0 3 rfl rfl)
theorem dX1_isMuch_6 : decode cX1_isMuch 6 = .ok (.aload_n 0, 1) := dk_42 (dk_at dksX1_isMuch_0 6 rfl rfl)
theorem dX1_isMuch_7 : decode cX1_isMuch 7 = .ok (.iload_n 2, 1) := dk_28 (dk_at dksX1_isMuch_0 7 rfl rfl)
theorem dX1_isMuch_8 : decode cX1_isMuch 8 = .ok (.invokevirtual 160, 3) := dk_182 0 160 (dk_at dksX1_isMuch_0 8 rfl rfl)
theorem dX1_isMuch_11 : decode cX1_isMuch 11 = .ok (.if_icmp .lt 7, 3) := dk_161 0 7 (dk_at dksX1_isMuch_0 11 rfl rfl)
theorem dX1_isMuch_14 : decode cX1_isMuch 14 = .ok (.iconst 1, 1) := dk_4 (dk_at dksX1_isMuch_0 14 rfl rfl)
theorem dX1_isMuch_15 : decode cX1_isMuch 15 = .ok (.goto 4, 3) := dk_167 0 4 (dk_at dksX1_isMuch_0 15 rfl rfl)
theorem dX1_isMuch_18 : decode cX1_isMuch 18 = .ok (.iconst 0, 1) := dk_3 (dk_at dksX1_isMuch_0 18 rfl rfl)
theorem dX1_isMuch_19 : decode cX1_isMuch 19 = .ok (.ireturn, 1) := dk_172 (dk_at dksX1_isMuch_0 19 rfl rfl)
abbrev cX1_half : ByteArray := prog_10_method_41_code
def yX1_half : MethodName := ⟨RX1, "half", "(I)I"⟩
def dkwX1_half_0 : List UInt8 := [42, 27, 182, 0, 163, 42, 27, 182, 0, 160, 96, 5, 108, 172]
abbrev dktX1_half_0 : List UInt8 := dkwX1_half_0 ++ []
theorem dksX1_half_0 : cX1_half.data.toList.drop 0 = dktX1_half_0 := by decide +kernel
theorem dX1_half_0 : decode cX1_half 0 = .ok (.aload_n 0, 1) := dk_42 (dk_at dksX1_half_0 0 rfl rfl)
theorem dX1_half_1 : decode cX1_half 1 = .ok (.iload_n 1, 1) := dk_27 (dk_at dksX1_half_0 1 rfl rfl)
theorem dX1_half_2 : decode cX1_half 2 = .ok (.invokevirtual 163, 3) := dk_182 0 163 (dk_at dksX1_half_0 2 rfl rfl)
theorem dX1_half_5 : decode cX1_half 5 = .ok (.aload_n 0, 1) := dk_42 (dk_at dksX1_half_0 5 rfl rfl)
theorem dX1_half_6 : decode cX1_half 6 = .ok (.iload_n 1, 1) := dk_27 (dk_at dksX1_half_0 6 rfl rfl)
theorem dX1_half_7 : decode cX1_half 7 = .ok (.invokevirtual 160, 3) := dk_182 0 160 (dk_at dksX1_half_0 7 rfl rfl)
theorem dX1_half_10 : decode cX1_half 10 = .ok (.iadd, 1) := dk_96 (dk_at dksX1_half_0 10 rfl rfl)
theorem dX1_half_11 : decode cX1_half 11 = .ok (.iconst 2, 1) := dk_5 (dk_at dksX1_half_0 11 rfl rfl)
theorem dX1_half_12 : decode cX1_half 12 = .ok (.idiv, 1) := dk_108 (dk_at dksX1_half_0 12 rfl rfl)
theorem dX1_half_13 : decode cX1_half 13 = .ok (.ireturn, 1) := dk_172 (dk_at dksX1_half_0 13 rfl rfl)
abbrev cX1_isLittle : ByteArray := prog_10_method_39_code
def yX1_isLittle : MethodName := ⟨RX1, "isLittle", "(II)Z"⟩
def dkwX1_isLittle_0 : List UInt8 := [42, 27, 28, 182, 0, 157, 42, 28, 182, 0, 163, 163, 0, 7, 4, 167, 0, 4, 3, 172]
abbrev dktX1_isLittle_0 : List UInt8 := dkwX1_isLittle_0 ++ []
theorem dksX1_isLittle_0 : cX1_isLittle.data.toList.drop 0 = dktX1_isLittle_0 := by decide +kernel
theorem dX1_isLittle_0 : decode cX1_isLittle 0 = .ok (.aload_n 0, 1) := dk_42 (dk_at dksX1_isLittle_0 0 rfl rfl)
theorem dX1_isLittle_1 : decode cX1_isLittle 1 = .ok (.iload_n 1, 1) := dk_27 (dk_at dksX1_isLittle_0 1 rfl rfl)
theorem dX1_isLittle_2 : decode cX1_isLittle 2 = .ok (.iload_n 2, 1) := dk_28 (dk_at dksX1_isLittle_0 2 rfl rfl)
theorem dX1_isLittle_3 : decode cX1_isLittle 3 = .ok (.invokevirtual 157, 3) := dk_182 0 157 (dk_at dksX1_isLittle_0 3 rfl rfl)
theorem dX1_isLittle_6 : decode cX1_isLittle 6 = .ok (.aload_n 0, 1) := dk_42 (dk_at dksX1_isLittle_0 6 rfl rfl)
theorem dX1_isLittle_7 : decode cX1_isLittle 7 = .ok (.iload_n 2, 1) := dk_28 (dk_at dksX1_isLittle_0 7 rfl rfl)
theorem dX1_isLittle_8 : decode cX1_isLittle 8 = .ok (.invokevirtual 163, 3) := dk_182 0 163 (dk_at dksX1_isLittle_0 8 rfl rfl)
theorem dX1_isLittle_11 : decode cX1_isLittle 11 = .ok (.if_icmp .gt 7, 3) := dk_163 0 7 (dk_at dksX1_isLittle_0 11 rfl rfl)
theorem dX1_isLittle_14 : decode cX1_isLittle 14 = .ok (.iconst 1, 1) := dk_4 (dk_at dksX1_isLittle_0 14 rfl rfl)
theorem dX1_isLittle_15 : decode cX1_isLittle 15 = .ok (.goto 4, 3) := dk_167 0 4 (dk_at dksX1_isLittle_0 15 rfl rfl)
theorem dX1_isLittle_18 : decode cX1_isLittle 18 = .ok (.iconst 0, 1) := dk_3 (dk_at dksX1_isLittle_0 18 rfl rfl)
theorem dX1_isLittle_19 : decode cX1_isLittle 19 = .ok (.ireturn, 1) := dk_172 (dk_at dksX1_isLittle_0 19 rfl rfl)
abbrev cX1_mark : ByteArray := prog_10_method_54_code
def yX1_mark : MethodName := ⟨RX1, "mark", "(II)I"⟩
def dkwX1_mark_6 : List UInt8 := [29, 182, 0, 172, 167, 0, 5, 16, 247, 172, 42, 42, 180, 0, 22, 27, 46, 182, 0, 206, 172]
abbrev dktX1_mark_6 : List UInt8 := dkwX1_mark_6 ++ []
def dkwX1_mark_5 : List UInt8 := [182, 0, 160, 172, 42, 29, 182, 0, 203, 172, 42, 42, 29, 182, 0, 172, 29, 182, 0, 166, 153, 0, 11, 42]
abbrev dktX1_mark_5 : List UInt8 := dkwX1_mark_5 ++ dktX1_mark_6
def dkwX1_mark_4 : List UInt8 := [27, 46, 182, 0, 160, 164, 0, 11, 42, 29, 182, 0, 160, 167, 0, 13, 42, 42, 180, 0, 22, 27, 46]
abbrev dktX1_mark_4 : List UInt8 := dkwX1_mark_4 ++ dktX1_mark_5
def dkwX1_mark_3 : List UInt8 := [42, 29, 182, 0, 160, 42, 29, 182, 0, 163, 100, 4, 100, 172, 42, 29, 182, 0, 160, 42, 42, 180, 0, 22]
abbrev dktX1_mark_3 : List UInt8 := dkwX1_mark_3 ++ dktX1_mark_4
def dkwX1_mark_2 : List UInt8 := [170, 0, 0, 0, 0, 0, 112, 0, 0, 0, 1, 0, 0, 0, 4, 0, 0, 0, 31, 0, 0, 0, 45, 0, 0, 0, 82, 0, 0, 0, 88]
abbrev dktX1_mark_2 : List UInt8 := dkwX1_mark_2 ++ dktX1_mark_3
def dkwX1_mark_1 : List UInt8 := [28, 182, 0, 200, 154, 0, 9, 42, 6, 182, 0, 82, 172, 42, 180, 0, 19, 27, 46, 62, 28]
abbrev dktX1_mark_1 : List UInt8 := dkwX1_mark_1 ++ dktX1_mark_2
def dkwX1_mark_0 : List UInt8 := [42, 27, 182, 0, 194, 153, 0, 15, 28, 133, 10, 20, 0, 70, 184, 0, 72, 154, 0, 5, 2, 172, 42, 27]
abbrev dktX1_mark_0 : List UInt8 := dkwX1_mark_0 ++ dktX1_mark_1
theorem dksX1_mark_0 : cX1_mark.data.toList.drop 0 = dktX1_mark_0 := by decide +kernel
theorem dksX1_mark_1 : cX1_mark.data.toList.drop 24 = dktX1_mark_1 := dk_seg dksX1_mark_0 24 rfl rfl
theorem dksX1_mark_2 : cX1_mark.data.toList.drop 45 = dktX1_mark_2 := dk_seg dksX1_mark_1 21 rfl rfl
theorem dksX1_mark_3 : cX1_mark.data.toList.drop 76 = dktX1_mark_3 := dk_seg dksX1_mark_2 31 rfl rfl
theorem dksX1_mark_4 : cX1_mark.data.toList.drop 100 = dktX1_mark_4 := dk_seg dksX1_mark_3 24 rfl rfl
theorem dksX1_mark_5 : cX1_mark.data.toList.drop 123 = dktX1_mark_5 := dk_seg dksX1_mark_4 23 rfl rfl
theorem dksX1_mark_6 : cX1_mark.data.toList.drop 147 = dktX1_mark_6 := dk_seg dksX1_mark_5 24 rfl rfl
theorem dX1_mark_0 : decode cX1_mark 0 = .ok (.aload_n 0, 1) := dk_42 (dk_at dksX1_mark_0 0 rfl rfl)
theorem dX1_mark_1 : decode cX1_mark 1 = .ok (.iload_n 1, 1) := dk_27 (dk_at dksX1_mark_0 1 rfl rfl)
theorem dX1_mark_2 : decode cX1_mark 2 = .ok (.invokevirtual 194, 3) := dk_182 0 194 (dk_at dksX1_mark_0 2 rfl rfl)
theorem dX1_mark_5 : decode cX1_mark 5 = .ok (.ifCond .eq 15, 3) := dk_153 0 15 (dk_at dksX1_mark_0 5 rfl rfl)
theorem dX1_mark_8 : decode cX1_mark 8 = .ok (.iload_n 2, 1) := dk_28 (dk_at dksX1_mark_0 8 rfl rfl)
theorem dX1_mark_9 : decode cX1_mark 9 = .ok (.i2l, 1) := dk_133 (dk_at dksX1_mark_0 9 rfl rfl)
theorem dX1_mark_10 : decode cX1_mark 10 = .ok (.lconst 1, 1) := dk_10 (dk_at dksX1_mark_0 10 rfl rfl)
theorem dX1_mark_11 : decode cX1_mark 11 = .ok (.ldc2_w 70, 3) := dk_20 0 70 (dk_at dksX1_mark_0 11 rfl rfl)
theorem dX1_mark_14 : decode cX1_mark 14 = .ok (.invokestatic 72, 3) := dk_184 0 72 (dk_at dksX1_mark_0 14 rfl rfl)
theorem dX1_mark_17 : decode cX1_mark 17 = .ok (.ifCond .ne 5, 3) := dk_154 0 5 (dk_at dksX1_mark_0 17 rfl rfl)
theorem dX1_mark_20 : decode cX1_mark 20 = .ok (.iconst (-1), 1) := dk_2 (dk_at dksX1_mark_0 20 rfl rfl)
theorem dX1_mark_21 : decode cX1_mark 21 = .ok (.ireturn, 1) := dk_172 (dk_at dksX1_mark_0 21 rfl rfl)
theorem dX1_mark_22 : decode cX1_mark 22 = .ok (.aload_n 0, 1) := dk_42 (dk_at dksX1_mark_0 22 rfl rfl)
theorem dX1_mark_23 : decode cX1_mark 23 = .ok (.iload_n 1, 1) := dk_27 (dk_at dksX1_mark_0 23 rfl rfl)
theorem dX1_mark_24 : decode cX1_mark 24 = .ok (.iload_n 2, 1) := dk_28 (dk_at dksX1_mark_1 0 rfl rfl)
theorem dX1_mark_25 : decode cX1_mark 25 = .ok (.invokevirtual 200, 3) := dk_182 0 200 (dk_at dksX1_mark_1 1 rfl rfl)
theorem dX1_mark_28 : decode cX1_mark 28 = .ok (.ifCond .ne 9, 3) := dk_154 0 9 (dk_at dksX1_mark_1 4 rfl rfl)
theorem dX1_mark_31 : decode cX1_mark 31 = .ok (.aload_n 0, 1) := dk_42 (dk_at dksX1_mark_1 7 rfl rfl)
theorem dX1_mark_32 : decode cX1_mark 32 = .ok (.iconst 3, 1) := dk_6 (dk_at dksX1_mark_1 8 rfl rfl)
theorem dX1_mark_33 : decode cX1_mark 33 = .ok (.invokevirtual 82, 3) := dk_182 0 82 (dk_at dksX1_mark_1 9 rfl rfl)
theorem dX1_mark_36 : decode cX1_mark 36 = .ok (.ireturn, 1) := dk_172 (dk_at dksX1_mark_1 12 rfl rfl)
theorem dX1_mark_37 : decode cX1_mark 37 = .ok (.aload_n 0, 1) := dk_42 (dk_at dksX1_mark_1 13 rfl rfl)
theorem dX1_mark_38 : decode cX1_mark 38 = .ok (.getfield 19, 3) := dk_180 0 19 (dk_at dksX1_mark_1 14 rfl rfl)
theorem dX1_mark_41 : decode cX1_mark 41 = .ok (.iload_n 1, 1) := dk_27 (dk_at dksX1_mark_1 17 rfl rfl)
theorem dX1_mark_42 : decode cX1_mark 42 = .ok (.iaload, 1) := dk_46 (dk_at dksX1_mark_1 18 rfl rfl)
theorem dX1_mark_43 : decode cX1_mark 43 = .ok (.istore_n 3, 1) := dk_62 (dk_at dksX1_mark_1 19 rfl rfl)
theorem dX1_mark_44 : decode cX1_mark 44 = .ok (.iload_n 2, 1) := dk_28 (dk_at dksX1_mark_1 20 rfl rfl)
theorem dX1_mark_45 : decode cX1_mark 45 = .ok (.tableswitch 112 1 4 #[31, 45, 82, 88], 31) := by decide +kernel
theorem dX1_mark_76 : decode cX1_mark 76 = .ok (.aload_n 0, 1) := dk_42 (dk_at dksX1_mark_3 0 rfl rfl)
theorem dX1_mark_77 : decode cX1_mark 77 = .ok (.iload_n 3, 1) := dk_29 (dk_at dksX1_mark_3 1 rfl rfl)
theorem dX1_mark_78 : decode cX1_mark 78 = .ok (.invokevirtual 160, 3) := dk_182 0 160 (dk_at dksX1_mark_3 2 rfl rfl)
theorem dX1_mark_81 : decode cX1_mark 81 = .ok (.aload_n 0, 1) := dk_42 (dk_at dksX1_mark_3 5 rfl rfl)
theorem dX1_mark_82 : decode cX1_mark 82 = .ok (.iload_n 3, 1) := dk_29 (dk_at dksX1_mark_3 6 rfl rfl)
theorem dX1_mark_83 : decode cX1_mark 83 = .ok (.invokevirtual 163, 3) := dk_182 0 163 (dk_at dksX1_mark_3 7 rfl rfl)
theorem dX1_mark_86 : decode cX1_mark 86 = .ok (.isub, 1) := dk_100 (dk_at dksX1_mark_3 10 rfl rfl)
theorem dX1_mark_87 : decode cX1_mark 87 = .ok (.iconst 1, 1) := dk_4 (dk_at dksX1_mark_3 11 rfl rfl)
theorem dX1_mark_88 : decode cX1_mark 88 = .ok (.isub, 1) := dk_100 (dk_at dksX1_mark_3 12 rfl rfl)
theorem dX1_mark_89 : decode cX1_mark 89 = .ok (.ireturn, 1) := dk_172 (dk_at dksX1_mark_3 13 rfl rfl)
theorem dX1_mark_90 : decode cX1_mark 90 = .ok (.aload_n 0, 1) := dk_42 (dk_at dksX1_mark_3 14 rfl rfl)
theorem dX1_mark_91 : decode cX1_mark 91 = .ok (.iload_n 3, 1) := dk_29 (dk_at dksX1_mark_3 15 rfl rfl)
theorem dX1_mark_92 : decode cX1_mark 92 = .ok (.invokevirtual 160, 3) := dk_182 0 160 (dk_at dksX1_mark_3 16 rfl rfl)
theorem dX1_mark_95 : decode cX1_mark 95 = .ok (.aload_n 0, 1) := dk_42 (dk_at dksX1_mark_3 19 rfl rfl)
theorem dX1_mark_96 : decode cX1_mark 96 = .ok (.aload_n 0, 1) := dk_42 (dk_at dksX1_mark_3 20 rfl rfl)
theorem dX1_mark_97 : decode cX1_mark 97 = .ok (.getfield 22, 3) := dk_180 0 22 (dk_at dksX1_mark_3 21 rfl rfl)
theorem dX1_mark_100 : decode cX1_mark 100 = .ok (.iload_n 1, 1) := dk_27 (dk_at dksX1_mark_4 0 rfl rfl)
theorem dX1_mark_101 : decode cX1_mark 101 = .ok (.iaload, 1) := dk_46 (dk_at dksX1_mark_4 1 rfl rfl)
theorem dX1_mark_102 : decode cX1_mark 102 = .ok (.invokevirtual 160, 3) := dk_182 0 160 (dk_at dksX1_mark_4 2 rfl rfl)
theorem dX1_mark_105 : decode cX1_mark 105 = .ok (.if_icmp .le 11, 3) := dk_164 0 11 (dk_at dksX1_mark_4 5 rfl rfl)
theorem dX1_mark_108 : decode cX1_mark 108 = .ok (.aload_n 0, 1) := dk_42 (dk_at dksX1_mark_4 8 rfl rfl)
theorem dX1_mark_109 : decode cX1_mark 109 = .ok (.iload_n 3, 1) := dk_29 (dk_at dksX1_mark_4 9 rfl rfl)
theorem dX1_mark_110 : decode cX1_mark 110 = .ok (.invokevirtual 160, 3) := dk_182 0 160 (dk_at dksX1_mark_4 10 rfl rfl)
theorem dX1_mark_113 : decode cX1_mark 113 = .ok (.goto 13, 3) := dk_167 0 13 (dk_at dksX1_mark_4 13 rfl rfl)
theorem dX1_mark_116 : decode cX1_mark 116 = .ok (.aload_n 0, 1) := dk_42 (dk_at dksX1_mark_4 16 rfl rfl)
theorem dX1_mark_117 : decode cX1_mark 117 = .ok (.aload_n 0, 1) := dk_42 (dk_at dksX1_mark_4 17 rfl rfl)
theorem dX1_mark_118 : decode cX1_mark 118 = .ok (.getfield 22, 3) := dk_180 0 22 (dk_at dksX1_mark_4 18 rfl rfl)
theorem dX1_mark_121 : decode cX1_mark 121 = .ok (.iload_n 1, 1) := dk_27 (dk_at dksX1_mark_4 21 rfl rfl)
theorem dX1_mark_122 : decode cX1_mark 122 = .ok (.iaload, 1) := dk_46 (dk_at dksX1_mark_4 22 rfl rfl)
theorem dX1_mark_123 : decode cX1_mark 123 = .ok (.invokevirtual 160, 3) := dk_182 0 160 (dk_at dksX1_mark_5 0 rfl rfl)
theorem dX1_mark_126 : decode cX1_mark 126 = .ok (.ireturn, 1) := dk_172 (dk_at dksX1_mark_5 3 rfl rfl)
theorem dX1_mark_127 : decode cX1_mark 127 = .ok (.aload_n 0, 1) := dk_42 (dk_at dksX1_mark_5 4 rfl rfl)
theorem dX1_mark_128 : decode cX1_mark 128 = .ok (.iload_n 3, 1) := dk_29 (dk_at dksX1_mark_5 5 rfl rfl)
theorem dX1_mark_129 : decode cX1_mark 129 = .ok (.invokevirtual 203, 3) := dk_182 0 203 (dk_at dksX1_mark_5 6 rfl rfl)
theorem dX1_mark_132 : decode cX1_mark 132 = .ok (.ireturn, 1) := dk_172 (dk_at dksX1_mark_5 9 rfl rfl)
theorem dX1_mark_133 : decode cX1_mark 133 = .ok (.aload_n 0, 1) := dk_42 (dk_at dksX1_mark_5 10 rfl rfl)
theorem dX1_mark_134 : decode cX1_mark 134 = .ok (.aload_n 0, 1) := dk_42 (dk_at dksX1_mark_5 11 rfl rfl)
theorem dX1_mark_135 : decode cX1_mark 135 = .ok (.iload_n 3, 1) := dk_29 (dk_at dksX1_mark_5 12 rfl rfl)
theorem dX1_mark_136 : decode cX1_mark 136 = .ok (.invokevirtual 172, 3) := dk_182 0 172 (dk_at dksX1_mark_5 13 rfl rfl)
theorem dX1_mark_139 : decode cX1_mark 139 = .ok (.iload_n 3, 1) := dk_29 (dk_at dksX1_mark_5 16 rfl rfl)
theorem dX1_mark_140 : decode cX1_mark 140 = .ok (.invokevirtual 166, 3) := dk_182 0 166 (dk_at dksX1_mark_5 17 rfl rfl)
theorem dX1_mark_143 : decode cX1_mark 143 = .ok (.ifCond .eq 11, 3) := dk_153 0 11 (dk_at dksX1_mark_5 20 rfl rfl)
theorem dX1_mark_146 : decode cX1_mark 146 = .ok (.aload_n 0, 1) := dk_42 (dk_at dksX1_mark_5 23 rfl rfl)
theorem dX1_mark_147 : decode cX1_mark 147 = .ok (.iload_n 3, 1) := dk_29 (dk_at dksX1_mark_6 0 rfl rfl)
theorem dX1_mark_148 : decode cX1_mark 148 = .ok (.invokevirtual 172, 3) := dk_182 0 172 (dk_at dksX1_mark_6 1 rfl rfl)
theorem dX1_mark_151 : decode cX1_mark 151 = .ok (.goto 5, 3) := dk_167 0 5 (dk_at dksX1_mark_6 4 rfl rfl)
theorem dX1_mark_154 : decode cX1_mark 154 = .ok (.bipush (-9), 2) := dk_16 247 (dk_at dksX1_mark_6 7 rfl rfl)
theorem dX1_mark_156 : decode cX1_mark 156 = .ok (.ireturn, 1) := dk_172 (dk_at dksX1_mark_6 9 rfl rfl)
theorem dX1_mark_157 : decode cX1_mark 157 = .ok (.aload_n 0, 1) := dk_42 (dk_at dksX1_mark_6 10 rfl rfl)
theorem dX1_mark_158 : decode cX1_mark 158 = .ok (.aload_n 0, 1) := dk_42 (dk_at dksX1_mark_6 11 rfl rfl)
theorem dX1_mark_159 : decode cX1_mark 159 = .ok (.getfield 22, 3) := dk_180 0 22 (dk_at dksX1_mark_6 12 rfl rfl)
theorem dX1_mark_162 : decode cX1_mark 162 = .ok (.iload_n 1, 1) := dk_27 (dk_at dksX1_mark_6 15 rfl rfl)
theorem dX1_mark_163 : decode cX1_mark 163 = .ok (.iaload, 1) := dk_46 (dk_at dksX1_mark_6 16 rfl rfl)
theorem dX1_mark_164 : decode cX1_mark 164 = .ok (.invokevirtual 206, 3) := dk_182 0 206 (dk_at dksX1_mark_6 17 rfl rfl)
theorem dX1_mark_167 : decode cX1_mark 167 = .ok (.ireturn, 1) := dk_172 (dk_at dksX1_mark_6 20 rfl rfl)
abbrev cX1_isOf : ByteArray := prog_10_method_51_code
def yX1_isOf : MethodName := ⟨RX1, "isOf", "(II)Z"⟩
def dkwX1_isOf_1 : List UInt8 := [159, 0, 18, 28, 5, 160, 0, 17, 42, 180, 0, 16, 27, 46, 8, 160, 0, 7, 4, 167, 0, 4, 3, 172]
abbrev dktX1_isOf_1 : List UInt8 := dkwX1_isOf_1 ++ []
def dkwX1_isOf_0 : List UInt8 := [42, 180, 0, 16, 27, 46, 28, 159, 0, 33, 28, 4, 160, 0, 13, 42, 180, 0, 16, 27, 46, 7]
abbrev dktX1_isOf_0 : List UInt8 := dkwX1_isOf_0 ++ dktX1_isOf_1
theorem dksX1_isOf_0 : cX1_isOf.data.toList.drop 0 = dktX1_isOf_0 := by decide +kernel
theorem dksX1_isOf_1 : cX1_isOf.data.toList.drop 22 = dktX1_isOf_1 := dk_seg dksX1_isOf_0 22 rfl rfl
theorem dX1_isOf_0 : decode cX1_isOf 0 = .ok (.aload_n 0, 1) := dk_42 (dk_at dksX1_isOf_0 0 rfl rfl)
theorem dX1_isOf_1 : decode cX1_isOf 1 = .ok (.getfield 16, 3) := dk_180 0 16 (dk_at dksX1_isOf_0 1 rfl rfl)
theorem dX1_isOf_4 : decode cX1_isOf 4 = .ok (.iload_n 1, 1) := dk_27 (dk_at dksX1_isOf_0 4 rfl rfl)
theorem dX1_isOf_5 : decode cX1_isOf 5 = .ok (.iaload, 1) := dk_46 (dk_at dksX1_isOf_0 5 rfl rfl)
theorem dX1_isOf_6 : decode cX1_isOf 6 = .ok (.iload_n 2, 1) := dk_28 (dk_at dksX1_isOf_0 6 rfl rfl)
theorem dX1_isOf_7 : decode cX1_isOf 7 = .ok (.if_icmp .eq 33, 3) := dk_159 0 33 (dk_at dksX1_isOf_0 7 rfl rfl)
theorem dX1_isOf_10 : decode cX1_isOf 10 = .ok (.iload_n 2, 1) := dk_28 (dk_at dksX1_isOf_0 10 rfl rfl)
theorem dX1_isOf_11 : decode cX1_isOf 11 = .ok (.iconst 1, 1) := dk_4 (dk_at dksX1_isOf_0 11 rfl rfl)
theorem dX1_isOf_12 : decode cX1_isOf 12 = .ok (.if_icmp .ne 13, 3) := dk_160 0 13 (dk_at dksX1_isOf_0 12 rfl rfl)
theorem dX1_isOf_15 : decode cX1_isOf 15 = .ok (.aload_n 0, 1) := dk_42 (dk_at dksX1_isOf_0 15 rfl rfl)
theorem dX1_isOf_16 : decode cX1_isOf 16 = .ok (.getfield 16, 3) := dk_180 0 16 (dk_at dksX1_isOf_0 16 rfl rfl)
theorem dX1_isOf_19 : decode cX1_isOf 19 = .ok (.iload_n 1, 1) := dk_27 (dk_at dksX1_isOf_0 19 rfl rfl)
theorem dX1_isOf_20 : decode cX1_isOf 20 = .ok (.iaload, 1) := dk_46 (dk_at dksX1_isOf_0 20 rfl rfl)
theorem dX1_isOf_21 : decode cX1_isOf 21 = .ok (.iconst 4, 1) := dk_7 (dk_at dksX1_isOf_0 21 rfl rfl)
theorem dX1_isOf_22 : decode cX1_isOf 22 = .ok (.if_icmp .eq 18, 3) := dk_159 0 18 (dk_at dksX1_isOf_1 0 rfl rfl)
theorem dX1_isOf_25 : decode cX1_isOf 25 = .ok (.iload_n 2, 1) := dk_28 (dk_at dksX1_isOf_1 3 rfl rfl)
theorem dX1_isOf_26 : decode cX1_isOf 26 = .ok (.iconst 2, 1) := dk_5 (dk_at dksX1_isOf_1 4 rfl rfl)
theorem dX1_isOf_27 : decode cX1_isOf 27 = .ok (.if_icmp .ne 17, 3) := dk_160 0 17 (dk_at dksX1_isOf_1 5 rfl rfl)
theorem dX1_isOf_30 : decode cX1_isOf 30 = .ok (.aload_n 0, 1) := dk_42 (dk_at dksX1_isOf_1 8 rfl rfl)
theorem dX1_isOf_31 : decode cX1_isOf 31 = .ok (.getfield 16, 3) := dk_180 0 16 (dk_at dksX1_isOf_1 9 rfl rfl)
theorem dX1_isOf_34 : decode cX1_isOf 34 = .ok (.iload_n 1, 1) := dk_27 (dk_at dksX1_isOf_1 12 rfl rfl)
theorem dX1_isOf_35 : decode cX1_isOf 35 = .ok (.iaload, 1) := dk_46 (dk_at dksX1_isOf_1 13 rfl rfl)
theorem dX1_isOf_36 : decode cX1_isOf 36 = .ok (.iconst 5, 1) := dk_8 (dk_at dksX1_isOf_1 14 rfl rfl)
theorem dX1_isOf_37 : decode cX1_isOf 37 = .ok (.if_icmp .ne 7, 3) := dk_160 0 7 (dk_at dksX1_isOf_1 15 rfl rfl)
theorem dX1_isOf_40 : decode cX1_isOf 40 = .ok (.iconst 1, 1) := dk_4 (dk_at dksX1_isOf_1 18 rfl rfl)
theorem dX1_isOf_41 : decode cX1_isOf 41 = .ok (.goto 4, 3) := dk_167 0 4 (dk_at dksX1_isOf_1 19 rfl rfl)
theorem dX1_isOf_44 : decode cX1_isOf 44 = .ok (.iconst 0, 1) := dk_3 (dk_at dksX1_isOf_1 22 rfl rfl)
theorem dX1_isOf_45 : decode cX1_isOf 45 = .ok (.ireturn, 1) := dk_172 (dk_at dksX1_isOf_1 23 rfl rfl)
abbrev cX1_muchAlone : ByteArray := prog_10_method_52_code
def yX1_muchAlone : MethodName := ⟨RX1, "muchAlone", "(I)I"⟩
def dkwX1_muchAlone_1 : List UInt8 := [4, 167, 0, 4, 3, 96, 61, 132, 3, 1, 167, 255, 226, 28, 172]
abbrev dktX1_muchAlone_1 : List UInt8 := dkwX1_muchAlone_1 ++ []
def dkwX1_muchAlone_0 : List UInt8 := [3, 61, 3, 62, 29, 42, 180, 0, 147, 162, 0, 28, 28, 42, 4, 29, 120, 27, 182, 0, 169, 153, 0, 7]
abbrev dktX1_muchAlone_0 : List UInt8 := dkwX1_muchAlone_0 ++ dktX1_muchAlone_1
theorem dksX1_muchAlone_0 : cX1_muchAlone.data.toList.drop 0 = dktX1_muchAlone_0 := by decide +kernel
theorem dksX1_muchAlone_1 : cX1_muchAlone.data.toList.drop 24 = dktX1_muchAlone_1 := dk_seg dksX1_muchAlone_0 24 rfl rfl
theorem dX1_muchAlone_0 : decode cX1_muchAlone 0 = .ok (.iconst 0, 1) := dk_3 (dk_at dksX1_muchAlone_0 0 rfl rfl)
theorem dX1_muchAlone_1 : decode cX1_muchAlone 1 = .ok (.istore_n 2, 1) := dk_61 (dk_at dksX1_muchAlone_0 1 rfl rfl)
theorem dX1_muchAlone_2 : decode cX1_muchAlone 2 = .ok (.iconst 0, 1) := dk_3 (dk_at dksX1_muchAlone_0 2 rfl rfl)
theorem dX1_muchAlone_3 : decode cX1_muchAlone 3 = .ok (.istore_n 3, 1) := dk_62 (dk_at dksX1_muchAlone_0 3 rfl rfl)
theorem dX1_muchAlone_4 : decode cX1_muchAlone 4 = .ok (.iload_n 3, 1) := dk_29 (dk_at dksX1_muchAlone_0 4 rfl rfl)
theorem dX1_muchAlone_5 : decode cX1_muchAlone 5 = .ok (.aload_n 0, 1) := dk_42 (dk_at dksX1_muchAlone_0 5 rfl rfl)
theorem dX1_muchAlone_6 : decode cX1_muchAlone 6 = .ok (.getfield 147, 3) := dk_180 0 147 (dk_at dksX1_muchAlone_0 6 rfl rfl)
theorem dX1_muchAlone_9 : decode cX1_muchAlone 9 = .ok (.if_icmp .ge 28, 3) := dk_162 0 28 (dk_at dksX1_muchAlone_0 9 rfl rfl)
theorem dX1_muchAlone_12 : decode cX1_muchAlone 12 = .ok (.iload_n 2, 1) := dk_28 (dk_at dksX1_muchAlone_0 12 rfl rfl)
theorem dX1_muchAlone_13 : decode cX1_muchAlone 13 = .ok (.aload_n 0, 1) := dk_42 (dk_at dksX1_muchAlone_0 13 rfl rfl)
theorem dX1_muchAlone_14 : decode cX1_muchAlone 14 = .ok (.iconst 1, 1) := dk_4 (dk_at dksX1_muchAlone_0 14 rfl rfl)
theorem dX1_muchAlone_15 : decode cX1_muchAlone 15 = .ok (.iload_n 3, 1) := dk_29 (dk_at dksX1_muchAlone_0 15 rfl rfl)
theorem dX1_muchAlone_16 : decode cX1_muchAlone 16 = .ok (.ishl, 1) := dk_120 (dk_at dksX1_muchAlone_0 16 rfl rfl)
theorem dX1_muchAlone_17 : decode cX1_muchAlone 17 = .ok (.iload_n 1, 1) := dk_27 (dk_at dksX1_muchAlone_0 17 rfl rfl)
theorem dX1_muchAlone_18 : decode cX1_muchAlone 18 = .ok (.invokevirtual 169, 3) := dk_182 0 169 (dk_at dksX1_muchAlone_0 18 rfl rfl)
theorem dX1_muchAlone_21 : decode cX1_muchAlone 21 = .ok (.ifCond .eq 7, 3) := dk_153 0 7 (dk_at dksX1_muchAlone_0 21 rfl rfl)
theorem dX1_muchAlone_24 : decode cX1_muchAlone 24 = .ok (.iconst 1, 1) := dk_4 (dk_at dksX1_muchAlone_1 0 rfl rfl)
theorem dX1_muchAlone_25 : decode cX1_muchAlone 25 = .ok (.goto 4, 3) := dk_167 0 4 (dk_at dksX1_muchAlone_1 1 rfl rfl)
theorem dX1_muchAlone_28 : decode cX1_muchAlone 28 = .ok (.iconst 0, 1) := dk_3 (dk_at dksX1_muchAlone_1 4 rfl rfl)
theorem dX1_muchAlone_29 : decode cX1_muchAlone 29 = .ok (.iadd, 1) := dk_96 (dk_at dksX1_muchAlone_1 5 rfl rfl)
theorem dX1_muchAlone_30 : decode cX1_muchAlone 30 = .ok (.istore_n 2, 1) := dk_61 (dk_at dksX1_muchAlone_1 6 rfl rfl)
theorem dX1_muchAlone_31 : decode cX1_muchAlone 31 = .ok (.iinc 3 1, 3) := dk_132 3 1 (dk_at dksX1_muchAlone_1 7 rfl rfl)
theorem dX1_muchAlone_34 : decode cX1_muchAlone 34 = .ok (.goto (-30), 3) := dk_167 255 226 (dk_at dksX1_muchAlone_1 10 rfl rfl)
theorem dX1_muchAlone_37 : decode cX1_muchAlone 37 = .ok (.iload_n 2, 1) := dk_28 (dk_at dksX1_muchAlone_1 13 rfl rfl)
theorem dX1_muchAlone_38 : decode cX1_muchAlone 38 = .ok (.ireturn, 1) := dk_172 (dk_at dksX1_muchAlone_1 14 rfl rfl)
abbrev cX1_littleMany : ByteArray := prog_10_method_53_code
def yX1_littleMany : MethodName := ⟨RX1, "littleMany", "(I)I"⟩
def dkwX1_littleMany_1 : List UInt8 := [167, 0, 4, 3, 96, 61, 132, 3, 1, 167, 255, 228, 28, 172]
abbrev dktX1_littleMany_1 : List UInt8 := dkwX1_littleMany_1 ++ []
def dkwX1_littleMany_0 : List UInt8 := [3, 61, 3, 62, 29, 42, 182, 0, 150, 162, 0, 26, 28, 42, 29, 27, 182, 0, 175, 153, 0, 7, 4]
abbrev dktX1_littleMany_0 : List UInt8 := dkwX1_littleMany_0 ++ dktX1_littleMany_1
theorem dksX1_littleMany_0 : cX1_littleMany.data.toList.drop 0 = dktX1_littleMany_0 := by decide +kernel
theorem dksX1_littleMany_1 : cX1_littleMany.data.toList.drop 23 = dktX1_littleMany_1 := dk_seg dksX1_littleMany_0 23 rfl rfl
theorem dX1_littleMany_0 : decode cX1_littleMany 0 = .ok (.iconst 0, 1) := dk_3 (dk_at dksX1_littleMany_0 0 rfl rfl)
theorem dX1_littleMany_1 : decode cX1_littleMany 1 = .ok (.istore_n 2, 1) := dk_61 (dk_at dksX1_littleMany_0 1 rfl rfl)
theorem dX1_littleMany_2 : decode cX1_littleMany 2 = .ok (.iconst 0, 1) := dk_3 (dk_at dksX1_littleMany_0 2 rfl rfl)
theorem dX1_littleMany_3 : decode cX1_littleMany 3 = .ok (.istore_n 3, 1) := dk_62 (dk_at dksX1_littleMany_0 3 rfl rfl)
theorem dX1_littleMany_4 : decode cX1_littleMany 4 = .ok (.iload_n 3, 1) := dk_29 (dk_at dksX1_littleMany_0 4 rfl rfl)
theorem dX1_littleMany_5 : decode cX1_littleMany 5 = .ok (.aload_n 0, 1) := dk_42 (dk_at dksX1_littleMany_0 5 rfl rfl)
theorem dX1_littleMany_6 : decode cX1_littleMany 6 = .ok (.invokevirtual 150, 3) := dk_182 0 150 (dk_at dksX1_littleMany_0 6 rfl rfl)
theorem dX1_littleMany_9 : decode cX1_littleMany 9 = .ok (.if_icmp .ge 26, 3) := dk_162 0 26 (dk_at dksX1_littleMany_0 9 rfl rfl)
theorem dX1_littleMany_12 : decode cX1_littleMany 12 = .ok (.iload_n 2, 1) := dk_28 (dk_at dksX1_littleMany_0 12 rfl rfl)
theorem dX1_littleMany_13 : decode cX1_littleMany 13 = .ok (.aload_n 0, 1) := dk_42 (dk_at dksX1_littleMany_0 13 rfl rfl)
theorem dX1_littleMany_14 : decode cX1_littleMany 14 = .ok (.iload_n 3, 1) := dk_29 (dk_at dksX1_littleMany_0 14 rfl rfl)
theorem dX1_littleMany_15 : decode cX1_littleMany 15 = .ok (.iload_n 1, 1) := dk_27 (dk_at dksX1_littleMany_0 15 rfl rfl)
theorem dX1_littleMany_16 : decode cX1_littleMany 16 = .ok (.invokevirtual 175, 3) := dk_182 0 175 (dk_at dksX1_littleMany_0 16 rfl rfl)
theorem dX1_littleMany_19 : decode cX1_littleMany 19 = .ok (.ifCond .eq 7, 3) := dk_153 0 7 (dk_at dksX1_littleMany_0 19 rfl rfl)
theorem dX1_littleMany_22 : decode cX1_littleMany 22 = .ok (.iconst 1, 1) := dk_4 (dk_at dksX1_littleMany_0 22 rfl rfl)
theorem dX1_littleMany_23 : decode cX1_littleMany 23 = .ok (.goto 4, 3) := dk_167 0 4 (dk_at dksX1_littleMany_1 0 rfl rfl)
theorem dX1_littleMany_26 : decode cX1_littleMany 26 = .ok (.iconst 0, 1) := dk_3 (dk_at dksX1_littleMany_1 3 rfl rfl)
theorem dX1_littleMany_27 : decode cX1_littleMany 27 = .ok (.iadd, 1) := dk_96 (dk_at dksX1_littleMany_1 4 rfl rfl)
theorem dX1_littleMany_28 : decode cX1_littleMany 28 = .ok (.istore_n 2, 1) := dk_61 (dk_at dksX1_littleMany_1 5 rfl rfl)
theorem dX1_littleMany_29 : decode cX1_littleMany 29 = .ok (.iinc 3 1, 3) := dk_132 3 1 (dk_at dksX1_littleMany_1 6 rfl rfl)
theorem dX1_littleMany_32 : decode cX1_littleMany 32 = .ok (.goto (-28), 3) := dk_167 255 228 (dk_at dksX1_littleMany_1 9 rfl rfl)
theorem dX1_littleMany_35 : decode cX1_littleMany 35 = .ok (.iload_n 2, 1) := dk_28 (dk_at dksX1_littleMany_1 12 rfl rfl)
theorem dX1_littleMany_36 : decode cX1_littleMany 36 = .ok (.ireturn, 1) := dk_172 (dk_at dksX1_littleMany_1 13 rfl rfl)
abbrev cX1_border : ByteArray := prog_10_method_55_code
def yX1_border : MethodName := ⟨RX1, "border", "(II)I"⟩
def dkwX1_border_1 : List UInt8 := [104, 96, 28, 96, 46, 167, 0, 4, 2, 172]
abbrev dktX1_border_1 : List UInt8 := dkwX1_border_1 ++ []
def dkwX1_border_0 : List UInt8 := [27, 184, 0, 209, 153, 0, 28, 28, 133, 9, 10, 184, 0, 72, 153, 0, 18, 42, 180, 0, 7, 5, 5, 27]
abbrev dktX1_border_0 : List UInt8 := dkwX1_border_0 ++ dktX1_border_1
theorem dksX1_border_0 : cX1_border.data.toList.drop 0 = dktX1_border_0 := by decide +kernel
theorem dksX1_border_1 : cX1_border.data.toList.drop 24 = dktX1_border_1 := dk_seg dksX1_border_0 24 rfl rfl
theorem dX1_border_0 : decode cX1_border 0 = .ok (.iload_n 1, 1) := dk_27 (dk_at dksX1_border_0 0 rfl rfl)
theorem dX1_border_1 : decode cX1_border 1 = .ok (.invokestatic 209, 3) := dk_184 0 209 (dk_at dksX1_border_0 1 rfl rfl)
theorem dX1_border_4 : decode cX1_border 4 = .ok (.ifCond .eq 28, 3) := dk_153 0 28 (dk_at dksX1_border_0 4 rfl rfl)
theorem dX1_border_7 : decode cX1_border 7 = .ok (.iload_n 2, 1) := dk_28 (dk_at dksX1_border_0 7 rfl rfl)
theorem dX1_border_8 : decode cX1_border 8 = .ok (.i2l, 1) := dk_133 (dk_at dksX1_border_0 8 rfl rfl)
theorem dX1_border_9 : decode cX1_border 9 = .ok (.lconst 0, 1) := dk_9 (dk_at dksX1_border_0 9 rfl rfl)
theorem dX1_border_10 : decode cX1_border 10 = .ok (.lconst 1, 1) := dk_10 (dk_at dksX1_border_0 10 rfl rfl)
theorem dX1_border_11 : decode cX1_border 11 = .ok (.invokestatic 72, 3) := dk_184 0 72 (dk_at dksX1_border_0 11 rfl rfl)
theorem dX1_border_14 : decode cX1_border 14 = .ok (.ifCond .eq 18, 3) := dk_153 0 18 (dk_at dksX1_border_0 14 rfl rfl)
theorem dX1_border_17 : decode cX1_border 17 = .ok (.aload_n 0, 1) := dk_42 (dk_at dksX1_border_0 17 rfl rfl)
theorem dX1_border_18 : decode cX1_border 18 = .ok (.getfield 7, 3) := dk_180 0 7 (dk_at dksX1_border_0 18 rfl rfl)
theorem dX1_border_21 : decode cX1_border 21 = .ok (.iconst 2, 1) := dk_5 (dk_at dksX1_border_0 21 rfl rfl)
theorem dX1_border_22 : decode cX1_border 22 = .ok (.iconst 2, 1) := dk_5 (dk_at dksX1_border_0 22 rfl rfl)
theorem dX1_border_23 : decode cX1_border 23 = .ok (.iload_n 1, 1) := dk_27 (dk_at dksX1_border_0 23 rfl rfl)
theorem dX1_border_24 : decode cX1_border 24 = .ok (.imul, 1) := dk_104 (dk_at dksX1_border_1 0 rfl rfl)
theorem dX1_border_25 : decode cX1_border 25 = .ok (.iadd, 1) := dk_96 (dk_at dksX1_border_1 1 rfl rfl)
theorem dX1_border_26 : decode cX1_border 26 = .ok (.iload_n 2, 1) := dk_28 (dk_at dksX1_border_1 2 rfl rfl)
theorem dX1_border_27 : decode cX1_border 27 = .ok (.iadd, 1) := dk_96 (dk_at dksX1_border_1 3 rfl rfl)
theorem dX1_border_28 : decode cX1_border 28 = .ok (.iaload, 1) := dk_46 (dk_at dksX1_border_1 4 rfl rfl)
theorem dX1_border_29 : decode cX1_border 29 = .ok (.goto 4, 3) := dk_167 0 4 (dk_at dksX1_border_1 5 rfl rfl)
theorem dX1_border_32 : decode cX1_border 32 = .ok (.iconst (-1), 1) := dk_2 (dk_at dksX1_border_1 8 rfl rfl)
theorem dX1_border_33 : decode cX1_border 33 = .ok (.ireturn, 1) := dk_172 (dk_at dksX1_border_1 9 rfl rfl)
abbrev cX1_isTrait : ByteArray := prog_10_method_32_code
def yX1_isTrait : MethodName := ⟨RX1, "isTrait", "(I)Z"⟩
def dkwX1_isTrait_0 : List UInt8 := [26, 133, 9, 20, 0, 76, 184, 0, 72, 172]
abbrev dktX1_isTrait_0 : List UInt8 := dkwX1_isTrait_0 ++ []
theorem dksX1_isTrait_0 : cX1_isTrait.data.toList.drop 0 = dktX1_isTrait_0 := by decide +kernel
theorem dX1_isTrait_0 : decode cX1_isTrait 0 = .ok (.iload_n 0, 1) := dk_26 (dk_at dksX1_isTrait_0 0 rfl rfl)
theorem dX1_isTrait_1 : decode cX1_isTrait 1 = .ok (.i2l, 1) := dk_133 (dk_at dksX1_isTrait_0 1 rfl rfl)
theorem dX1_isTrait_2 : decode cX1_isTrait 2 = .ok (.lconst 0, 1) := dk_9 (dk_at dksX1_isTrait_0 2 rfl rfl)
theorem dX1_isTrait_3 : decode cX1_isTrait 3 = .ok (.ldc2_w 76, 3) := dk_20 0 76 (dk_at dksX1_isTrait_0 3 rfl rfl)
theorem dX1_isTrait_6 : decode cX1_isTrait 6 = .ok (.invokestatic 72, 3) := dk_184 0 72 (dk_at dksX1_isTrait_0 6 rfl rfl)
theorem dX1_isTrait_9 : decode cX1_isTrait 9 = .ok (.ireturn, 1) := dk_172 (dk_at dksX1_isTrait_0 9 rfl rfl)
abbrev cX1_strike : ByteArray := prog_10_method_57_code
def yX1_strike : MethodName := ⟨RX1, "strike", "(II)I"⟩
def dkwX1_strike_3 : List UInt8 := [4, 27, 120, 130, 79, 42, 180, 0, 7, 4, 46, 184, 0, 215, 172]
abbrev dktX1_strike_3 : List UInt8 := dkwX1_strike_3 ++ []
def dkwX1_strike_2 : List UInt8 := [180, 0, 7, 3, 46, 16, 40, 160, 0, 6, 16, 254, 172, 42, 182, 0, 212, 42, 180, 0, 7, 4, 92, 46]
abbrev dktX1_strike_2 : List UInt8 := dkwX1_strike_2 ++ dktX1_strike_3
def dkwX1_strike_1 : List UInt8 := [4, 46, 27, 184, 0, 153, 28, 154, 0, 7, 4, 167, 0, 4, 3, 160, 0, 6, 16, 252, 172, 42]
abbrev dktX1_strike_1 : List UInt8 := dkwX1_strike_1 ++ dktX1_strike_2
def dkwX1_strike_0 : List UInt8 := [42, 27, 182, 0, 194, 153, 0, 13, 28, 133, 9, 10, 184, 0, 72, 154, 0, 5, 2, 172, 42, 180, 0, 7]
abbrev dktX1_strike_0 : List UInt8 := dkwX1_strike_0 ++ dktX1_strike_1
theorem dksX1_strike_0 : cX1_strike.data.toList.drop 0 = dktX1_strike_0 := by decide +kernel
theorem dksX1_strike_1 : cX1_strike.data.toList.drop 24 = dktX1_strike_1 := dk_seg dksX1_strike_0 24 rfl rfl
theorem dksX1_strike_2 : cX1_strike.data.toList.drop 46 = dktX1_strike_2 := dk_seg dksX1_strike_1 22 rfl rfl
theorem dksX1_strike_3 : cX1_strike.data.toList.drop 70 = dktX1_strike_3 := dk_seg dksX1_strike_2 24 rfl rfl
theorem dX1_strike_0 : decode cX1_strike 0 = .ok (.aload_n 0, 1) := dk_42 (dk_at dksX1_strike_0 0 rfl rfl)
theorem dX1_strike_1 : decode cX1_strike 1 = .ok (.iload_n 1, 1) := dk_27 (dk_at dksX1_strike_0 1 rfl rfl)
theorem dX1_strike_2 : decode cX1_strike 2 = .ok (.invokevirtual 194, 3) := dk_182 0 194 (dk_at dksX1_strike_0 2 rfl rfl)
theorem dX1_strike_5 : decode cX1_strike 5 = .ok (.ifCond .eq 13, 3) := dk_153 0 13 (dk_at dksX1_strike_0 5 rfl rfl)
theorem dX1_strike_8 : decode cX1_strike 8 = .ok (.iload_n 2, 1) := dk_28 (dk_at dksX1_strike_0 8 rfl rfl)
theorem dX1_strike_9 : decode cX1_strike 9 = .ok (.i2l, 1) := dk_133 (dk_at dksX1_strike_0 9 rfl rfl)
theorem dX1_strike_10 : decode cX1_strike 10 = .ok (.lconst 0, 1) := dk_9 (dk_at dksX1_strike_0 10 rfl rfl)
theorem dX1_strike_11 : decode cX1_strike 11 = .ok (.lconst 1, 1) := dk_10 (dk_at dksX1_strike_0 11 rfl rfl)
theorem dX1_strike_12 : decode cX1_strike 12 = .ok (.invokestatic 72, 3) := dk_184 0 72 (dk_at dksX1_strike_0 12 rfl rfl)
theorem dX1_strike_15 : decode cX1_strike 15 = .ok (.ifCond .ne 5, 3) := dk_154 0 5 (dk_at dksX1_strike_0 15 rfl rfl)
theorem dX1_strike_18 : decode cX1_strike 18 = .ok (.iconst (-1), 1) := dk_2 (dk_at dksX1_strike_0 18 rfl rfl)
theorem dX1_strike_19 : decode cX1_strike 19 = .ok (.ireturn, 1) := dk_172 (dk_at dksX1_strike_0 19 rfl rfl)
theorem dX1_strike_20 : decode cX1_strike 20 = .ok (.aload_n 0, 1) := dk_42 (dk_at dksX1_strike_0 20 rfl rfl)
theorem dX1_strike_21 : decode cX1_strike 21 = .ok (.getfield 7, 3) := dk_180 0 7 (dk_at dksX1_strike_0 21 rfl rfl)
theorem dX1_strike_24 : decode cX1_strike 24 = .ok (.iconst 1, 1) := dk_4 (dk_at dksX1_strike_1 0 rfl rfl)
theorem dX1_strike_25 : decode cX1_strike 25 = .ok (.iaload, 1) := dk_46 (dk_at dksX1_strike_1 1 rfl rfl)
theorem dX1_strike_26 : decode cX1_strike 26 = .ok (.iload_n 1, 1) := dk_27 (dk_at dksX1_strike_1 2 rfl rfl)
theorem dX1_strike_27 : decode cX1_strike 27 = .ok (.invokestatic 153, 3) := dk_184 0 153 (dk_at dksX1_strike_1 3 rfl rfl)
theorem dX1_strike_30 : decode cX1_strike 30 = .ok (.iload_n 2, 1) := dk_28 (dk_at dksX1_strike_1 6 rfl rfl)
theorem dX1_strike_31 : decode cX1_strike 31 = .ok (.ifCond .ne 7, 3) := dk_154 0 7 (dk_at dksX1_strike_1 7 rfl rfl)
theorem dX1_strike_34 : decode cX1_strike 34 = .ok (.iconst 1, 1) := dk_4 (dk_at dksX1_strike_1 10 rfl rfl)
theorem dX1_strike_35 : decode cX1_strike 35 = .ok (.goto 4, 3) := dk_167 0 4 (dk_at dksX1_strike_1 11 rfl rfl)
theorem dX1_strike_38 : decode cX1_strike 38 = .ok (.iconst 0, 1) := dk_3 (dk_at dksX1_strike_1 14 rfl rfl)
theorem dX1_strike_39 : decode cX1_strike 39 = .ok (.if_icmp .ne 6, 3) := dk_160 0 6 (dk_at dksX1_strike_1 15 rfl rfl)
theorem dX1_strike_42 : decode cX1_strike 42 = .ok (.bipush (-4), 2) := dk_16 252 (dk_at dksX1_strike_1 18 rfl rfl)
theorem dX1_strike_44 : decode cX1_strike 44 = .ok (.ireturn, 1) := dk_172 (dk_at dksX1_strike_1 20 rfl rfl)
theorem dX1_strike_45 : decode cX1_strike 45 = .ok (.aload_n 0, 1) := dk_42 (dk_at dksX1_strike_1 21 rfl rfl)
theorem dX1_strike_46 : decode cX1_strike 46 = .ok (.getfield 7, 3) := dk_180 0 7 (dk_at dksX1_strike_2 0 rfl rfl)
theorem dX1_strike_49 : decode cX1_strike 49 = .ok (.iconst 0, 1) := dk_3 (dk_at dksX1_strike_2 3 rfl rfl)
theorem dX1_strike_50 : decode cX1_strike 50 = .ok (.iaload, 1) := dk_46 (dk_at dksX1_strike_2 4 rfl rfl)
theorem dX1_strike_51 : decode cX1_strike 51 = .ok (.bipush 40, 2) := dk_16 40 (dk_at dksX1_strike_2 5 rfl rfl)
theorem dX1_strike_53 : decode cX1_strike 53 = .ok (.if_icmp .ne 6, 3) := dk_160 0 6 (dk_at dksX1_strike_2 7 rfl rfl)
theorem dX1_strike_56 : decode cX1_strike 56 = .ok (.bipush (-2), 2) := dk_16 254 (dk_at dksX1_strike_2 10 rfl rfl)
theorem dX1_strike_58 : decode cX1_strike 58 = .ok (.ireturn, 1) := dk_172 (dk_at dksX1_strike_2 12 rfl rfl)
theorem dX1_strike_59 : decode cX1_strike 59 = .ok (.aload_n 0, 1) := dk_42 (dk_at dksX1_strike_2 13 rfl rfl)
theorem dX1_strike_60 : decode cX1_strike 60 = .ok (.invokevirtual 212, 3) := dk_182 0 212 (dk_at dksX1_strike_2 14 rfl rfl)
theorem dX1_strike_63 : decode cX1_strike 63 = .ok (.aload_n 0, 1) := dk_42 (dk_at dksX1_strike_2 17 rfl rfl)
theorem dX1_strike_64 : decode cX1_strike 64 = .ok (.getfield 7, 3) := dk_180 0 7 (dk_at dksX1_strike_2 18 rfl rfl)
theorem dX1_strike_67 : decode cX1_strike 67 = .ok (.iconst 1, 1) := dk_4 (dk_at dksX1_strike_2 21 rfl rfl)
theorem dX1_strike_68 : decode cX1_strike 68 = .ok (.dup2, 1) := dk_92 (dk_at dksX1_strike_2 22 rfl rfl)
theorem dX1_strike_69 : decode cX1_strike 69 = .ok (.iaload, 1) := dk_46 (dk_at dksX1_strike_2 23 rfl rfl)
theorem dX1_strike_70 : decode cX1_strike 70 = .ok (.iconst 1, 1) := dk_4 (dk_at dksX1_strike_3 0 rfl rfl)
theorem dX1_strike_71 : decode cX1_strike 71 = .ok (.iload_n 1, 1) := dk_27 (dk_at dksX1_strike_3 1 rfl rfl)
theorem dX1_strike_72 : decode cX1_strike 72 = .ok (.ishl, 1) := dk_120 (dk_at dksX1_strike_3 2 rfl rfl)
theorem dX1_strike_73 : decode cX1_strike 73 = .ok (.ixor, 1) := dk_130 (dk_at dksX1_strike_3 3 rfl rfl)
theorem dX1_strike_74 : decode cX1_strike 74 = .ok (.iastore, 1) := dk_79 (dk_at dksX1_strike_3 4 rfl rfl)
theorem dX1_strike_75 : decode cX1_strike 75 = .ok (.aload_n 0, 1) := dk_42 (dk_at dksX1_strike_3 5 rfl rfl)
theorem dX1_strike_76 : decode cX1_strike 76 = .ok (.getfield 7, 3) := dk_180 0 7 (dk_at dksX1_strike_3 6 rfl rfl)
theorem dX1_strike_79 : decode cX1_strike 79 = .ok (.iconst 1, 1) := dk_4 (dk_at dksX1_strike_3 9 rfl rfl)
theorem dX1_strike_80 : decode cX1_strike 80 = .ok (.iaload, 1) := dk_46 (dk_at dksX1_strike_3 10 rfl rfl)
theorem dX1_strike_81 : decode cX1_strike 81 = .ok (.invokestatic 215, 3) := dk_184 0 215 (dk_at dksX1_strike_3 11 rfl rfl)
theorem dX1_strike_84 : decode cX1_strike 84 = .ok (.ireturn, 1) := dk_172 (dk_at dksX1_strike_3 14 rfl rfl)
abbrev cX1_keepPast : ByteArray := prog_10_method_56_code
def yX1_keepPast : MethodName := ⟨RX1, "keepPast", "()V"⟩
def dkwX1_keepPast_2 : List UInt8 := [4, 96, 79, 177]
abbrev dktX1_keepPast_2 : List UInt8 := dkwX1_keepPast_2 ++ []
def dkwX1_keepPast_1 : List UInt8 := [27, 96, 42, 180, 0, 7, 4, 27, 96, 46, 79, 132, 1, 1, 167, 255, 220, 42, 180, 0, 7, 3, 92, 46]
abbrev dktX1_keepPast_1 : List UInt8 := dkwX1_keepPast_1 ++ dktX1_keepPast_2
def dkwX1_keepPast_0 : List UInt8 := [3, 60, 27, 16, 9, 162, 0, 36, 42, 180, 0, 7, 16, 10, 16, 9, 42, 180, 0, 7, 3, 46, 104, 96]
abbrev dktX1_keepPast_0 : List UInt8 := dkwX1_keepPast_0 ++ dktX1_keepPast_1
theorem dksX1_keepPast_0 : cX1_keepPast.data.toList.drop 0 = dktX1_keepPast_0 := by decide +kernel
theorem dksX1_keepPast_1 : cX1_keepPast.data.toList.drop 24 = dktX1_keepPast_1 := dk_seg dksX1_keepPast_0 24 rfl rfl
theorem dksX1_keepPast_2 : cX1_keepPast.data.toList.drop 48 = dktX1_keepPast_2 := dk_seg dksX1_keepPast_1 24 rfl rfl
theorem dX1_keepPast_0 : decode cX1_keepPast 0 = .ok (.iconst 0, 1) := dk_3 (dk_at dksX1_keepPast_0 0 rfl rfl)
theorem dX1_keepPast_1 : decode cX1_keepPast 1 = .ok (.istore_n 1, 1) := dk_60 (dk_at dksX1_keepPast_0 1 rfl rfl)
theorem dX1_keepPast_2 : decode cX1_keepPast 2 = .ok (.iload_n 1, 1) := dk_27 (dk_at dksX1_keepPast_0 2 rfl rfl)
theorem dX1_keepPast_3 : decode cX1_keepPast 3 = .ok (.bipush 9, 2) := dk_16 9 (dk_at dksX1_keepPast_0 3 rfl rfl)
theorem dX1_keepPast_5 : decode cX1_keepPast 5 = .ok (.if_icmp .ge 36, 3) := dk_162 0 36 (dk_at dksX1_keepPast_0 5 rfl rfl)
theorem dX1_keepPast_8 : decode cX1_keepPast 8 = .ok (.aload_n 0, 1) := dk_42 (dk_at dksX1_keepPast_0 8 rfl rfl)
theorem dX1_keepPast_9 : decode cX1_keepPast 9 = .ok (.getfield 7, 3) := dk_180 0 7 (dk_at dksX1_keepPast_0 9 rfl rfl)
theorem dX1_keepPast_12 : decode cX1_keepPast 12 = .ok (.bipush 10, 2) := dk_16 10 (dk_at dksX1_keepPast_0 12 rfl rfl)
theorem dX1_keepPast_14 : decode cX1_keepPast 14 = .ok (.bipush 9, 2) := dk_16 9 (dk_at dksX1_keepPast_0 14 rfl rfl)
theorem dX1_keepPast_16 : decode cX1_keepPast 16 = .ok (.aload_n 0, 1) := dk_42 (dk_at dksX1_keepPast_0 16 rfl rfl)
theorem dX1_keepPast_17 : decode cX1_keepPast 17 = .ok (.getfield 7, 3) := dk_180 0 7 (dk_at dksX1_keepPast_0 17 rfl rfl)
theorem dX1_keepPast_20 : decode cX1_keepPast 20 = .ok (.iconst 0, 1) := dk_3 (dk_at dksX1_keepPast_0 20 rfl rfl)
theorem dX1_keepPast_21 : decode cX1_keepPast 21 = .ok (.iaload, 1) := dk_46 (dk_at dksX1_keepPast_0 21 rfl rfl)
theorem dX1_keepPast_22 : decode cX1_keepPast 22 = .ok (.imul, 1) := dk_104 (dk_at dksX1_keepPast_0 22 rfl rfl)
theorem dX1_keepPast_23 : decode cX1_keepPast 23 = .ok (.iadd, 1) := dk_96 (dk_at dksX1_keepPast_0 23 rfl rfl)
theorem dX1_keepPast_24 : decode cX1_keepPast 24 = .ok (.iload_n 1, 1) := dk_27 (dk_at dksX1_keepPast_1 0 rfl rfl)
theorem dX1_keepPast_25 : decode cX1_keepPast 25 = .ok (.iadd, 1) := dk_96 (dk_at dksX1_keepPast_1 1 rfl rfl)
theorem dX1_keepPast_26 : decode cX1_keepPast 26 = .ok (.aload_n 0, 1) := dk_42 (dk_at dksX1_keepPast_1 2 rfl rfl)
theorem dX1_keepPast_27 : decode cX1_keepPast 27 = .ok (.getfield 7, 3) := dk_180 0 7 (dk_at dksX1_keepPast_1 3 rfl rfl)
theorem dX1_keepPast_30 : decode cX1_keepPast 30 = .ok (.iconst 1, 1) := dk_4 (dk_at dksX1_keepPast_1 6 rfl rfl)
theorem dX1_keepPast_31 : decode cX1_keepPast 31 = .ok (.iload_n 1, 1) := dk_27 (dk_at dksX1_keepPast_1 7 rfl rfl)
theorem dX1_keepPast_32 : decode cX1_keepPast 32 = .ok (.iadd, 1) := dk_96 (dk_at dksX1_keepPast_1 8 rfl rfl)
theorem dX1_keepPast_33 : decode cX1_keepPast 33 = .ok (.iaload, 1) := dk_46 (dk_at dksX1_keepPast_1 9 rfl rfl)
theorem dX1_keepPast_34 : decode cX1_keepPast 34 = .ok (.iastore, 1) := dk_79 (dk_at dksX1_keepPast_1 10 rfl rfl)
theorem dX1_keepPast_35 : decode cX1_keepPast 35 = .ok (.iinc 1 1, 3) := dk_132 1 1 (dk_at dksX1_keepPast_1 11 rfl rfl)
theorem dX1_keepPast_38 : decode cX1_keepPast 38 = .ok (.goto (-36), 3) := dk_167 255 220 (dk_at dksX1_keepPast_1 14 rfl rfl)
theorem dX1_keepPast_41 : decode cX1_keepPast 41 = .ok (.aload_n 0, 1) := dk_42 (dk_at dksX1_keepPast_1 17 rfl rfl)
theorem dX1_keepPast_42 : decode cX1_keepPast 42 = .ok (.getfield 7, 3) := dk_180 0 7 (dk_at dksX1_keepPast_1 18 rfl rfl)
theorem dX1_keepPast_45 : decode cX1_keepPast 45 = .ok (.iconst 0, 1) := dk_3 (dk_at dksX1_keepPast_1 21 rfl rfl)
theorem dX1_keepPast_46 : decode cX1_keepPast 46 = .ok (.dup2, 1) := dk_92 (dk_at dksX1_keepPast_1 22 rfl rfl)
theorem dX1_keepPast_47 : decode cX1_keepPast 47 = .ok (.iaload, 1) := dk_46 (dk_at dksX1_keepPast_1 23 rfl rfl)
theorem dX1_keepPast_48 : decode cX1_keepPast 48 = .ok (.iconst 1, 1) := dk_4 (dk_at dksX1_keepPast_2 0 rfl rfl)
theorem dX1_keepPast_49 : decode cX1_keepPast 49 = .ok (.iadd, 1) := dk_96 (dk_at dksX1_keepPast_2 1 rfl rfl)
theorem dX1_keepPast_50 : decode cX1_keepPast 50 = .ok (.iastore, 1) := dk_79 (dk_at dksX1_keepPast_2 2 rfl rfl)
theorem dX1_keepPast_51 : decode cX1_keepPast 51 = .ok (.return_, 1) := dk_177 (dk_at dksX1_keepPast_2 3 rfl rfl)
abbrev cX1_bits : ByteArray := prog_10_method_3_code
def yX1_bits : MethodName := ⟨RX1, "bits", "(I)I"⟩
def dkwX1_bits_1 : List UInt8 := [27, 172]
abbrev dktX1_bits_1 : List UInt8 := dkwX1_bits_1 ++ []
def dkwX1_bits_0 : List UInt8 := [3, 60, 3, 61, 28, 16, 13, 162, 0, 17, 27, 26, 28, 122, 4, 126, 96, 60, 132, 2, 1, 167, 255, 239]
abbrev dktX1_bits_0 : List UInt8 := dkwX1_bits_0 ++ dktX1_bits_1
theorem dksX1_bits_0 : cX1_bits.data.toList.drop 0 = dktX1_bits_0 := by decide +kernel
theorem dksX1_bits_1 : cX1_bits.data.toList.drop 24 = dktX1_bits_1 := dk_seg dksX1_bits_0 24 rfl rfl
theorem dX1_bits_0 : decode cX1_bits 0 = .ok (.iconst 0, 1) := dk_3 (dk_at dksX1_bits_0 0 rfl rfl)
theorem dX1_bits_1 : decode cX1_bits 1 = .ok (.istore_n 1, 1) := dk_60 (dk_at dksX1_bits_0 1 rfl rfl)
theorem dX1_bits_2 : decode cX1_bits 2 = .ok (.iconst 0, 1) := dk_3 (dk_at dksX1_bits_0 2 rfl rfl)
theorem dX1_bits_3 : decode cX1_bits 3 = .ok (.istore_n 2, 1) := dk_61 (dk_at dksX1_bits_0 3 rfl rfl)
theorem dX1_bits_4 : decode cX1_bits 4 = .ok (.iload_n 2, 1) := dk_28 (dk_at dksX1_bits_0 4 rfl rfl)
theorem dX1_bits_5 : decode cX1_bits 5 = .ok (.bipush 13, 2) := dk_16 13 (dk_at dksX1_bits_0 5 rfl rfl)
theorem dX1_bits_7 : decode cX1_bits 7 = .ok (.if_icmp .ge 17, 3) := dk_162 0 17 (dk_at dksX1_bits_0 7 rfl rfl)
theorem dX1_bits_10 : decode cX1_bits 10 = .ok (.iload_n 1, 1) := dk_27 (dk_at dksX1_bits_0 10 rfl rfl)
theorem dX1_bits_11 : decode cX1_bits 11 = .ok (.iload_n 0, 1) := dk_26 (dk_at dksX1_bits_0 11 rfl rfl)
theorem dX1_bits_12 : decode cX1_bits 12 = .ok (.iload_n 2, 1) := dk_28 (dk_at dksX1_bits_0 12 rfl rfl)
theorem dX1_bits_13 : decode cX1_bits 13 = .ok (.ishr, 1) := dk_122 (dk_at dksX1_bits_0 13 rfl rfl)
theorem dX1_bits_14 : decode cX1_bits 14 = .ok (.iconst 1, 1) := dk_4 (dk_at dksX1_bits_0 14 rfl rfl)
theorem dX1_bits_15 : decode cX1_bits 15 = .ok (.iand, 1) := dk_126 (dk_at dksX1_bits_0 15 rfl rfl)
theorem dX1_bits_16 : decode cX1_bits 16 = .ok (.iadd, 1) := dk_96 (dk_at dksX1_bits_0 16 rfl rfl)
theorem dX1_bits_17 : decode cX1_bits 17 = .ok (.istore_n 1, 1) := dk_60 (dk_at dksX1_bits_0 17 rfl rfl)
theorem dX1_bits_18 : decode cX1_bits 18 = .ok (.iinc 2 1, 3) := dk_132 2 1 (dk_at dksX1_bits_0 18 rfl rfl)
theorem dX1_bits_21 : decode cX1_bits 21 = .ok (.goto (-17), 3) := dk_167 255 239 (dk_at dksX1_bits_0 21 rfl rfl)
theorem dX1_bits_24 : decode cX1_bits 24 = .ok (.iload_n 1, 1) := dk_27 (dk_at dksX1_bits_1 0 rfl rfl)
theorem dX1_bits_25 : decode cX1_bits 25 = .ok (.ireturn, 1) := dk_172 (dk_at dksX1_bits_1 1 rfl rfl)
abbrev cX1_move : ByteArray := prog_10_method_60_code
def yX1_move : MethodName := ⟨RX1, "move", "(III)I"⟩
def dkwX1_move_3 : List UInt8 := [180, 0, 7, 5, 5, 27, 104, 96, 28, 96, 29, 79, 21, 4, 172]
abbrev dktX1_move_3 : List UInt8 := dkwX1_move_3 ++ []
def dkwX1_move_2 : List UInt8 := [16, 252, 172, 42, 180, 0, 7, 3, 46, 16, 40, 160, 0, 6, 16, 254, 172, 42, 182, 0, 212, 42]
abbrev dktX1_move_2 : List UInt8 := dkwX1_move_2 ++ dktX1_move_3
def dkwX1_move_1 : List UInt8 := [104, 96, 28, 96, 46, 54, 4, 42, 27, 28, 29, 182, 0, 221, 153, 0, 9, 21, 4, 29, 160, 0, 6]
abbrev dktX1_move_1 : List UInt8 := dkwX1_move_1 ++ dktX1_move_2
def dkwX1_move_0 : List UInt8 := [27, 184, 0, 209, 153, 0, 11, 28, 29, 184, 0, 218, 154, 0, 5, 2, 172, 42, 180, 0, 7, 5, 5, 27]
abbrev dktX1_move_0 : List UInt8 := dkwX1_move_0 ++ dktX1_move_1
theorem dksX1_move_0 : cX1_move.data.toList.drop 0 = dktX1_move_0 := by decide +kernel
theorem dksX1_move_1 : cX1_move.data.toList.drop 24 = dktX1_move_1 := dk_seg dksX1_move_0 24 rfl rfl
theorem dksX1_move_2 : cX1_move.data.toList.drop 47 = dktX1_move_2 := dk_seg dksX1_move_1 23 rfl rfl
theorem dksX1_move_3 : cX1_move.data.toList.drop 69 = dktX1_move_3 := dk_seg dksX1_move_2 22 rfl rfl
theorem dX1_move_0 : decode cX1_move 0 = .ok (.iload_n 1, 1) := dk_27 (dk_at dksX1_move_0 0 rfl rfl)
theorem dX1_move_1 : decode cX1_move 1 = .ok (.invokestatic 209, 3) := dk_184 0 209 (dk_at dksX1_move_0 1 rfl rfl)
theorem dX1_move_4 : decode cX1_move 4 = .ok (.ifCond .eq 11, 3) := dk_153 0 11 (dk_at dksX1_move_0 4 rfl rfl)
theorem dX1_move_7 : decode cX1_move 7 = .ok (.iload_n 2, 1) := dk_28 (dk_at dksX1_move_0 7 rfl rfl)
theorem dX1_move_8 : decode cX1_move 8 = .ok (.iload_n 3, 1) := dk_29 (dk_at dksX1_move_0 8 rfl rfl)
theorem dX1_move_9 : decode cX1_move 9 = .ok (.invokestatic 218, 3) := dk_184 0 218 (dk_at dksX1_move_0 9 rfl rfl)
theorem dX1_move_12 : decode cX1_move 12 = .ok (.ifCond .ne 5, 3) := dk_154 0 5 (dk_at dksX1_move_0 12 rfl rfl)
theorem dX1_move_15 : decode cX1_move 15 = .ok (.iconst (-1), 1) := dk_2 (dk_at dksX1_move_0 15 rfl rfl)
theorem dX1_move_16 : decode cX1_move 16 = .ok (.ireturn, 1) := dk_172 (dk_at dksX1_move_0 16 rfl rfl)
theorem dX1_move_17 : decode cX1_move 17 = .ok (.aload_n 0, 1) := dk_42 (dk_at dksX1_move_0 17 rfl rfl)
theorem dX1_move_18 : decode cX1_move 18 = .ok (.getfield 7, 3) := dk_180 0 7 (dk_at dksX1_move_0 18 rfl rfl)
theorem dX1_move_21 : decode cX1_move 21 = .ok (.iconst 2, 1) := dk_5 (dk_at dksX1_move_0 21 rfl rfl)
theorem dX1_move_22 : decode cX1_move 22 = .ok (.iconst 2, 1) := dk_5 (dk_at dksX1_move_0 22 rfl rfl)
theorem dX1_move_23 : decode cX1_move 23 = .ok (.iload_n 1, 1) := dk_27 (dk_at dksX1_move_0 23 rfl rfl)
theorem dX1_move_24 : decode cX1_move 24 = .ok (.imul, 1) := dk_104 (dk_at dksX1_move_1 0 rfl rfl)
theorem dX1_move_25 : decode cX1_move 25 = .ok (.iadd, 1) := dk_96 (dk_at dksX1_move_1 1 rfl rfl)
theorem dX1_move_26 : decode cX1_move 26 = .ok (.iload_n 2, 1) := dk_28 (dk_at dksX1_move_1 2 rfl rfl)
theorem dX1_move_27 : decode cX1_move 27 = .ok (.iadd, 1) := dk_96 (dk_at dksX1_move_1 3 rfl rfl)
theorem dX1_move_28 : decode cX1_move 28 = .ok (.iaload, 1) := dk_46 (dk_at dksX1_move_1 4 rfl rfl)
theorem dX1_move_29 : decode cX1_move 29 = .ok (.istore 4, 2) := dk_54 4 (dk_at dksX1_move_1 5 rfl rfl)
theorem dX1_move_31 : decode cX1_move 31 = .ok (.aload_n 0, 1) := dk_42 (dk_at dksX1_move_1 7 rfl rfl)
theorem dX1_move_32 : decode cX1_move 32 = .ok (.iload_n 1, 1) := dk_27 (dk_at dksX1_move_1 8 rfl rfl)
theorem dX1_move_33 : decode cX1_move 33 = .ok (.iload_n 2, 1) := dk_28 (dk_at dksX1_move_1 9 rfl rfl)
theorem dX1_move_34 : decode cX1_move 34 = .ok (.iload_n 3, 1) := dk_29 (dk_at dksX1_move_1 10 rfl rfl)
theorem dX1_move_35 : decode cX1_move 35 = .ok (.invokevirtual 221, 3) := dk_182 0 221 (dk_at dksX1_move_1 11 rfl rfl)
theorem dX1_move_38 : decode cX1_move 38 = .ok (.ifCond .eq 9, 3) := dk_153 0 9 (dk_at dksX1_move_1 14 rfl rfl)
theorem dX1_move_41 : decode cX1_move 41 = .ok (.iload 4, 2) := dk_21 4 (dk_at dksX1_move_1 17 rfl rfl)
theorem dX1_move_43 : decode cX1_move 43 = .ok (.iload_n 3, 1) := dk_29 (dk_at dksX1_move_1 19 rfl rfl)
theorem dX1_move_44 : decode cX1_move 44 = .ok (.if_icmp .ne 6, 3) := dk_160 0 6 (dk_at dksX1_move_1 20 rfl rfl)
theorem dX1_move_47 : decode cX1_move 47 = .ok (.bipush (-4), 2) := dk_16 252 (dk_at dksX1_move_2 0 rfl rfl)
theorem dX1_move_49 : decode cX1_move 49 = .ok (.ireturn, 1) := dk_172 (dk_at dksX1_move_2 2 rfl rfl)
theorem dX1_move_50 : decode cX1_move 50 = .ok (.aload_n 0, 1) := dk_42 (dk_at dksX1_move_2 3 rfl rfl)
theorem dX1_move_51 : decode cX1_move 51 = .ok (.getfield 7, 3) := dk_180 0 7 (dk_at dksX1_move_2 4 rfl rfl)
theorem dX1_move_54 : decode cX1_move 54 = .ok (.iconst 0, 1) := dk_3 (dk_at dksX1_move_2 7 rfl rfl)
theorem dX1_move_55 : decode cX1_move 55 = .ok (.iaload, 1) := dk_46 (dk_at dksX1_move_2 8 rfl rfl)
theorem dX1_move_56 : decode cX1_move 56 = .ok (.bipush 40, 2) := dk_16 40 (dk_at dksX1_move_2 9 rfl rfl)
theorem dX1_move_58 : decode cX1_move 58 = .ok (.if_icmp .ne 6, 3) := dk_160 0 6 (dk_at dksX1_move_2 11 rfl rfl)
theorem dX1_move_61 : decode cX1_move 61 = .ok (.bipush (-2), 2) := dk_16 254 (dk_at dksX1_move_2 14 rfl rfl)
theorem dX1_move_63 : decode cX1_move 63 = .ok (.ireturn, 1) := dk_172 (dk_at dksX1_move_2 16 rfl rfl)
theorem dX1_move_64 : decode cX1_move 64 = .ok (.aload_n 0, 1) := dk_42 (dk_at dksX1_move_2 17 rfl rfl)
theorem dX1_move_65 : decode cX1_move 65 = .ok (.invokevirtual 212, 3) := dk_182 0 212 (dk_at dksX1_move_2 18 rfl rfl)
theorem dX1_move_68 : decode cX1_move 68 = .ok (.aload_n 0, 1) := dk_42 (dk_at dksX1_move_2 21 rfl rfl)
theorem dX1_move_69 : decode cX1_move 69 = .ok (.getfield 7, 3) := dk_180 0 7 (dk_at dksX1_move_3 0 rfl rfl)
theorem dX1_move_72 : decode cX1_move 72 = .ok (.iconst 2, 1) := dk_5 (dk_at dksX1_move_3 3 rfl rfl)
theorem dX1_move_73 : decode cX1_move 73 = .ok (.iconst 2, 1) := dk_5 (dk_at dksX1_move_3 4 rfl rfl)
theorem dX1_move_74 : decode cX1_move 74 = .ok (.iload_n 1, 1) := dk_27 (dk_at dksX1_move_3 5 rfl rfl)
theorem dX1_move_75 : decode cX1_move 75 = .ok (.imul, 1) := dk_104 (dk_at dksX1_move_3 6 rfl rfl)
theorem dX1_move_76 : decode cX1_move 76 = .ok (.iadd, 1) := dk_96 (dk_at dksX1_move_3 7 rfl rfl)
theorem dX1_move_77 : decode cX1_move 77 = .ok (.iload_n 2, 1) := dk_28 (dk_at dksX1_move_3 8 rfl rfl)
theorem dX1_move_78 : decode cX1_move 78 = .ok (.iadd, 1) := dk_96 (dk_at dksX1_move_3 9 rfl rfl)
theorem dX1_move_79 : decode cX1_move 79 = .ok (.iload_n 3, 1) := dk_29 (dk_at dksX1_move_3 10 rfl rfl)
theorem dX1_move_80 : decode cX1_move 80 = .ok (.iastore, 1) := dk_79 (dk_at dksX1_move_3 11 rfl rfl)
theorem dX1_move_81 : decode cX1_move 81 = .ok (.iload 4, 2) := dk_21 4 (dk_at dksX1_move_3 12 rfl rfl)
theorem dX1_move_83 : decode cX1_move 83 = .ok (.ireturn, 1) := dk_172 (dk_at dksX1_move_3 14 rfl rfl)
abbrev cX1_isBorder : ByteArray := prog_10_method_58_code
def yX1_isBorder : MethodName := ⟨RX1, "isBorder", "(II)Z"⟩
def dkwX1_isBorder_1 : List UInt8 := [20, 0, 70, 184, 0, 72, 153, 0, 7, 4, 167, 0, 4, 3, 172]
abbrev dktX1_isBorder_1 : List UInt8 := dkwX1_isBorder_1 ++ []
def dkwX1_isBorder_0 : List UInt8 := [26, 154, 0, 15, 27, 133, 9, 20, 0, 188, 184, 0, 72, 154, 0, 20, 26, 4, 160, 0, 19, 27, 133, 10]
abbrev dktX1_isBorder_0 : List UInt8 := dkwX1_isBorder_0 ++ dktX1_isBorder_1
theorem dksX1_isBorder_0 : cX1_isBorder.data.toList.drop 0 = dktX1_isBorder_0 := by decide +kernel
theorem dksX1_isBorder_1 : cX1_isBorder.data.toList.drop 24 = dktX1_isBorder_1 := dk_seg dksX1_isBorder_0 24 rfl rfl
theorem dX1_isBorder_0 : decode cX1_isBorder 0 = .ok (.iload_n 0, 1) := dk_26 (dk_at dksX1_isBorder_0 0 rfl rfl)
theorem dX1_isBorder_1 : decode cX1_isBorder 1 = .ok (.ifCond .ne 15, 3) := dk_154 0 15 (dk_at dksX1_isBorder_0 1 rfl rfl)
theorem dX1_isBorder_4 : decode cX1_isBorder 4 = .ok (.iload_n 1, 1) := dk_27 (dk_at dksX1_isBorder_0 4 rfl rfl)
theorem dX1_isBorder_5 : decode cX1_isBorder 5 = .ok (.i2l, 1) := dk_133 (dk_at dksX1_isBorder_0 5 rfl rfl)
theorem dX1_isBorder_6 : decode cX1_isBorder 6 = .ok (.lconst 0, 1) := dk_9 (dk_at dksX1_isBorder_0 6 rfl rfl)
theorem dX1_isBorder_7 : decode cX1_isBorder 7 = .ok (.ldc2_w 188, 3) := dk_20 0 188 (dk_at dksX1_isBorder_0 7 rfl rfl)
theorem dX1_isBorder_10 : decode cX1_isBorder 10 = .ok (.invokestatic 72, 3) := dk_184 0 72 (dk_at dksX1_isBorder_0 10 rfl rfl)
theorem dX1_isBorder_13 : decode cX1_isBorder 13 = .ok (.ifCond .ne 20, 3) := dk_154 0 20 (dk_at dksX1_isBorder_0 13 rfl rfl)
theorem dX1_isBorder_16 : decode cX1_isBorder 16 = .ok (.iload_n 0, 1) := dk_26 (dk_at dksX1_isBorder_0 16 rfl rfl)
theorem dX1_isBorder_17 : decode cX1_isBorder 17 = .ok (.iconst 1, 1) := dk_4 (dk_at dksX1_isBorder_0 17 rfl rfl)
theorem dX1_isBorder_18 : decode cX1_isBorder 18 = .ok (.if_icmp .ne 19, 3) := dk_160 0 19 (dk_at dksX1_isBorder_0 18 rfl rfl)
theorem dX1_isBorder_21 : decode cX1_isBorder 21 = .ok (.iload_n 1, 1) := dk_27 (dk_at dksX1_isBorder_0 21 rfl rfl)
theorem dX1_isBorder_22 : decode cX1_isBorder 22 = .ok (.i2l, 1) := dk_133 (dk_at dksX1_isBorder_0 22 rfl rfl)
theorem dX1_isBorder_23 : decode cX1_isBorder 23 = .ok (.lconst 1, 1) := dk_10 (dk_at dksX1_isBorder_0 23 rfl rfl)
theorem dX1_isBorder_24 : decode cX1_isBorder 24 = .ok (.ldc2_w 70, 3) := dk_20 0 70 (dk_at dksX1_isBorder_1 0 rfl rfl)
theorem dX1_isBorder_27 : decode cX1_isBorder 27 = .ok (.invokestatic 72, 3) := dk_184 0 72 (dk_at dksX1_isBorder_1 3 rfl rfl)
theorem dX1_isBorder_30 : decode cX1_isBorder 30 = .ok (.ifCond .eq 7, 3) := dk_153 0 7 (dk_at dksX1_isBorder_1 6 rfl rfl)
theorem dX1_isBorder_33 : decode cX1_isBorder 33 = .ok (.iconst 1, 1) := dk_4 (dk_at dksX1_isBorder_1 9 rfl rfl)
theorem dX1_isBorder_34 : decode cX1_isBorder 34 = .ok (.goto 4, 3) := dk_167 0 4 (dk_at dksX1_isBorder_1 10 rfl rfl)
theorem dX1_isBorder_37 : decode cX1_isBorder 37 = .ok (.iconst 0, 1) := dk_3 (dk_at dksX1_isBorder_1 13 rfl rfl)
theorem dX1_isBorder_38 : decode cX1_isBorder 38 = .ok (.ireturn, 1) := dk_172 (dk_at dksX1_isBorder_1 14 rfl rfl)
abbrev cX1_isBelow : ByteArray := prog_10_method_59_code
def yX1_isBelow : MethodName := ⟨RX1, "isBelow", "(III)Z"⟩
def dkwX1_isBelow_1 : List UInt8 := [182, 0, 163, 29, 162, 0, 7, 4, 167, 0, 4, 3, 172]
abbrev dktX1_isBelow_1 : List UInt8 := dkwX1_isBelow_1 ++ []
def dkwX1_isBelow_0 : List UInt8 := [28, 154, 0, 20, 29, 42, 27, 182, 0, 160, 162, 0, 7, 4, 167, 0, 21, 3, 167, 0, 17, 42, 27]
abbrev dktX1_isBelow_0 : List UInt8 := dkwX1_isBelow_0 ++ dktX1_isBelow_1
theorem dksX1_isBelow_0 : cX1_isBelow.data.toList.drop 0 = dktX1_isBelow_0 := by decide +kernel
theorem dksX1_isBelow_1 : cX1_isBelow.data.toList.drop 23 = dktX1_isBelow_1 := dk_seg dksX1_isBelow_0 23 rfl rfl
theorem dX1_isBelow_0 : decode cX1_isBelow 0 = .ok (.iload_n 2, 1) := dk_28 (dk_at dksX1_isBelow_0 0 rfl rfl)
theorem dX1_isBelow_1 : decode cX1_isBelow 1 = .ok (.ifCond .ne 20, 3) := dk_154 0 20 (dk_at dksX1_isBelow_0 1 rfl rfl)
theorem dX1_isBelow_4 : decode cX1_isBelow 4 = .ok (.iload_n 3, 1) := dk_29 (dk_at dksX1_isBelow_0 4 rfl rfl)
theorem dX1_isBelow_5 : decode cX1_isBelow 5 = .ok (.aload_n 0, 1) := dk_42 (dk_at dksX1_isBelow_0 5 rfl rfl)
theorem dX1_isBelow_6 : decode cX1_isBelow 6 = .ok (.iload_n 1, 1) := dk_27 (dk_at dksX1_isBelow_0 6 rfl rfl)
theorem dX1_isBelow_7 : decode cX1_isBelow 7 = .ok (.invokevirtual 160, 3) := dk_182 0 160 (dk_at dksX1_isBelow_0 7 rfl rfl)
theorem dX1_isBelow_10 : decode cX1_isBelow 10 = .ok (.if_icmp .ge 7, 3) := dk_162 0 7 (dk_at dksX1_isBelow_0 10 rfl rfl)
theorem dX1_isBelow_13 : decode cX1_isBelow 13 = .ok (.iconst 1, 1) := dk_4 (dk_at dksX1_isBelow_0 13 rfl rfl)
theorem dX1_isBelow_14 : decode cX1_isBelow 14 = .ok (.goto 21, 3) := dk_167 0 21 (dk_at dksX1_isBelow_0 14 rfl rfl)
theorem dX1_isBelow_17 : decode cX1_isBelow 17 = .ok (.iconst 0, 1) := dk_3 (dk_at dksX1_isBelow_0 17 rfl rfl)
theorem dX1_isBelow_18 : decode cX1_isBelow 18 = .ok (.goto 17, 3) := dk_167 0 17 (dk_at dksX1_isBelow_0 18 rfl rfl)
theorem dX1_isBelow_21 : decode cX1_isBelow 21 = .ok (.aload_n 0, 1) := dk_42 (dk_at dksX1_isBelow_0 21 rfl rfl)
theorem dX1_isBelow_22 : decode cX1_isBelow 22 = .ok (.iload_n 1, 1) := dk_27 (dk_at dksX1_isBelow_0 22 rfl rfl)
theorem dX1_isBelow_23 : decode cX1_isBelow 23 = .ok (.invokevirtual 163, 3) := dk_182 0 163 (dk_at dksX1_isBelow_1 0 rfl rfl)
theorem dX1_isBelow_26 : decode cX1_isBelow 26 = .ok (.iload_n 3, 1) := dk_29 (dk_at dksX1_isBelow_1 3 rfl rfl)
theorem dX1_isBelow_27 : decode cX1_isBelow 27 = .ok (.if_icmp .ge 7, 3) := dk_162 0 7 (dk_at dksX1_isBelow_1 4 rfl rfl)
theorem dX1_isBelow_30 : decode cX1_isBelow 30 = .ok (.iconst 1, 1) := dk_4 (dk_at dksX1_isBelow_1 7 rfl rfl)
theorem dX1_isBelow_31 : decode cX1_isBelow 31 = .ok (.goto 4, 3) := dk_167 0 4 (dk_at dksX1_isBelow_1 8 rfl rfl)
theorem dX1_isBelow_34 : decode cX1_isBelow 34 = .ok (.iconst 0, 1) := dk_3 (dk_at dksX1_isBelow_1 11 rfl rfl)
theorem dX1_isBelow_35 : decode cX1_isBelow 35 = .ok (.ireturn, 1) := dk_172 (dk_at dksX1_isBelow_1 12 rfl rfl)
abbrev cX1_undo : ByteArray := prog_10_method_61_code
def yX1_undo : MethodName := ⟨RX1, "undo", "(I)I"⟩
def dkwX1_undo_3 : List UInt8 := [3, 27, 79, 28, 172]
abbrev dktX1_undo_3 : List UInt8 := dkwX1_undo_3 ++ []
def dkwX1_undo_2 : List UInt8 := [180, 0, 7, 16, 10, 16, 9, 27, 104, 96, 29, 96, 46, 79, 132, 3, 1, 167, 255, 221, 42, 180, 0, 7]
abbrev dktX1_undo_2 : List UInt8 := dkwX1_undo_2 ++ dktX1_undo_3
def dkwX1_undo_1 : List UInt8 := [27, 100, 61, 3, 62, 29, 16, 9, 162, 0, 35, 28, 158, 0, 31, 42, 180, 0, 7, 4, 29, 96, 42]
abbrev dktX1_undo_1 : List UInt8 := dkwX1_undo_1 ++ dktX1_undo_2
def dkwX1_undo_0 : List UInt8 := [27, 133, 9, 42, 180, 0, 7, 3, 46, 133, 184, 0, 72, 154, 0, 5, 2, 172, 42, 180, 0, 7, 3, 46]
abbrev dktX1_undo_0 : List UInt8 := dkwX1_undo_0 ++ dktX1_undo_1
theorem dksX1_undo_0 : cX1_undo.data.toList.drop 0 = dktX1_undo_0 := by decide +kernel
theorem dksX1_undo_1 : cX1_undo.data.toList.drop 24 = dktX1_undo_1 := dk_seg dksX1_undo_0 24 rfl rfl
theorem dksX1_undo_2 : cX1_undo.data.toList.drop 47 = dktX1_undo_2 := dk_seg dksX1_undo_1 23 rfl rfl
theorem dksX1_undo_3 : cX1_undo.data.toList.drop 71 = dktX1_undo_3 := dk_seg dksX1_undo_2 24 rfl rfl
theorem dX1_undo_0 : decode cX1_undo 0 = .ok (.iload_n 1, 1) := dk_27 (dk_at dksX1_undo_0 0 rfl rfl)
theorem dX1_undo_1 : decode cX1_undo 1 = .ok (.i2l, 1) := dk_133 (dk_at dksX1_undo_0 1 rfl rfl)
theorem dX1_undo_2 : decode cX1_undo 2 = .ok (.lconst 0, 1) := dk_9 (dk_at dksX1_undo_0 2 rfl rfl)
theorem dX1_undo_3 : decode cX1_undo 3 = .ok (.aload_n 0, 1) := dk_42 (dk_at dksX1_undo_0 3 rfl rfl)
theorem dX1_undo_4 : decode cX1_undo 4 = .ok (.getfield 7, 3) := dk_180 0 7 (dk_at dksX1_undo_0 4 rfl rfl)
theorem dX1_undo_7 : decode cX1_undo 7 = .ok (.iconst 0, 1) := dk_3 (dk_at dksX1_undo_0 7 rfl rfl)
theorem dX1_undo_8 : decode cX1_undo 8 = .ok (.iaload, 1) := dk_46 (dk_at dksX1_undo_0 8 rfl rfl)
theorem dX1_undo_9 : decode cX1_undo 9 = .ok (.i2l, 1) := dk_133 (dk_at dksX1_undo_0 9 rfl rfl)
theorem dX1_undo_10 : decode cX1_undo 10 = .ok (.invokestatic 72, 3) := dk_184 0 72 (dk_at dksX1_undo_0 10 rfl rfl)
theorem dX1_undo_13 : decode cX1_undo 13 = .ok (.ifCond .ne 5, 3) := dk_154 0 5 (dk_at dksX1_undo_0 13 rfl rfl)
theorem dX1_undo_16 : decode cX1_undo 16 = .ok (.iconst (-1), 1) := dk_2 (dk_at dksX1_undo_0 16 rfl rfl)
theorem dX1_undo_17 : decode cX1_undo 17 = .ok (.ireturn, 1) := dk_172 (dk_at dksX1_undo_0 17 rfl rfl)
theorem dX1_undo_18 : decode cX1_undo 18 = .ok (.aload_n 0, 1) := dk_42 (dk_at dksX1_undo_0 18 rfl rfl)
theorem dX1_undo_19 : decode cX1_undo 19 = .ok (.getfield 7, 3) := dk_180 0 7 (dk_at dksX1_undo_0 19 rfl rfl)
theorem dX1_undo_22 : decode cX1_undo 22 = .ok (.iconst 0, 1) := dk_3 (dk_at dksX1_undo_0 22 rfl rfl)
theorem dX1_undo_23 : decode cX1_undo 23 = .ok (.iaload, 1) := dk_46 (dk_at dksX1_undo_0 23 rfl rfl)
theorem dX1_undo_24 : decode cX1_undo 24 = .ok (.iload_n 1, 1) := dk_27 (dk_at dksX1_undo_1 0 rfl rfl)
theorem dX1_undo_25 : decode cX1_undo 25 = .ok (.isub, 1) := dk_100 (dk_at dksX1_undo_1 1 rfl rfl)
theorem dX1_undo_26 : decode cX1_undo 26 = .ok (.istore_n 2, 1) := dk_61 (dk_at dksX1_undo_1 2 rfl rfl)
theorem dX1_undo_27 : decode cX1_undo 27 = .ok (.iconst 0, 1) := dk_3 (dk_at dksX1_undo_1 3 rfl rfl)
theorem dX1_undo_28 : decode cX1_undo 28 = .ok (.istore_n 3, 1) := dk_62 (dk_at dksX1_undo_1 4 rfl rfl)
theorem dX1_undo_29 : decode cX1_undo 29 = .ok (.iload_n 3, 1) := dk_29 (dk_at dksX1_undo_1 5 rfl rfl)
theorem dX1_undo_30 : decode cX1_undo 30 = .ok (.bipush 9, 2) := dk_16 9 (dk_at dksX1_undo_1 6 rfl rfl)
theorem dX1_undo_32 : decode cX1_undo 32 = .ok (.if_icmp .ge 35, 3) := dk_162 0 35 (dk_at dksX1_undo_1 8 rfl rfl)
theorem dX1_undo_35 : decode cX1_undo 35 = .ok (.iload_n 2, 1) := dk_28 (dk_at dksX1_undo_1 11 rfl rfl)
theorem dX1_undo_36 : decode cX1_undo 36 = .ok (.ifCond .le 31, 3) := dk_158 0 31 (dk_at dksX1_undo_1 12 rfl rfl)
theorem dX1_undo_39 : decode cX1_undo 39 = .ok (.aload_n 0, 1) := dk_42 (dk_at dksX1_undo_1 15 rfl rfl)
theorem dX1_undo_40 : decode cX1_undo 40 = .ok (.getfield 7, 3) := dk_180 0 7 (dk_at dksX1_undo_1 16 rfl rfl)
theorem dX1_undo_43 : decode cX1_undo 43 = .ok (.iconst 1, 1) := dk_4 (dk_at dksX1_undo_1 19 rfl rfl)
theorem dX1_undo_44 : decode cX1_undo 44 = .ok (.iload_n 3, 1) := dk_29 (dk_at dksX1_undo_1 20 rfl rfl)
theorem dX1_undo_45 : decode cX1_undo 45 = .ok (.iadd, 1) := dk_96 (dk_at dksX1_undo_1 21 rfl rfl)
theorem dX1_undo_46 : decode cX1_undo 46 = .ok (.aload_n 0, 1) := dk_42 (dk_at dksX1_undo_1 22 rfl rfl)
theorem dX1_undo_47 : decode cX1_undo 47 = .ok (.getfield 7, 3) := dk_180 0 7 (dk_at dksX1_undo_2 0 rfl rfl)
theorem dX1_undo_50 : decode cX1_undo 50 = .ok (.bipush 10, 2) := dk_16 10 (dk_at dksX1_undo_2 3 rfl rfl)
theorem dX1_undo_52 : decode cX1_undo 52 = .ok (.bipush 9, 2) := dk_16 9 (dk_at dksX1_undo_2 5 rfl rfl)
theorem dX1_undo_54 : decode cX1_undo 54 = .ok (.iload_n 1, 1) := dk_27 (dk_at dksX1_undo_2 7 rfl rfl)
theorem dX1_undo_55 : decode cX1_undo 55 = .ok (.imul, 1) := dk_104 (dk_at dksX1_undo_2 8 rfl rfl)
theorem dX1_undo_56 : decode cX1_undo 56 = .ok (.iadd, 1) := dk_96 (dk_at dksX1_undo_2 9 rfl rfl)
theorem dX1_undo_57 : decode cX1_undo 57 = .ok (.iload_n 3, 1) := dk_29 (dk_at dksX1_undo_2 10 rfl rfl)
theorem dX1_undo_58 : decode cX1_undo 58 = .ok (.iadd, 1) := dk_96 (dk_at dksX1_undo_2 11 rfl rfl)
theorem dX1_undo_59 : decode cX1_undo 59 = .ok (.iaload, 1) := dk_46 (dk_at dksX1_undo_2 12 rfl rfl)
theorem dX1_undo_60 : decode cX1_undo 60 = .ok (.iastore, 1) := dk_79 (dk_at dksX1_undo_2 13 rfl rfl)
theorem dX1_undo_61 : decode cX1_undo 61 = .ok (.iinc 3 1, 3) := dk_132 3 1 (dk_at dksX1_undo_2 14 rfl rfl)
theorem dX1_undo_64 : decode cX1_undo 64 = .ok (.goto (-35), 3) := dk_167 255 221 (dk_at dksX1_undo_2 17 rfl rfl)
theorem dX1_undo_67 : decode cX1_undo 67 = .ok (.aload_n 0, 1) := dk_42 (dk_at dksX1_undo_2 20 rfl rfl)
theorem dX1_undo_68 : decode cX1_undo 68 = .ok (.getfield 7, 3) := dk_180 0 7 (dk_at dksX1_undo_2 21 rfl rfl)
theorem dX1_undo_71 : decode cX1_undo 71 = .ok (.iconst 0, 1) := dk_3 (dk_at dksX1_undo_3 0 rfl rfl)
theorem dX1_undo_72 : decode cX1_undo 72 = .ok (.iload_n 1, 1) := dk_27 (dk_at dksX1_undo_3 1 rfl rfl)
theorem dX1_undo_73 : decode cX1_undo 73 = .ok (.iastore, 1) := dk_79 (dk_at dksX1_undo_3 2 rfl rfl)
theorem dX1_undo_74 : decode cX1_undo 74 = .ok (.iload_n 2, 1) := dk_28 (dk_at dksX1_undo_3 3 rfl rfl)
theorem dX1_undo_75 : decode cX1_undo 75 = .ok (.ireturn, 1) := dk_172 (dk_at dksX1_undo_3 4 rfl rfl)
abbrev cX1_keep : ByteArray := prog_10_method_63_code
def yX1_keep : MethodName := ⟨RX1, "keep", "(I)I"⟩
def dkwX1_keep_1 : List UInt8 := [42, 3, 17, 1, 114, 4, 27, 96, 104, 182, 0, 226, 42, 180, 0, 7, 3, 46, 172]
abbrev dktX1_keep_1 : List UInt8 := dkwX1_keep_1 ++ []
def dkwX1_keep_0 : List UInt8 := [27, 133, 9, 20, 0, 224, 184, 0, 72, 154, 0, 5, 2, 172, 42, 180, 0, 147, 154, 0, 6, 16, 252, 172]
abbrev dktX1_keep_0 : List UInt8 := dkwX1_keep_0 ++ dktX1_keep_1
theorem dksX1_keep_0 : cX1_keep.data.toList.drop 0 = dktX1_keep_0 := by decide +kernel
theorem dksX1_keep_1 : cX1_keep.data.toList.drop 24 = dktX1_keep_1 := dk_seg dksX1_keep_0 24 rfl rfl
theorem dX1_keep_0 : decode cX1_keep 0 = .ok (.iload_n 1, 1) := dk_27 (dk_at dksX1_keep_0 0 rfl rfl)
theorem dX1_keep_1 : decode cX1_keep 1 = .ok (.i2l, 1) := dk_133 (dk_at dksX1_keep_0 1 rfl rfl)
theorem dX1_keep_2 : decode cX1_keep 2 = .ok (.lconst 0, 1) := dk_9 (dk_at dksX1_keep_0 2 rfl rfl)
theorem dX1_keep_3 : decode cX1_keep 3 = .ok (.ldc2_w 224, 3) := dk_20 0 224 (dk_at dksX1_keep_0 3 rfl rfl)
theorem dX1_keep_6 : decode cX1_keep 6 = .ok (.invokestatic 72, 3) := dk_184 0 72 (dk_at dksX1_keep_0 6 rfl rfl)
theorem dX1_keep_9 : decode cX1_keep 9 = .ok (.ifCond .ne 5, 3) := dk_154 0 5 (dk_at dksX1_keep_0 9 rfl rfl)
theorem dX1_keep_12 : decode cX1_keep 12 = .ok (.iconst (-1), 1) := dk_2 (dk_at dksX1_keep_0 12 rfl rfl)
theorem dX1_keep_13 : decode cX1_keep 13 = .ok (.ireturn, 1) := dk_172 (dk_at dksX1_keep_0 13 rfl rfl)
theorem dX1_keep_14 : decode cX1_keep 14 = .ok (.aload_n 0, 1) := dk_42 (dk_at dksX1_keep_0 14 rfl rfl)
theorem dX1_keep_15 : decode cX1_keep 15 = .ok (.getfield 147, 3) := dk_180 0 147 (dk_at dksX1_keep_0 15 rfl rfl)
theorem dX1_keep_18 : decode cX1_keep 18 = .ok (.ifCond .ne 6, 3) := dk_154 0 6 (dk_at dksX1_keep_0 18 rfl rfl)
theorem dX1_keep_21 : decode cX1_keep 21 = .ok (.bipush (-4), 2) := dk_16 252 (dk_at dksX1_keep_0 21 rfl rfl)
theorem dX1_keep_23 : decode cX1_keep 23 = .ok (.ireturn, 1) := dk_172 (dk_at dksX1_keep_0 23 rfl rfl)
theorem dX1_keep_24 : decode cX1_keep 24 = .ok (.aload_n 0, 1) := dk_42 (dk_at dksX1_keep_1 0 rfl rfl)
theorem dX1_keep_25 : decode cX1_keep 25 = .ok (.iconst 0, 1) := dk_3 (dk_at dksX1_keep_1 1 rfl rfl)
theorem dX1_keep_26 : decode cX1_keep 26 = .ok (.sipush 370, 3) := dk_17 1 114 (dk_at dksX1_keep_1 2 rfl rfl)
theorem dX1_keep_29 : decode cX1_keep 29 = .ok (.iconst 1, 1) := dk_4 (dk_at dksX1_keep_1 5 rfl rfl)
theorem dX1_keep_30 : decode cX1_keep 30 = .ok (.iload_n 1, 1) := dk_27 (dk_at dksX1_keep_1 6 rfl rfl)
theorem dX1_keep_31 : decode cX1_keep 31 = .ok (.iadd, 1) := dk_96 (dk_at dksX1_keep_1 7 rfl rfl)
theorem dX1_keep_32 : decode cX1_keep 32 = .ok (.imul, 1) := dk_104 (dk_at dksX1_keep_1 8 rfl rfl)
theorem dX1_keep_33 : decode cX1_keep 33 = .ok (.invokevirtual 226, 3) := dk_182 0 226 (dk_at dksX1_keep_1 9 rfl rfl)
theorem dX1_keep_36 : decode cX1_keep 36 = .ok (.aload_n 0, 1) := dk_42 (dk_at dksX1_keep_1 12 rfl rfl)
theorem dX1_keep_37 : decode cX1_keep 37 = .ok (.getfield 7, 3) := dk_180 0 7 (dk_at dksX1_keep_1 13 rfl rfl)
theorem dX1_keep_40 : decode cX1_keep 40 = .ok (.iconst 0, 1) := dk_3 (dk_at dksX1_keep_1 16 rfl rfl)
theorem dX1_keep_41 : decode cX1_keep 41 = .ok (.iaload, 1) := dk_46 (dk_at dksX1_keep_1 17 rfl rfl)
theorem dX1_keep_42 : decode cX1_keep 42 = .ok (.ireturn, 1) := dk_172 (dk_at dksX1_keep_1 18 rfl rfl)
abbrev cX1_copyCourt : ByteArray := prog_10_method_62_code
def yX1_copyCourt : MethodName := ⟨RX1, "copyCourt", "(II)V"⟩
def dkwX1_copyCourt_1 : List UInt8 := [79, 132, 3, 1, 167, 255, 230, 177]
abbrev dktX1_copyCourt_1 : List UInt8 := dkwX1_copyCourt_1 ++ []
def dkwX1_copyCourt_0 : List UInt8 := [3, 62, 29, 17, 1, 114, 162, 0, 25, 42, 180, 0, 7, 28, 29, 96, 42, 180, 0, 7, 27, 29, 96, 46]
abbrev dktX1_copyCourt_0 : List UInt8 := dkwX1_copyCourt_0 ++ dktX1_copyCourt_1
theorem dksX1_copyCourt_0 : cX1_copyCourt.data.toList.drop 0 = dktX1_copyCourt_0 := by decide +kernel
theorem dksX1_copyCourt_1 : cX1_copyCourt.data.toList.drop 24 = dktX1_copyCourt_1 := dk_seg dksX1_copyCourt_0 24 rfl rfl
theorem dX1_copyCourt_0 : decode cX1_copyCourt 0 = .ok (.iconst 0, 1) := dk_3 (dk_at dksX1_copyCourt_0 0 rfl rfl)
theorem dX1_copyCourt_1 : decode cX1_copyCourt 1 = .ok (.istore_n 3, 1) := dk_62 (dk_at dksX1_copyCourt_0 1 rfl rfl)
theorem dX1_copyCourt_2 : decode cX1_copyCourt 2 = .ok (.iload_n 3, 1) := dk_29 (dk_at dksX1_copyCourt_0 2 rfl rfl)
theorem dX1_copyCourt_3 : decode cX1_copyCourt 3 = .ok (.sipush 370, 3) := dk_17 1 114 (dk_at dksX1_copyCourt_0 3 rfl rfl)
theorem dX1_copyCourt_6 : decode cX1_copyCourt 6 = .ok (.if_icmp .ge 25, 3) := dk_162 0 25 (dk_at dksX1_copyCourt_0 6 rfl rfl)
theorem dX1_copyCourt_9 : decode cX1_copyCourt 9 = .ok (.aload_n 0, 1) := dk_42 (dk_at dksX1_copyCourt_0 9 rfl rfl)
theorem dX1_copyCourt_10 : decode cX1_copyCourt 10 = .ok (.getfield 7, 3) := dk_180 0 7 (dk_at dksX1_copyCourt_0 10 rfl rfl)
theorem dX1_copyCourt_13 : decode cX1_copyCourt 13 = .ok (.iload_n 2, 1) := dk_28 (dk_at dksX1_copyCourt_0 13 rfl rfl)
theorem dX1_copyCourt_14 : decode cX1_copyCourt 14 = .ok (.iload_n 3, 1) := dk_29 (dk_at dksX1_copyCourt_0 14 rfl rfl)
theorem dX1_copyCourt_15 : decode cX1_copyCourt 15 = .ok (.iadd, 1) := dk_96 (dk_at dksX1_copyCourt_0 15 rfl rfl)
theorem dX1_copyCourt_16 : decode cX1_copyCourt 16 = .ok (.aload_n 0, 1) := dk_42 (dk_at dksX1_copyCourt_0 16 rfl rfl)
theorem dX1_copyCourt_17 : decode cX1_copyCourt 17 = .ok (.getfield 7, 3) := dk_180 0 7 (dk_at dksX1_copyCourt_0 17 rfl rfl)
theorem dX1_copyCourt_20 : decode cX1_copyCourt 20 = .ok (.iload_n 1, 1) := dk_27 (dk_at dksX1_copyCourt_0 20 rfl rfl)
theorem dX1_copyCourt_21 : decode cX1_copyCourt 21 = .ok (.iload_n 3, 1) := dk_29 (dk_at dksX1_copyCourt_0 21 rfl rfl)
theorem dX1_copyCourt_22 : decode cX1_copyCourt 22 = .ok (.iadd, 1) := dk_96 (dk_at dksX1_copyCourt_0 22 rfl rfl)
theorem dX1_copyCourt_23 : decode cX1_copyCourt 23 = .ok (.iaload, 1) := dk_46 (dk_at dksX1_copyCourt_0 23 rfl rfl)
theorem dX1_copyCourt_24 : decode cX1_copyCourt 24 = .ok (.iastore, 1) := dk_79 (dk_at dksX1_copyCourt_1 0 rfl rfl)
theorem dX1_copyCourt_25 : decode cX1_copyCourt 25 = .ok (.iinc 3 1, 3) := dk_132 3 1 (dk_at dksX1_copyCourt_1 1 rfl rfl)
theorem dX1_copyCourt_28 : decode cX1_copyCourt 28 = .ok (.goto (-26), 3) := dk_167 255 230 (dk_at dksX1_copyCourt_1 4 rfl rfl)
theorem dX1_copyCourt_31 : decode cX1_copyCourt 31 = .ok (.return_, 1) := dk_177 (dk_at dksX1_copyCourt_1 7 rfl rfl)
abbrev cX1_on : ByteArray := prog_10_method_64_code
def yX1_on : MethodName := ⟨RX1, "on", "(I)I"⟩
def dkwX1_on_2 : List UInt8 := [182, 0, 226, 42, 180, 0, 7, 3, 46, 172]
abbrev dktX1_on_2 : List UInt8 := dkwX1_on_2 ++ []
def dkwX1_on_1 : List UInt8 := [104, 3, 96, 46, 156, 0, 9, 42, 4, 182, 0, 82, 172, 42, 17, 1, 114, 4, 27, 96, 104, 3]
abbrev dktX1_on_1 : List UInt8 := dkwX1_on_1 ++ dktX1_on_2
def dkwX1_on_0 : List UInt8 := [27, 133, 9, 20, 0, 224, 184, 0, 72, 154, 0, 5, 2, 172, 42, 180, 0, 7, 17, 1, 114, 4, 27, 96]
abbrev dktX1_on_0 : List UInt8 := dkwX1_on_0 ++ dktX1_on_1
theorem dksX1_on_0 : cX1_on.data.toList.drop 0 = dktX1_on_0 := by decide +kernel
theorem dksX1_on_1 : cX1_on.data.toList.drop 24 = dktX1_on_1 := dk_seg dksX1_on_0 24 rfl rfl
theorem dksX1_on_2 : cX1_on.data.toList.drop 46 = dktX1_on_2 := dk_seg dksX1_on_1 22 rfl rfl
theorem dX1_on_0 : decode cX1_on 0 = .ok (.iload_n 1, 1) := dk_27 (dk_at dksX1_on_0 0 rfl rfl)
theorem dX1_on_1 : decode cX1_on 1 = .ok (.i2l, 1) := dk_133 (dk_at dksX1_on_0 1 rfl rfl)
theorem dX1_on_2 : decode cX1_on 2 = .ok (.lconst 0, 1) := dk_9 (dk_at dksX1_on_0 2 rfl rfl)
theorem dX1_on_3 : decode cX1_on 3 = .ok (.ldc2_w 224, 3) := dk_20 0 224 (dk_at dksX1_on_0 3 rfl rfl)
theorem dX1_on_6 : decode cX1_on 6 = .ok (.invokestatic 72, 3) := dk_184 0 72 (dk_at dksX1_on_0 6 rfl rfl)
theorem dX1_on_9 : decode cX1_on 9 = .ok (.ifCond .ne 5, 3) := dk_154 0 5 (dk_at dksX1_on_0 9 rfl rfl)
theorem dX1_on_12 : decode cX1_on 12 = .ok (.iconst (-1), 1) := dk_2 (dk_at dksX1_on_0 12 rfl rfl)
theorem dX1_on_13 : decode cX1_on 13 = .ok (.ireturn, 1) := dk_172 (dk_at dksX1_on_0 13 rfl rfl)
theorem dX1_on_14 : decode cX1_on 14 = .ok (.aload_n 0, 1) := dk_42 (dk_at dksX1_on_0 14 rfl rfl)
theorem dX1_on_15 : decode cX1_on 15 = .ok (.getfield 7, 3) := dk_180 0 7 (dk_at dksX1_on_0 15 rfl rfl)
theorem dX1_on_18 : decode cX1_on 18 = .ok (.sipush 370, 3) := dk_17 1 114 (dk_at dksX1_on_0 18 rfl rfl)
theorem dX1_on_21 : decode cX1_on 21 = .ok (.iconst 1, 1) := dk_4 (dk_at dksX1_on_0 21 rfl rfl)
theorem dX1_on_22 : decode cX1_on 22 = .ok (.iload_n 1, 1) := dk_27 (dk_at dksX1_on_0 22 rfl rfl)
theorem dX1_on_23 : decode cX1_on 23 = .ok (.iadd, 1) := dk_96 (dk_at dksX1_on_0 23 rfl rfl)
theorem dX1_on_24 : decode cX1_on 24 = .ok (.imul, 1) := dk_104 (dk_at dksX1_on_1 0 rfl rfl)
theorem dX1_on_25 : decode cX1_on 25 = .ok (.iconst 0, 1) := dk_3 (dk_at dksX1_on_1 1 rfl rfl)
theorem dX1_on_26 : decode cX1_on 26 = .ok (.iadd, 1) := dk_96 (dk_at dksX1_on_1 2 rfl rfl)
theorem dX1_on_27 : decode cX1_on 27 = .ok (.iaload, 1) := dk_46 (dk_at dksX1_on_1 3 rfl rfl)
theorem dX1_on_28 : decode cX1_on 28 = .ok (.ifCond .ge 9, 3) := dk_156 0 9 (dk_at dksX1_on_1 4 rfl rfl)
theorem dX1_on_31 : decode cX1_on 31 = .ok (.aload_n 0, 1) := dk_42 (dk_at dksX1_on_1 7 rfl rfl)
theorem dX1_on_32 : decode cX1_on 32 = .ok (.iconst 1, 1) := dk_4 (dk_at dksX1_on_1 8 rfl rfl)
theorem dX1_on_33 : decode cX1_on 33 = .ok (.invokevirtual 82, 3) := dk_182 0 82 (dk_at dksX1_on_1 9 rfl rfl)
theorem dX1_on_36 : decode cX1_on 36 = .ok (.ireturn, 1) := dk_172 (dk_at dksX1_on_1 12 rfl rfl)
theorem dX1_on_37 : decode cX1_on 37 = .ok (.aload_n 0, 1) := dk_42 (dk_at dksX1_on_1 13 rfl rfl)
theorem dX1_on_38 : decode cX1_on 38 = .ok (.sipush 370, 3) := dk_17 1 114 (dk_at dksX1_on_1 14 rfl rfl)
theorem dX1_on_41 : decode cX1_on 41 = .ok (.iconst 1, 1) := dk_4 (dk_at dksX1_on_1 17 rfl rfl)
theorem dX1_on_42 : decode cX1_on 42 = .ok (.iload_n 1, 1) := dk_27 (dk_at dksX1_on_1 18 rfl rfl)
theorem dX1_on_43 : decode cX1_on 43 = .ok (.iadd, 1) := dk_96 (dk_at dksX1_on_1 19 rfl rfl)
theorem dX1_on_44 : decode cX1_on 44 = .ok (.imul, 1) := dk_104 (dk_at dksX1_on_1 20 rfl rfl)
theorem dX1_on_45 : decode cX1_on 45 = .ok (.iconst 0, 1) := dk_3 (dk_at dksX1_on_1 21 rfl rfl)
theorem dX1_on_46 : decode cX1_on 46 = .ok (.invokevirtual 226, 3) := dk_182 0 226 (dk_at dksX1_on_2 0 rfl rfl)
theorem dX1_on_49 : decode cX1_on 49 = .ok (.aload_n 0, 1) := dk_42 (dk_at dksX1_on_2 3 rfl rfl)
theorem dX1_on_50 : decode cX1_on 50 = .ok (.getfield 7, 3) := dk_180 0 7 (dk_at dksX1_on_2 4 rfl rfl)
theorem dX1_on_53 : decode cX1_on 53 = .ok (.iconst 0, 1) := dk_3 (dk_at dksX1_on_2 7 rfl rfl)
theorem dX1_on_54 : decode cX1_on 54 = .ok (.iaload, 1) := dk_46 (dk_at dksX1_on_2 8 rfl rfl)
theorem dX1_on_55 : decode cX1_on 55 = .ok (.ireturn, 1) := dk_172 (dk_at dksX1_on_2 9 rfl rfl)
abbrev cX1_value : ByteArray := prog_10_method_65_code
def yX1_value : MethodName := ⟨RX1, "value", "(II)I"⟩
def dkwX1_value_1 : List UInt8 := [2, 172]
abbrev dktX1_value_1 : List UInt8 := dkwX1_value_1 ++ []
def dkwX1_value_0 : List UInt8 := [42, 27, 182, 0, 229, 153, 0, 19, 28, 184, 0, 209, 153, 0, 12, 42, 27, 28, 182, 0, 157, 167, 0, 4]
abbrev dktX1_value_0 : List UInt8 := dkwX1_value_0 ++ dktX1_value_1
theorem dksX1_value_0 : cX1_value.data.toList.drop 0 = dktX1_value_0 := by decide +kernel
theorem dksX1_value_1 : cX1_value.data.toList.drop 24 = dktX1_value_1 := dk_seg dksX1_value_0 24 rfl rfl
theorem dX1_value_0 : decode cX1_value 0 = .ok (.aload_n 0, 1) := dk_42 (dk_at dksX1_value_0 0 rfl rfl)
theorem dX1_value_1 : decode cX1_value 1 = .ok (.iload_n 1, 1) := dk_27 (dk_at dksX1_value_0 1 rfl rfl)
theorem dX1_value_2 : decode cX1_value 2 = .ok (.invokevirtual 229, 3) := dk_182 0 229 (dk_at dksX1_value_0 2 rfl rfl)
theorem dX1_value_5 : decode cX1_value 5 = .ok (.ifCond .eq 19, 3) := dk_153 0 19 (dk_at dksX1_value_0 5 rfl rfl)
theorem dX1_value_8 : decode cX1_value 8 = .ok (.iload_n 2, 1) := dk_28 (dk_at dksX1_value_0 8 rfl rfl)
theorem dX1_value_9 : decode cX1_value 9 = .ok (.invokestatic 209, 3) := dk_184 0 209 (dk_at dksX1_value_0 9 rfl rfl)
theorem dX1_value_12 : decode cX1_value 12 = .ok (.ifCond .eq 12, 3) := dk_153 0 12 (dk_at dksX1_value_0 12 rfl rfl)
theorem dX1_value_15 : decode cX1_value 15 = .ok (.aload_n 0, 1) := dk_42 (dk_at dksX1_value_0 15 rfl rfl)
theorem dX1_value_16 : decode cX1_value 16 = .ok (.iload_n 1, 1) := dk_27 (dk_at dksX1_value_0 16 rfl rfl)
theorem dX1_value_17 : decode cX1_value 17 = .ok (.iload_n 2, 1) := dk_28 (dk_at dksX1_value_0 17 rfl rfl)
theorem dX1_value_18 : decode cX1_value 18 = .ok (.invokevirtual 157, 3) := dk_182 0 157 (dk_at dksX1_value_0 18 rfl rfl)
theorem dX1_value_21 : decode cX1_value 21 = .ok (.goto 4, 3) := dk_167 0 4 (dk_at dksX1_value_0 21 rfl rfl)
theorem dX1_value_24 : decode cX1_value 24 = .ok (.iconst (-1), 1) := dk_2 (dk_at dksX1_value_1 0 rfl rfl)
theorem dX1_value_25 : decode cX1_value 25 = .ok (.ireturn, 1) := dk_172 (dk_at dksX1_value_1 1 rfl rfl)
abbrev cX1_isWay : ByteArray := prog_10_method_34_code
def yX1_isWay : MethodName := ⟨RX1, "isWay", "(I)Z"⟩
def dkwX1_isWay_0 : List UInt8 := [27, 133, 9, 42, 182, 0, 150, 4, 100, 133, 184, 0, 72, 172]
abbrev dktX1_isWay_0 : List UInt8 := dkwX1_isWay_0 ++ []
theorem dksX1_isWay_0 : cX1_isWay.data.toList.drop 0 = dktX1_isWay_0 := by decide +kernel
theorem dX1_isWay_0 : decode cX1_isWay 0 = .ok (.iload_n 1, 1) := dk_27 (dk_at dksX1_isWay_0 0 rfl rfl)
theorem dX1_isWay_1 : decode cX1_isWay 1 = .ok (.i2l, 1) := dk_133 (dk_at dksX1_isWay_0 1 rfl rfl)
theorem dX1_isWay_2 : decode cX1_isWay 2 = .ok (.lconst 0, 1) := dk_9 (dk_at dksX1_isWay_0 2 rfl rfl)
theorem dX1_isWay_3 : decode cX1_isWay 3 = .ok (.aload_n 0, 1) := dk_42 (dk_at dksX1_isWay_0 3 rfl rfl)
theorem dX1_isWay_4 : decode cX1_isWay 4 = .ok (.invokevirtual 150, 3) := dk_182 0 150 (dk_at dksX1_isWay_0 4 rfl rfl)
theorem dX1_isWay_7 : decode cX1_isWay 7 = .ok (.iconst 1, 1) := dk_4 (dk_at dksX1_isWay_0 7 rfl rfl)
theorem dX1_isWay_8 : decode cX1_isWay 8 = .ok (.isub, 1) := dk_100 (dk_at dksX1_isWay_0 8 rfl rfl)
theorem dX1_isWay_9 : decode cX1_isWay 9 = .ok (.i2l, 1) := dk_133 (dk_at dksX1_isWay_0 9 rfl rfl)
theorem dX1_isWay_10 : decode cX1_isWay 10 = .ok (.invokestatic 72, 3) := dk_184 0 72 (dk_at dksX1_isWay_0 10 rfl rfl)
theorem dX1_isWay_13 : decode cX1_isWay 13 = .ok (.ireturn, 1) := dk_172 (dk_at dksX1_isWay_0 13 rfl rfl)
abbrev cX1_cost : ByteArray := prog_10_method_66_code
def yX1_cost : MethodName := ⟨RX1, "cost", "(I)I"⟩
def dkwX1_cost_0 : List UInt8 := [42, 27, 182, 0, 229, 153, 0, 11, 42, 27, 182, 0, 232, 167, 0, 4, 2, 172]
abbrev dktX1_cost_0 : List UInt8 := dkwX1_cost_0 ++ []
theorem dksX1_cost_0 : cX1_cost.data.toList.drop 0 = dktX1_cost_0 := by decide +kernel
theorem dX1_cost_0 : decode cX1_cost 0 = .ok (.aload_n 0, 1) := dk_42 (dk_at dksX1_cost_0 0 rfl rfl)
theorem dX1_cost_1 : decode cX1_cost 1 = .ok (.iload_n 1, 1) := dk_27 (dk_at dksX1_cost_0 1 rfl rfl)
theorem dX1_cost_2 : decode cX1_cost 2 = .ok (.invokevirtual 229, 3) := dk_182 0 229 (dk_at dksX1_cost_0 2 rfl rfl)
theorem dX1_cost_5 : decode cX1_cost 5 = .ok (.ifCond .eq 11, 3) := dk_153 0 11 (dk_at dksX1_cost_0 5 rfl rfl)
theorem dX1_cost_8 : decode cX1_cost 8 = .ok (.aload_n 0, 1) := dk_42 (dk_at dksX1_cost_0 8 rfl rfl)
theorem dX1_cost_9 : decode cX1_cost 9 = .ok (.iload_n 1, 1) := dk_27 (dk_at dksX1_cost_0 9 rfl rfl)
theorem dX1_cost_10 : decode cX1_cost 10 = .ok (.invokevirtual 232, 3) := dk_182 0 232 (dk_at dksX1_cost_0 10 rfl rfl)
theorem dX1_cost_13 : decode cX1_cost 13 = .ok (.goto 4, 3) := dk_167 0 4 (dk_at dksX1_cost_0 13 rfl rfl)
theorem dX1_cost_16 : decode cX1_cost 16 = .ok (.iconst (-1), 1) := dk_2 (dk_at dksX1_cost_0 16 rfl rfl)
theorem dX1_cost_17 : decode cX1_cost 17 = .ok (.ireturn, 1) := dk_172 (dk_at dksX1_cost_0 17 rfl rfl)
abbrev cX1_costOf : ByteArray := prog_10_method_46_code
def yX1_costOf : MethodName := ⟨RX1, "costOf", "(I)I"⟩
def dkwX1_costOf_1 : List UInt8 := [180, 0, 13, 8, 29, 104, 7, 96, 46, 167, 0, 4, 3, 96, 61, 132, 3, 1, 167, 255, 220, 28, 172]
abbrev dktX1_costOf_1 : List UInt8 := dkwX1_costOf_1 ++ []
def dkwX1_costOf_0 : List UInt8 := [3, 61, 3, 62, 29, 42, 180, 0, 147, 162, 0, 34, 28, 27, 29, 184, 0, 153, 153, 0, 16, 42]
abbrev dktX1_costOf_0 : List UInt8 := dkwX1_costOf_0 ++ dktX1_costOf_1
theorem dksX1_costOf_0 : cX1_costOf.data.toList.drop 0 = dktX1_costOf_0 := by decide +kernel
theorem dksX1_costOf_1 : cX1_costOf.data.toList.drop 22 = dktX1_costOf_1 := dk_seg dksX1_costOf_0 22 rfl rfl
theorem dX1_costOf_0 : decode cX1_costOf 0 = .ok (.iconst 0, 1) := dk_3 (dk_at dksX1_costOf_0 0 rfl rfl)
theorem dX1_costOf_1 : decode cX1_costOf 1 = .ok (.istore_n 2, 1) := dk_61 (dk_at dksX1_costOf_0 1 rfl rfl)
theorem dX1_costOf_2 : decode cX1_costOf 2 = .ok (.iconst 0, 1) := dk_3 (dk_at dksX1_costOf_0 2 rfl rfl)
theorem dX1_costOf_3 : decode cX1_costOf 3 = .ok (.istore_n 3, 1) := dk_62 (dk_at dksX1_costOf_0 3 rfl rfl)
theorem dX1_costOf_4 : decode cX1_costOf 4 = .ok (.iload_n 3, 1) := dk_29 (dk_at dksX1_costOf_0 4 rfl rfl)
theorem dX1_costOf_5 : decode cX1_costOf 5 = .ok (.aload_n 0, 1) := dk_42 (dk_at dksX1_costOf_0 5 rfl rfl)
theorem dX1_costOf_6 : decode cX1_costOf 6 = .ok (.getfield 147, 3) := dk_180 0 147 (dk_at dksX1_costOf_0 6 rfl rfl)
theorem dX1_costOf_9 : decode cX1_costOf 9 = .ok (.if_icmp .ge 34, 3) := dk_162 0 34 (dk_at dksX1_costOf_0 9 rfl rfl)
theorem dX1_costOf_12 : decode cX1_costOf 12 = .ok (.iload_n 2, 1) := dk_28 (dk_at dksX1_costOf_0 12 rfl rfl)
theorem dX1_costOf_13 : decode cX1_costOf 13 = .ok (.iload_n 1, 1) := dk_27 (dk_at dksX1_costOf_0 13 rfl rfl)
theorem dX1_costOf_14 : decode cX1_costOf 14 = .ok (.iload_n 3, 1) := dk_29 (dk_at dksX1_costOf_0 14 rfl rfl)
theorem dX1_costOf_15 : decode cX1_costOf 15 = .ok (.invokestatic 153, 3) := dk_184 0 153 (dk_at dksX1_costOf_0 15 rfl rfl)
theorem dX1_costOf_18 : decode cX1_costOf 18 = .ok (.ifCond .eq 16, 3) := dk_153 0 16 (dk_at dksX1_costOf_0 18 rfl rfl)
theorem dX1_costOf_21 : decode cX1_costOf 21 = .ok (.aload_n 0, 1) := dk_42 (dk_at dksX1_costOf_0 21 rfl rfl)
theorem dX1_costOf_22 : decode cX1_costOf 22 = .ok (.getfield 13, 3) := dk_180 0 13 (dk_at dksX1_costOf_1 0 rfl rfl)
theorem dX1_costOf_25 : decode cX1_costOf 25 = .ok (.iconst 5, 1) := dk_8 (dk_at dksX1_costOf_1 3 rfl rfl)
theorem dX1_costOf_26 : decode cX1_costOf 26 = .ok (.iload_n 3, 1) := dk_29 (dk_at dksX1_costOf_1 4 rfl rfl)
theorem dX1_costOf_27 : decode cX1_costOf 27 = .ok (.imul, 1) := dk_104 (dk_at dksX1_costOf_1 5 rfl rfl)
theorem dX1_costOf_28 : decode cX1_costOf 28 = .ok (.iconst 4, 1) := dk_7 (dk_at dksX1_costOf_1 6 rfl rfl)
theorem dX1_costOf_29 : decode cX1_costOf 29 = .ok (.iadd, 1) := dk_96 (dk_at dksX1_costOf_1 7 rfl rfl)
theorem dX1_costOf_30 : decode cX1_costOf 30 = .ok (.iaload, 1) := dk_46 (dk_at dksX1_costOf_1 8 rfl rfl)
theorem dX1_costOf_31 : decode cX1_costOf 31 = .ok (.goto 4, 3) := dk_167 0 4 (dk_at dksX1_costOf_1 9 rfl rfl)
theorem dX1_costOf_34 : decode cX1_costOf 34 = .ok (.iconst 0, 1) := dk_3 (dk_at dksX1_costOf_1 12 rfl rfl)
theorem dX1_costOf_35 : decode cX1_costOf 35 = .ok (.iadd, 1) := dk_96 (dk_at dksX1_costOf_1 13 rfl rfl)
theorem dX1_costOf_36 : decode cX1_costOf 36 = .ok (.istore_n 2, 1) := dk_61 (dk_at dksX1_costOf_1 14 rfl rfl)
theorem dX1_costOf_37 : decode cX1_costOf 37 = .ok (.iinc 3 1, 3) := dk_132 3 1 (dk_at dksX1_costOf_1 15 rfl rfl)
theorem dX1_costOf_40 : decode cX1_costOf 40 = .ok (.goto (-36), 3) := dk_167 255 220 (dk_at dksX1_costOf_1 18 rfl rfl)
theorem dX1_costOf_43 : decode cX1_costOf 43 = .ok (.iload_n 2, 1) := dk_28 (dk_at dksX1_costOf_1 21 rfl rfl)
theorem dX1_costOf_44 : decode cX1_costOf 44 = .ok (.ireturn, 1) := dk_172 (dk_at dksX1_costOf_1 22 rfl rfl)
abbrev cX1_holds : ByteArray := prog_10_method_67_code
def yX1_holds : MethodName := ⟨RX1, "holds", "(I)I"⟩
def dkwX1_holds_1 : List UInt8 := [181, 0, 67, 42, 27, 182, 0, 185, 172]
abbrev dktX1_holds_1 : List UInt8 := dkwX1_holds_1 ++ []
def dkwX1_holds_0 : List UInt8 := [42, 27, 182, 0, 229, 154, 0, 5, 2, 172, 42, 42, 27, 182, 0, 235, 153, 0, 7, 4, 167, 0, 4, 3]
abbrev dktX1_holds_0 : List UInt8 := dkwX1_holds_0 ++ dktX1_holds_1
theorem dksX1_holds_0 : cX1_holds.data.toList.drop 0 = dktX1_holds_0 := by decide +kernel
theorem dksX1_holds_1 : cX1_holds.data.toList.drop 24 = dktX1_holds_1 := dk_seg dksX1_holds_0 24 rfl rfl
theorem dX1_holds_0 : decode cX1_holds 0 = .ok (.aload_n 0, 1) := dk_42 (dk_at dksX1_holds_0 0 rfl rfl)
theorem dX1_holds_1 : decode cX1_holds 1 = .ok (.iload_n 1, 1) := dk_27 (dk_at dksX1_holds_0 1 rfl rfl)
theorem dX1_holds_2 : decode cX1_holds 2 = .ok (.invokevirtual 229, 3) := dk_182 0 229 (dk_at dksX1_holds_0 2 rfl rfl)
theorem dX1_holds_5 : decode cX1_holds 5 = .ok (.ifCond .ne 5, 3) := dk_154 0 5 (dk_at dksX1_holds_0 5 rfl rfl)
theorem dX1_holds_8 : decode cX1_holds 8 = .ok (.iconst (-1), 1) := dk_2 (dk_at dksX1_holds_0 8 rfl rfl)
theorem dX1_holds_9 : decode cX1_holds 9 = .ok (.ireturn, 1) := dk_172 (dk_at dksX1_holds_0 9 rfl rfl)
theorem dX1_holds_10 : decode cX1_holds 10 = .ok (.aload_n 0, 1) := dk_42 (dk_at dksX1_holds_0 10 rfl rfl)
theorem dX1_holds_11 : decode cX1_holds 11 = .ok (.aload_n 0, 1) := dk_42 (dk_at dksX1_holds_0 11 rfl rfl)
theorem dX1_holds_12 : decode cX1_holds 12 = .ok (.iload_n 1, 1) := dk_27 (dk_at dksX1_holds_0 12 rfl rfl)
theorem dX1_holds_13 : decode cX1_holds 13 = .ok (.invokevirtual 235, 3) := dk_182 0 235 (dk_at dksX1_holds_0 13 rfl rfl)
theorem dX1_holds_16 : decode cX1_holds 16 = .ok (.ifCond .eq 7, 3) := dk_153 0 7 (dk_at dksX1_holds_0 16 rfl rfl)
theorem dX1_holds_19 : decode cX1_holds 19 = .ok (.iconst 1, 1) := dk_4 (dk_at dksX1_holds_0 19 rfl rfl)
theorem dX1_holds_20 : decode cX1_holds 20 = .ok (.goto 4, 3) := dk_167 0 4 (dk_at dksX1_holds_0 20 rfl rfl)
theorem dX1_holds_23 : decode cX1_holds 23 = .ok (.iconst 0, 1) := dk_3 (dk_at dksX1_holds_0 23 rfl rfl)
theorem dX1_holds_24 : decode cX1_holds 24 = .ok (.putfield 67, 3) := dk_181 0 67 (dk_at dksX1_holds_1 0 rfl rfl)
theorem dX1_holds_27 : decode cX1_holds 27 = .ok (.aload_n 0, 1) := dk_42 (dk_at dksX1_holds_1 3 rfl rfl)
theorem dX1_holds_28 : decode cX1_holds 28 = .ok (.iload_n 1, 1) := dk_27 (dk_at dksX1_holds_1 4 rfl rfl)
theorem dX1_holds_29 : decode cX1_holds 29 = .ok (.invokevirtual 185, 3) := dk_182 0 185 (dk_at dksX1_holds_1 5 rfl rfl)
theorem dX1_holds_32 : decode cX1_holds 32 = .ok (.ireturn, 1) := dk_172 (dk_at dksX1_holds_1 8 rfl rfl)
abbrev cX1_isGood : ByteArray := prog_10_method_45_code
def yX1_isGood : MethodName := ⟨RX1, "isGood", "(I)Z"⟩
def dkwX1_isGood_0 : List UInt8 := [42, 180, 0, 7, 4, 46, 42, 27, 182, 0, 185, 2, 130, 126, 154, 0, 7, 4, 167, 0, 4, 3, 172]
abbrev dktX1_isGood_0 : List UInt8 := dkwX1_isGood_0 ++ []
theorem dksX1_isGood_0 : cX1_isGood.data.toList.drop 0 = dktX1_isGood_0 := by decide +kernel
theorem dX1_isGood_0 : decode cX1_isGood 0 = .ok (.aload_n 0, 1) := dk_42 (dk_at dksX1_isGood_0 0 rfl rfl)
theorem dX1_isGood_1 : decode cX1_isGood 1 = .ok (.getfield 7, 3) := dk_180 0 7 (dk_at dksX1_isGood_0 1 rfl rfl)
theorem dX1_isGood_4 : decode cX1_isGood 4 = .ok (.iconst 1, 1) := dk_4 (dk_at dksX1_isGood_0 4 rfl rfl)
theorem dX1_isGood_5 : decode cX1_isGood 5 = .ok (.iaload, 1) := dk_46 (dk_at dksX1_isGood_0 5 rfl rfl)
theorem dX1_isGood_6 : decode cX1_isGood 6 = .ok (.aload_n 0, 1) := dk_42 (dk_at dksX1_isGood_0 6 rfl rfl)
theorem dX1_isGood_7 : decode cX1_isGood 7 = .ok (.iload_n 1, 1) := dk_27 (dk_at dksX1_isGood_0 7 rfl rfl)
theorem dX1_isGood_8 : decode cX1_isGood 8 = .ok (.invokevirtual 185, 3) := dk_182 0 185 (dk_at dksX1_isGood_0 8 rfl rfl)
theorem dX1_isGood_11 : decode cX1_isGood 11 = .ok (.iconst (-1), 1) := dk_2 (dk_at dksX1_isGood_0 11 rfl rfl)
theorem dX1_isGood_12 : decode cX1_isGood 12 = .ok (.ixor, 1) := dk_130 (dk_at dksX1_isGood_0 12 rfl rfl)
theorem dX1_isGood_13 : decode cX1_isGood 13 = .ok (.iand, 1) := dk_126 (dk_at dksX1_isGood_0 13 rfl rfl)
theorem dX1_isGood_14 : decode cX1_isGood 14 = .ok (.ifCond .ne 7, 3) := dk_154 0 7 (dk_at dksX1_isGood_0 14 rfl rfl)
theorem dX1_isGood_17 : decode cX1_isGood 17 = .ok (.iconst 1, 1) := dk_4 (dk_at dksX1_isGood_0 17 rfl rfl)
theorem dX1_isGood_18 : decode cX1_isGood 18 = .ok (.goto 4, 3) := dk_167 0 4 (dk_at dksX1_isGood_0 18 rfl rfl)
theorem dX1_isGood_21 : decode cX1_isGood 21 = .ok (.iconst 0, 1) := dk_3 (dk_at dksX1_isGood_0 21 rfl rfl)
theorem dX1_isGood_22 : decode cX1_isGood 22 = .ok (.ireturn, 1) := dk_172 (dk_at dksX1_isGood_0 22 rfl rfl)
abbrev cX1_heldBy : ByteArray := prog_10_method_44_code
def yX1_heldBy : MethodName := ⟨RX1, "heldBy", "(I)I"⟩
def dkwX1_heldBy_1 : List UInt8 := [120, 167, 0, 4, 3, 128, 61, 132, 3, 1, 167, 255, 226, 28, 172]
abbrev dktX1_heldBy_1 : List UInt8 := dkwX1_heldBy_1 ++ []
def dkwX1_heldBy_0 : List UInt8 := [3, 61, 3, 62, 29, 42, 180, 0, 60, 162, 0, 28, 28, 42, 29, 27, 182, 0, 182, 153, 0, 9, 4, 29]
abbrev dktX1_heldBy_0 : List UInt8 := dkwX1_heldBy_0 ++ dktX1_heldBy_1
theorem dksX1_heldBy_0 : cX1_heldBy.data.toList.drop 0 = dktX1_heldBy_0 := by decide +kernel
theorem dksX1_heldBy_1 : cX1_heldBy.data.toList.drop 24 = dktX1_heldBy_1 := dk_seg dksX1_heldBy_0 24 rfl rfl
theorem dX1_heldBy_0 : decode cX1_heldBy 0 = .ok (.iconst 0, 1) := dk_3 (dk_at dksX1_heldBy_0 0 rfl rfl)
theorem dX1_heldBy_1 : decode cX1_heldBy 1 = .ok (.istore_n 2, 1) := dk_61 (dk_at dksX1_heldBy_0 1 rfl rfl)
theorem dX1_heldBy_2 : decode cX1_heldBy 2 = .ok (.iconst 0, 1) := dk_3 (dk_at dksX1_heldBy_0 2 rfl rfl)
theorem dX1_heldBy_3 : decode cX1_heldBy 3 = .ok (.istore_n 3, 1) := dk_62 (dk_at dksX1_heldBy_0 3 rfl rfl)
theorem dX1_heldBy_4 : decode cX1_heldBy 4 = .ok (.iload_n 3, 1) := dk_29 (dk_at dksX1_heldBy_0 4 rfl rfl)
theorem dX1_heldBy_5 : decode cX1_heldBy 5 = .ok (.aload_n 0, 1) := dk_42 (dk_at dksX1_heldBy_0 5 rfl rfl)
theorem dX1_heldBy_6 : decode cX1_heldBy 6 = .ok (.getfield 60, 3) := dk_180 0 60 (dk_at dksX1_heldBy_0 6 rfl rfl)
theorem dX1_heldBy_9 : decode cX1_heldBy 9 = .ok (.if_icmp .ge 28, 3) := dk_162 0 28 (dk_at dksX1_heldBy_0 9 rfl rfl)
theorem dX1_heldBy_12 : decode cX1_heldBy 12 = .ok (.iload_n 2, 1) := dk_28 (dk_at dksX1_heldBy_0 12 rfl rfl)
theorem dX1_heldBy_13 : decode cX1_heldBy 13 = .ok (.aload_n 0, 1) := dk_42 (dk_at dksX1_heldBy_0 13 rfl rfl)
theorem dX1_heldBy_14 : decode cX1_heldBy 14 = .ok (.iload_n 3, 1) := dk_29 (dk_at dksX1_heldBy_0 14 rfl rfl)
theorem dX1_heldBy_15 : decode cX1_heldBy 15 = .ok (.iload_n 1, 1) := dk_27 (dk_at dksX1_heldBy_0 15 rfl rfl)
theorem dX1_heldBy_16 : decode cX1_heldBy 16 = .ok (.invokevirtual 182, 3) := dk_182 0 182 (dk_at dksX1_heldBy_0 16 rfl rfl)
theorem dX1_heldBy_19 : decode cX1_heldBy 19 = .ok (.ifCond .eq 9, 3) := dk_153 0 9 (dk_at dksX1_heldBy_0 19 rfl rfl)
theorem dX1_heldBy_22 : decode cX1_heldBy 22 = .ok (.iconst 1, 1) := dk_4 (dk_at dksX1_heldBy_0 22 rfl rfl)
theorem dX1_heldBy_23 : decode cX1_heldBy 23 = .ok (.iload_n 3, 1) := dk_29 (dk_at dksX1_heldBy_0 23 rfl rfl)
theorem dX1_heldBy_24 : decode cX1_heldBy 24 = .ok (.ishl, 1) := dk_120 (dk_at dksX1_heldBy_1 0 rfl rfl)
theorem dX1_heldBy_25 : decode cX1_heldBy 25 = .ok (.goto 4, 3) := dk_167 0 4 (dk_at dksX1_heldBy_1 1 rfl rfl)
theorem dX1_heldBy_28 : decode cX1_heldBy 28 = .ok (.iconst 0, 1) := dk_3 (dk_at dksX1_heldBy_1 4 rfl rfl)
theorem dX1_heldBy_29 : decode cX1_heldBy 29 = .ok (.ior, 1) := dk_128 (dk_at dksX1_heldBy_1 5 rfl rfl)
theorem dX1_heldBy_30 : decode cX1_heldBy 30 = .ok (.istore_n 2, 1) := dk_61 (dk_at dksX1_heldBy_1 6 rfl rfl)
theorem dX1_heldBy_31 : decode cX1_heldBy 31 = .ok (.iinc 3 1, 3) := dk_132 3 1 (dk_at dksX1_heldBy_1 7 rfl rfl)
theorem dX1_heldBy_34 : decode cX1_heldBy 34 = .ok (.goto (-30), 3) := dk_167 255 226 (dk_at dksX1_heldBy_1 10 rfl rfl)
theorem dX1_heldBy_37 : decode cX1_heldBy 37 = .ok (.iload_n 2, 1) := dk_28 (dk_at dksX1_heldBy_1 13 rfl rfl)
theorem dX1_heldBy_38 : decode cX1_heldBy 38 = .ok (.ireturn, 1) := dk_172 (dk_at dksX1_heldBy_1 14 rfl rfl)
abbrev cX1_holdsIn : ByteArray := prog_10_method_43_code
def yX1_holdsIn : MethodName := ⟨RX1, "holdsIn", "(II)Z"⟩
def dkwX1_holdsIn_0 : List UInt8 := [42, 42, 180, 0, 16, 27, 46, 42, 180, 0, 19, 27, 46, 42, 180, 0, 22, 27, 46, 28, 182, 0, 178, 172]
abbrev dktX1_holdsIn_0 : List UInt8 := dkwX1_holdsIn_0 ++ []
theorem dksX1_holdsIn_0 : cX1_holdsIn.data.toList.drop 0 = dktX1_holdsIn_0 := by decide +kernel
theorem dX1_holdsIn_0 : decode cX1_holdsIn 0 = .ok (.aload_n 0, 1) := dk_42 (dk_at dksX1_holdsIn_0 0 rfl rfl)
theorem dX1_holdsIn_1 : decode cX1_holdsIn 1 = .ok (.aload_n 0, 1) := dk_42 (dk_at dksX1_holdsIn_0 1 rfl rfl)
theorem dX1_holdsIn_2 : decode cX1_holdsIn 2 = .ok (.getfield 16, 3) := dk_180 0 16 (dk_at dksX1_holdsIn_0 2 rfl rfl)
theorem dX1_holdsIn_5 : decode cX1_holdsIn 5 = .ok (.iload_n 1, 1) := dk_27 (dk_at dksX1_holdsIn_0 5 rfl rfl)
theorem dX1_holdsIn_6 : decode cX1_holdsIn 6 = .ok (.iaload, 1) := dk_46 (dk_at dksX1_holdsIn_0 6 rfl rfl)
theorem dX1_holdsIn_7 : decode cX1_holdsIn 7 = .ok (.aload_n 0, 1) := dk_42 (dk_at dksX1_holdsIn_0 7 rfl rfl)
theorem dX1_holdsIn_8 : decode cX1_holdsIn 8 = .ok (.getfield 19, 3) := dk_180 0 19 (dk_at dksX1_holdsIn_0 8 rfl rfl)
theorem dX1_holdsIn_11 : decode cX1_holdsIn 11 = .ok (.iload_n 1, 1) := dk_27 (dk_at dksX1_holdsIn_0 11 rfl rfl)
theorem dX1_holdsIn_12 : decode cX1_holdsIn 12 = .ok (.iaload, 1) := dk_46 (dk_at dksX1_holdsIn_0 12 rfl rfl)
theorem dX1_holdsIn_13 : decode cX1_holdsIn 13 = .ok (.aload_n 0, 1) := dk_42 (dk_at dksX1_holdsIn_0 13 rfl rfl)
theorem dX1_holdsIn_14 : decode cX1_holdsIn 14 = .ok (.getfield 22, 3) := dk_180 0 22 (dk_at dksX1_holdsIn_0 14 rfl rfl)
theorem dX1_holdsIn_17 : decode cX1_holdsIn 17 = .ok (.iload_n 1, 1) := dk_27 (dk_at dksX1_holdsIn_0 17 rfl rfl)
theorem dX1_holdsIn_18 : decode cX1_holdsIn 18 = .ok (.iaload, 1) := dk_46 (dk_at dksX1_holdsIn_0 18 rfl rfl)
theorem dX1_holdsIn_19 : decode cX1_holdsIn 19 = .ok (.iload_n 2, 1) := dk_28 (dk_at dksX1_holdsIn_0 19 rfl rfl)
theorem dX1_holdsIn_20 : decode cX1_holdsIn 20 = .ok (.invokevirtual 178, 3) := dk_182 0 178 (dk_at dksX1_holdsIn_0 20 rfl rfl)
theorem dX1_holdsIn_23 : decode cX1_holdsIn 23 = .ok (.ireturn, 1) := dk_172 (dk_at dksX1_holdsIn_0 23 rfl rfl)
abbrev cX1_good : ByteArray := prog_10_method_69_code
def yX1_good : MethodName := ⟨RX1, "good", "()I"⟩
def dkwX1_good_2 : List UInt8 := [132, 1, 255, 167, 255, 229, 42, 182, 0, 238, 172]
abbrev dktX1_good_2 : List UInt8 := dkwX1_good_2 ++ []
def dkwX1_good_1 : List UInt8 := [155, 0, 29, 42, 42, 27, 182, 0, 235, 153, 0, 7, 27, 167, 0, 7, 42, 180, 0, 67, 181, 0, 67]
abbrev dktX1_good_1 : List UInt8 := dkwX1_good_1 ++ dktX1_good_2
def dkwX1_good_0 : List UInt8 := [42, 180, 0, 147, 154, 0, 6, 16, 252, 172, 42, 16, 247, 181, 0, 67, 42, 182, 0, 150, 4, 100, 60, 27]
abbrev dktX1_good_0 : List UInt8 := dkwX1_good_0 ++ dktX1_good_1
theorem dksX1_good_0 : cX1_good.data.toList.drop 0 = dktX1_good_0 := by decide +kernel
theorem dksX1_good_1 : cX1_good.data.toList.drop 24 = dktX1_good_1 := dk_seg dksX1_good_0 24 rfl rfl
theorem dksX1_good_2 : cX1_good.data.toList.drop 47 = dktX1_good_2 := dk_seg dksX1_good_1 23 rfl rfl
theorem dX1_good_0 : decode cX1_good 0 = .ok (.aload_n 0, 1) := dk_42 (dk_at dksX1_good_0 0 rfl rfl)
theorem dX1_good_1 : decode cX1_good 1 = .ok (.getfield 147, 3) := dk_180 0 147 (dk_at dksX1_good_0 1 rfl rfl)
theorem dX1_good_4 : decode cX1_good 4 = .ok (.ifCond .ne 6, 3) := dk_154 0 6 (dk_at dksX1_good_0 4 rfl rfl)
theorem dX1_good_7 : decode cX1_good 7 = .ok (.bipush (-4), 2) := dk_16 252 (dk_at dksX1_good_0 7 rfl rfl)
theorem dX1_good_9 : decode cX1_good 9 = .ok (.ireturn, 1) := dk_172 (dk_at dksX1_good_0 9 rfl rfl)
theorem dX1_good_10 : decode cX1_good 10 = .ok (.aload_n 0, 1) := dk_42 (dk_at dksX1_good_0 10 rfl rfl)
theorem dX1_good_11 : decode cX1_good 11 = .ok (.bipush (-9), 2) := dk_16 247 (dk_at dksX1_good_0 11 rfl rfl)
theorem dX1_good_13 : decode cX1_good 13 = .ok (.putfield 67, 3) := dk_181 0 67 (dk_at dksX1_good_0 13 rfl rfl)
theorem dX1_good_16 : decode cX1_good 16 = .ok (.aload_n 0, 1) := dk_42 (dk_at dksX1_good_0 16 rfl rfl)
theorem dX1_good_17 : decode cX1_good 17 = .ok (.invokevirtual 150, 3) := dk_182 0 150 (dk_at dksX1_good_0 17 rfl rfl)
theorem dX1_good_20 : decode cX1_good 20 = .ok (.iconst 1, 1) := dk_4 (dk_at dksX1_good_0 20 rfl rfl)
theorem dX1_good_21 : decode cX1_good 21 = .ok (.isub, 1) := dk_100 (dk_at dksX1_good_0 21 rfl rfl)
theorem dX1_good_22 : decode cX1_good 22 = .ok (.istore_n 1, 1) := dk_60 (dk_at dksX1_good_0 22 rfl rfl)
theorem dX1_good_23 : decode cX1_good 23 = .ok (.iload_n 1, 1) := dk_27 (dk_at dksX1_good_0 23 rfl rfl)
theorem dX1_good_24 : decode cX1_good 24 = .ok (.ifCond .lt 29, 3) := dk_155 0 29 (dk_at dksX1_good_1 0 rfl rfl)
theorem dX1_good_27 : decode cX1_good 27 = .ok (.aload_n 0, 1) := dk_42 (dk_at dksX1_good_1 3 rfl rfl)
theorem dX1_good_28 : decode cX1_good 28 = .ok (.aload_n 0, 1) := dk_42 (dk_at dksX1_good_1 4 rfl rfl)
theorem dX1_good_29 : decode cX1_good 29 = .ok (.iload_n 1, 1) := dk_27 (dk_at dksX1_good_1 5 rfl rfl)
theorem dX1_good_30 : decode cX1_good 30 = .ok (.invokevirtual 235, 3) := dk_182 0 235 (dk_at dksX1_good_1 6 rfl rfl)
theorem dX1_good_33 : decode cX1_good 33 = .ok (.ifCond .eq 7, 3) := dk_153 0 7 (dk_at dksX1_good_1 9 rfl rfl)
theorem dX1_good_36 : decode cX1_good 36 = .ok (.iload_n 1, 1) := dk_27 (dk_at dksX1_good_1 12 rfl rfl)
theorem dX1_good_37 : decode cX1_good 37 = .ok (.goto 7, 3) := dk_167 0 7 (dk_at dksX1_good_1 13 rfl rfl)
theorem dX1_good_40 : decode cX1_good 40 = .ok (.aload_n 0, 1) := dk_42 (dk_at dksX1_good_1 16 rfl rfl)
theorem dX1_good_41 : decode cX1_good 41 = .ok (.getfield 67, 3) := dk_180 0 67 (dk_at dksX1_good_1 17 rfl rfl)
theorem dX1_good_44 : decode cX1_good 44 = .ok (.putfield 67, 3) := dk_181 0 67 (dk_at dksX1_good_1 20 rfl rfl)
theorem dX1_good_47 : decode cX1_good 47 = .ok (.iinc 1 (-1), 3) := dk_132 1 255 (dk_at dksX1_good_2 0 rfl rfl)
theorem dX1_good_50 : decode cX1_good 50 = .ok (.goto (-27), 3) := dk_167 255 229 (dk_at dksX1_good_2 3 rfl rfl)
theorem dX1_good_53 : decode cX1_good 53 = .ok (.aload_n 0, 1) := dk_42 (dk_at dksX1_good_2 6 rfl rfl)
theorem dX1_good_54 : decode cX1_good 54 = .ok (.invokevirtual 238, 3) := dk_182 0 238 (dk_at dksX1_good_2 7 rfl rfl)
theorem dX1_good_57 : decode cX1_good 57 = .ok (.ireturn, 1) := dk_172 (dk_at dksX1_good_2 10 rfl rfl)
abbrev cX1_goodMany : ByteArray := prog_10_method_68_code
def yX1_goodMany : MethodName := ⟨RX1, "goodMany", "()I"⟩
def dkwX1_goodMany_1 : List UInt8 := [167, 0, 4, 3, 96, 60, 132, 2, 1, 167, 255, 229, 27, 172]
abbrev dktX1_goodMany_1 : List UInt8 := dkwX1_goodMany_1 ++ []
def dkwX1_goodMany_0 : List UInt8 := [3, 60, 3, 61, 28, 42, 182, 0, 150, 162, 0, 25, 27, 42, 28, 182, 0, 235, 153, 0, 7, 4]
abbrev dktX1_goodMany_0 : List UInt8 := dkwX1_goodMany_0 ++ dktX1_goodMany_1
theorem dksX1_goodMany_0 : cX1_goodMany.data.toList.drop 0 = dktX1_goodMany_0 := by decide +kernel
theorem dksX1_goodMany_1 : cX1_goodMany.data.toList.drop 22 = dktX1_goodMany_1 := dk_seg dksX1_goodMany_0 22 rfl rfl
theorem dX1_goodMany_0 : decode cX1_goodMany 0 = .ok (.iconst 0, 1) := dk_3 (dk_at dksX1_goodMany_0 0 rfl rfl)
theorem dX1_goodMany_1 : decode cX1_goodMany 1 = .ok (.istore_n 1, 1) := dk_60 (dk_at dksX1_goodMany_0 1 rfl rfl)
theorem dX1_goodMany_2 : decode cX1_goodMany 2 = .ok (.iconst 0, 1) := dk_3 (dk_at dksX1_goodMany_0 2 rfl rfl)
theorem dX1_goodMany_3 : decode cX1_goodMany 3 = .ok (.istore_n 2, 1) := dk_61 (dk_at dksX1_goodMany_0 3 rfl rfl)
theorem dX1_goodMany_4 : decode cX1_goodMany 4 = .ok (.iload_n 2, 1) := dk_28 (dk_at dksX1_goodMany_0 4 rfl rfl)
theorem dX1_goodMany_5 : decode cX1_goodMany 5 = .ok (.aload_n 0, 1) := dk_42 (dk_at dksX1_goodMany_0 5 rfl rfl)
theorem dX1_goodMany_6 : decode cX1_goodMany 6 = .ok (.invokevirtual 150, 3) := dk_182 0 150 (dk_at dksX1_goodMany_0 6 rfl rfl)
theorem dX1_goodMany_9 : decode cX1_goodMany 9 = .ok (.if_icmp .ge 25, 3) := dk_162 0 25 (dk_at dksX1_goodMany_0 9 rfl rfl)
theorem dX1_goodMany_12 : decode cX1_goodMany 12 = .ok (.iload_n 1, 1) := dk_27 (dk_at dksX1_goodMany_0 12 rfl rfl)
theorem dX1_goodMany_13 : decode cX1_goodMany 13 = .ok (.aload_n 0, 1) := dk_42 (dk_at dksX1_goodMany_0 13 rfl rfl)
theorem dX1_goodMany_14 : decode cX1_goodMany 14 = .ok (.iload_n 2, 1) := dk_28 (dk_at dksX1_goodMany_0 14 rfl rfl)
theorem dX1_goodMany_15 : decode cX1_goodMany 15 = .ok (.invokevirtual 235, 3) := dk_182 0 235 (dk_at dksX1_goodMany_0 15 rfl rfl)
theorem dX1_goodMany_18 : decode cX1_goodMany 18 = .ok (.ifCond .eq 7, 3) := dk_153 0 7 (dk_at dksX1_goodMany_0 18 rfl rfl)
theorem dX1_goodMany_21 : decode cX1_goodMany 21 = .ok (.iconst 1, 1) := dk_4 (dk_at dksX1_goodMany_0 21 rfl rfl)
theorem dX1_goodMany_22 : decode cX1_goodMany 22 = .ok (.goto 4, 3) := dk_167 0 4 (dk_at dksX1_goodMany_1 0 rfl rfl)
theorem dX1_goodMany_25 : decode cX1_goodMany 25 = .ok (.iconst 0, 1) := dk_3 (dk_at dksX1_goodMany_1 3 rfl rfl)
theorem dX1_goodMany_26 : decode cX1_goodMany 26 = .ok (.iadd, 1) := dk_96 (dk_at dksX1_goodMany_1 4 rfl rfl)
theorem dX1_goodMany_27 : decode cX1_goodMany 27 = .ok (.istore_n 1, 1) := dk_60 (dk_at dksX1_goodMany_1 5 rfl rfl)
theorem dX1_goodMany_28 : decode cX1_goodMany 28 = .ok (.iinc 2 1, 3) := dk_132 2 1 (dk_at dksX1_goodMany_1 6 rfl rfl)
theorem dX1_goodMany_31 : decode cX1_goodMany 31 = .ok (.goto (-27), 3) := dk_167 255 229 (dk_at dksX1_goodMany_1 9 rfl rfl)
theorem dX1_goodMany_34 : decode cX1_goodMany 34 = .ok (.iload_n 1, 1) := dk_27 (dk_at dksX1_goodMany_1 12 rfl rfl)
theorem dX1_goodMany_35 : decode cX1_goodMany 35 = .ok (.ireturn, 1) := dk_172 (dk_at dksX1_goodMany_1 13 rfl rfl)
abbrev cX1_cheapest : ByteArray := prog_10_method_71_code
def yX1_cheapest : MethodName := ⟨RX1, "cheapest", "()I"⟩
def dkwX1_cheapest_1 : List UInt8 := [180, 0, 67, 167, 0, 8, 42, 27, 182, 0, 232, 181, 0, 67, 27, 172]
abbrev dktX1_cheapest_1 : List UInt8 := dkwX1_cheapest_1 ++ []
def dkwX1_cheapest_0 : List UInt8 := [42, 180, 0, 147, 154, 0, 6, 16, 252, 172, 42, 4, 182, 0, 241, 60, 42, 27, 16, 247, 160, 0, 10, 42]
abbrev dktX1_cheapest_0 : List UInt8 := dkwX1_cheapest_0 ++ dktX1_cheapest_1
theorem dksX1_cheapest_0 : cX1_cheapest.data.toList.drop 0 = dktX1_cheapest_0 := by decide +kernel
theorem dksX1_cheapest_1 : cX1_cheapest.data.toList.drop 24 = dktX1_cheapest_1 := dk_seg dksX1_cheapest_0 24 rfl rfl
theorem dX1_cheapest_0 : decode cX1_cheapest 0 = .ok (.aload_n 0, 1) := dk_42 (dk_at dksX1_cheapest_0 0 rfl rfl)
theorem dX1_cheapest_1 : decode cX1_cheapest 1 = .ok (.getfield 147, 3) := dk_180 0 147 (dk_at dksX1_cheapest_0 1 rfl rfl)
theorem dX1_cheapest_4 : decode cX1_cheapest 4 = .ok (.ifCond .ne 6, 3) := dk_154 0 6 (dk_at dksX1_cheapest_0 4 rfl rfl)
theorem dX1_cheapest_7 : decode cX1_cheapest 7 = .ok (.bipush (-4), 2) := dk_16 252 (dk_at dksX1_cheapest_0 7 rfl rfl)
theorem dX1_cheapest_9 : decode cX1_cheapest 9 = .ok (.ireturn, 1) := dk_172 (dk_at dksX1_cheapest_0 9 rfl rfl)
theorem dX1_cheapest_10 : decode cX1_cheapest 10 = .ok (.aload_n 0, 1) := dk_42 (dk_at dksX1_cheapest_0 10 rfl rfl)
theorem dX1_cheapest_11 : decode cX1_cheapest 11 = .ok (.iconst 1, 1) := dk_4 (dk_at dksX1_cheapest_0 11 rfl rfl)
theorem dX1_cheapest_12 : decode cX1_cheapest 12 = .ok (.invokevirtual 241, 3) := dk_182 0 241 (dk_at dksX1_cheapest_0 12 rfl rfl)
theorem dX1_cheapest_15 : decode cX1_cheapest 15 = .ok (.istore_n 1, 1) := dk_60 (dk_at dksX1_cheapest_0 15 rfl rfl)
theorem dX1_cheapest_16 : decode cX1_cheapest 16 = .ok (.aload_n 0, 1) := dk_42 (dk_at dksX1_cheapest_0 16 rfl rfl)
theorem dX1_cheapest_17 : decode cX1_cheapest 17 = .ok (.iload_n 1, 1) := dk_27 (dk_at dksX1_cheapest_0 17 rfl rfl)
theorem dX1_cheapest_18 : decode cX1_cheapest 18 = .ok (.bipush (-9), 2) := dk_16 247 (dk_at dksX1_cheapest_0 18 rfl rfl)
theorem dX1_cheapest_20 : decode cX1_cheapest 20 = .ok (.if_icmp .ne 10, 3) := dk_160 0 10 (dk_at dksX1_cheapest_0 20 rfl rfl)
theorem dX1_cheapest_23 : decode cX1_cheapest 23 = .ok (.aload_n 0, 1) := dk_42 (dk_at dksX1_cheapest_0 23 rfl rfl)
theorem dX1_cheapest_24 : decode cX1_cheapest 24 = .ok (.getfield 67, 3) := dk_180 0 67 (dk_at dksX1_cheapest_1 0 rfl rfl)
theorem dX1_cheapest_27 : decode cX1_cheapest 27 = .ok (.goto 8, 3) := dk_167 0 8 (dk_at dksX1_cheapest_1 3 rfl rfl)
theorem dX1_cheapest_30 : decode cX1_cheapest 30 = .ok (.aload_n 0, 1) := dk_42 (dk_at dksX1_cheapest_1 6 rfl rfl)
theorem dX1_cheapest_31 : decode cX1_cheapest 31 = .ok (.iload_n 1, 1) := dk_27 (dk_at dksX1_cheapest_1 7 rfl rfl)
theorem dX1_cheapest_32 : decode cX1_cheapest 32 = .ok (.invokevirtual 232, 3) := dk_182 0 232 (dk_at dksX1_cheapest_1 8 rfl rfl)
theorem dX1_cheapest_35 : decode cX1_cheapest 35 = .ok (.putfield 67, 3) := dk_181 0 67 (dk_at dksX1_cheapest_1 11 rfl rfl)
theorem dX1_cheapest_38 : decode cX1_cheapest 38 = .ok (.iload_n 1, 1) := dk_27 (dk_at dksX1_cheapest_1 14 rfl rfl)
theorem dX1_cheapest_39 : decode cX1_cheapest 39 = .ok (.ireturn, 1) := dk_172 (dk_at dksX1_cheapest_1 15 rfl rfl)
abbrev cX1_best : ByteArray := prog_10_method_70_code
def yX1_best : MethodName := ⟨RX1, "best", "(Z)I"⟩
def dkwX1_best_4 : List UInt8 := [167, 255, 172, 28, 172]
abbrev dktX1_best_4 : List UInt8 := dkwX1_best_4 ++ []
def dkwX1_best_3 : List UInt8 := [21, 4, 167, 0, 4, 28, 61, 21, 6, 153, 0, 8, 21, 5, 167, 0, 4, 29, 62, 132, 4, 1]
abbrev dktX1_best_3 : List UInt8 := dkwX1_best_3 ++ dktX1_best_4
def dkwX1_best_2 : List UInt8 := [16, 247, 159, 0, 9, 21, 5, 29, 162, 0, 7, 4, 167, 0, 4, 3, 54, 6, 21, 6, 153, 0, 8]
abbrev dktX1_best_2 : List UInt8 := dkwX1_best_2 ++ dktX1_best_3
def dkwX1_best_1 : List UInt8 := [182, 0, 232, 167, 0, 8, 21, 4, 184, 0, 215, 54, 5, 42, 21, 4, 182, 0, 235, 153, 0, 19, 28]
abbrev dktX1_best_1 : List UInt8 := dkwX1_best_1 ++ dktX1_best_2
def dkwX1_best_0 : List UInt8 := [16, 247, 61, 3, 62, 3, 54, 4, 21, 4, 42, 182, 0, 150, 162, 0, 81, 27, 153, 0, 12, 42, 21, 4]
abbrev dktX1_best_0 : List UInt8 := dkwX1_best_0 ++ dktX1_best_1
theorem dksX1_best_0 : cX1_best.data.toList.drop 0 = dktX1_best_0 := by decide +kernel
theorem dksX1_best_1 : cX1_best.data.toList.drop 24 = dktX1_best_1 := dk_seg dksX1_best_0 24 rfl rfl
theorem dksX1_best_2 : cX1_best.data.toList.drop 47 = dktX1_best_2 := dk_seg dksX1_best_1 23 rfl rfl
theorem dksX1_best_3 : cX1_best.data.toList.drop 70 = dktX1_best_3 := dk_seg dksX1_best_2 23 rfl rfl
theorem dksX1_best_4 : cX1_best.data.toList.drop 92 = dktX1_best_4 := dk_seg dksX1_best_3 22 rfl rfl
theorem dX1_best_0 : decode cX1_best 0 = .ok (.bipush (-9), 2) := dk_16 247 (dk_at dksX1_best_0 0 rfl rfl)
theorem dX1_best_2 : decode cX1_best 2 = .ok (.istore_n 2, 1) := dk_61 (dk_at dksX1_best_0 2 rfl rfl)
theorem dX1_best_3 : decode cX1_best 3 = .ok (.iconst 0, 1) := dk_3 (dk_at dksX1_best_0 3 rfl rfl)
theorem dX1_best_4 : decode cX1_best 4 = .ok (.istore_n 3, 1) := dk_62 (dk_at dksX1_best_0 4 rfl rfl)
theorem dX1_best_5 : decode cX1_best 5 = .ok (.iconst 0, 1) := dk_3 (dk_at dksX1_best_0 5 rfl rfl)
theorem dX1_best_6 : decode cX1_best 6 = .ok (.istore 4, 2) := dk_54 4 (dk_at dksX1_best_0 6 rfl rfl)
theorem dX1_best_8 : decode cX1_best 8 = .ok (.iload 4, 2) := dk_21 4 (dk_at dksX1_best_0 8 rfl rfl)
theorem dX1_best_10 : decode cX1_best 10 = .ok (.aload_n 0, 1) := dk_42 (dk_at dksX1_best_0 10 rfl rfl)
theorem dX1_best_11 : decode cX1_best 11 = .ok (.invokevirtual 150, 3) := dk_182 0 150 (dk_at dksX1_best_0 11 rfl rfl)
theorem dX1_best_14 : decode cX1_best 14 = .ok (.if_icmp .ge 81, 3) := dk_162 0 81 (dk_at dksX1_best_0 14 rfl rfl)
theorem dX1_best_17 : decode cX1_best 17 = .ok (.iload_n 1, 1) := dk_27 (dk_at dksX1_best_0 17 rfl rfl)
theorem dX1_best_18 : decode cX1_best 18 = .ok (.ifCond .eq 12, 3) := dk_153 0 12 (dk_at dksX1_best_0 18 rfl rfl)
theorem dX1_best_21 : decode cX1_best 21 = .ok (.aload_n 0, 1) := dk_42 (dk_at dksX1_best_0 21 rfl rfl)
theorem dX1_best_22 : decode cX1_best 22 = .ok (.iload 4, 2) := dk_21 4 (dk_at dksX1_best_0 22 rfl rfl)
theorem dX1_best_24 : decode cX1_best 24 = .ok (.invokevirtual 232, 3) := dk_182 0 232 (dk_at dksX1_best_1 0 rfl rfl)
theorem dX1_best_27 : decode cX1_best 27 = .ok (.goto 8, 3) := dk_167 0 8 (dk_at dksX1_best_1 3 rfl rfl)
theorem dX1_best_30 : decode cX1_best 30 = .ok (.iload 4, 2) := dk_21 4 (dk_at dksX1_best_1 6 rfl rfl)
theorem dX1_best_32 : decode cX1_best 32 = .ok (.invokestatic 215, 3) := dk_184 0 215 (dk_at dksX1_best_1 8 rfl rfl)
theorem dX1_best_35 : decode cX1_best 35 = .ok (.istore 5, 2) := dk_54 5 (dk_at dksX1_best_1 11 rfl rfl)
theorem dX1_best_37 : decode cX1_best 37 = .ok (.aload_n 0, 1) := dk_42 (dk_at dksX1_best_1 13 rfl rfl)
theorem dX1_best_38 : decode cX1_best 38 = .ok (.iload 4, 2) := dk_21 4 (dk_at dksX1_best_1 14 rfl rfl)
theorem dX1_best_40 : decode cX1_best 40 = .ok (.invokevirtual 235, 3) := dk_182 0 235 (dk_at dksX1_best_1 16 rfl rfl)
theorem dX1_best_43 : decode cX1_best 43 = .ok (.ifCond .eq 19, 3) := dk_153 0 19 (dk_at dksX1_best_1 19 rfl rfl)
theorem dX1_best_46 : decode cX1_best 46 = .ok (.iload_n 2, 1) := dk_28 (dk_at dksX1_best_1 22 rfl rfl)
theorem dX1_best_47 : decode cX1_best 47 = .ok (.bipush (-9), 2) := dk_16 247 (dk_at dksX1_best_2 0 rfl rfl)
theorem dX1_best_49 : decode cX1_best 49 = .ok (.if_icmp .eq 9, 3) := dk_159 0 9 (dk_at dksX1_best_2 2 rfl rfl)
theorem dX1_best_52 : decode cX1_best 52 = .ok (.iload 5, 2) := dk_21 5 (dk_at dksX1_best_2 5 rfl rfl)
theorem dX1_best_54 : decode cX1_best 54 = .ok (.iload_n 3, 1) := dk_29 (dk_at dksX1_best_2 7 rfl rfl)
theorem dX1_best_55 : decode cX1_best 55 = .ok (.if_icmp .ge 7, 3) := dk_162 0 7 (dk_at dksX1_best_2 8 rfl rfl)
theorem dX1_best_58 : decode cX1_best 58 = .ok (.iconst 1, 1) := dk_4 (dk_at dksX1_best_2 11 rfl rfl)
theorem dX1_best_59 : decode cX1_best 59 = .ok (.goto 4, 3) := dk_167 0 4 (dk_at dksX1_best_2 12 rfl rfl)
theorem dX1_best_62 : decode cX1_best 62 = .ok (.iconst 0, 1) := dk_3 (dk_at dksX1_best_2 15 rfl rfl)
theorem dX1_best_63 : decode cX1_best 63 = .ok (.istore 6, 2) := dk_54 6 (dk_at dksX1_best_2 16 rfl rfl)
theorem dX1_best_65 : decode cX1_best 65 = .ok (.iload 6, 2) := dk_21 6 (dk_at dksX1_best_2 18 rfl rfl)
theorem dX1_best_67 : decode cX1_best 67 = .ok (.ifCond .eq 8, 3) := dk_153 0 8 (dk_at dksX1_best_2 20 rfl rfl)
theorem dX1_best_70 : decode cX1_best 70 = .ok (.iload 4, 2) := dk_21 4 (dk_at dksX1_best_3 0 rfl rfl)
theorem dX1_best_72 : decode cX1_best 72 = .ok (.goto 4, 3) := dk_167 0 4 (dk_at dksX1_best_3 2 rfl rfl)
theorem dX1_best_75 : decode cX1_best 75 = .ok (.iload_n 2, 1) := dk_28 (dk_at dksX1_best_3 5 rfl rfl)
theorem dX1_best_76 : decode cX1_best 76 = .ok (.istore_n 2, 1) := dk_61 (dk_at dksX1_best_3 6 rfl rfl)
theorem dX1_best_77 : decode cX1_best 77 = .ok (.iload 6, 2) := dk_21 6 (dk_at dksX1_best_3 7 rfl rfl)
theorem dX1_best_79 : decode cX1_best 79 = .ok (.ifCond .eq 8, 3) := dk_153 0 8 (dk_at dksX1_best_3 9 rfl rfl)
theorem dX1_best_82 : decode cX1_best 82 = .ok (.iload 5, 2) := dk_21 5 (dk_at dksX1_best_3 12 rfl rfl)
theorem dX1_best_84 : decode cX1_best 84 = .ok (.goto 4, 3) := dk_167 0 4 (dk_at dksX1_best_3 14 rfl rfl)
theorem dX1_best_87 : decode cX1_best 87 = .ok (.iload_n 3, 1) := dk_29 (dk_at dksX1_best_3 17 rfl rfl)
theorem dX1_best_88 : decode cX1_best 88 = .ok (.istore_n 3, 1) := dk_62 (dk_at dksX1_best_3 18 rfl rfl)
theorem dX1_best_89 : decode cX1_best 89 = .ok (.iinc 4 1, 3) := dk_132 4 1 (dk_at dksX1_best_3 19 rfl rfl)
theorem dX1_best_92 : decode cX1_best 92 = .ok (.goto (-84), 3) := dk_167 255 172 (dk_at dksX1_best_4 0 rfl rfl)
theorem dX1_best_95 : decode cX1_best 95 = .ok (.iload_n 2, 1) := dk_28 (dk_at dksX1_best_4 3 rfl rfl)
theorem dX1_best_96 : decode cX1_best 96 = .ok (.ireturn, 1) := dk_172 (dk_at dksX1_best_4 4 rfl rfl)
abbrev cX1_fewest : ByteArray := prog_10_method_72_code
def yX1_fewest : MethodName := ⟨RX1, "fewest", "()I"⟩
def dkwX1_fewest_1 : List UInt8 := [180, 0, 67, 167, 0, 7, 27, 184, 0, 215, 181, 0, 67, 27, 172]
abbrev dktX1_fewest_1 : List UInt8 := dkwX1_fewest_1 ++ []
def dkwX1_fewest_0 : List UInt8 := [42, 180, 0, 147, 154, 0, 6, 16, 252, 172, 42, 3, 182, 0, 241, 60, 42, 27, 16, 247, 160, 0, 10, 42]
abbrev dktX1_fewest_0 : List UInt8 := dkwX1_fewest_0 ++ dktX1_fewest_1
theorem dksX1_fewest_0 : cX1_fewest.data.toList.drop 0 = dktX1_fewest_0 := by decide +kernel
theorem dksX1_fewest_1 : cX1_fewest.data.toList.drop 24 = dktX1_fewest_1 := dk_seg dksX1_fewest_0 24 rfl rfl
theorem dX1_fewest_0 : decode cX1_fewest 0 = .ok (.aload_n 0, 1) := dk_42 (dk_at dksX1_fewest_0 0 rfl rfl)
theorem dX1_fewest_1 : decode cX1_fewest 1 = .ok (.getfield 147, 3) := dk_180 0 147 (dk_at dksX1_fewest_0 1 rfl rfl)
theorem dX1_fewest_4 : decode cX1_fewest 4 = .ok (.ifCond .ne 6, 3) := dk_154 0 6 (dk_at dksX1_fewest_0 4 rfl rfl)
theorem dX1_fewest_7 : decode cX1_fewest 7 = .ok (.bipush (-4), 2) := dk_16 252 (dk_at dksX1_fewest_0 7 rfl rfl)
theorem dX1_fewest_9 : decode cX1_fewest 9 = .ok (.ireturn, 1) := dk_172 (dk_at dksX1_fewest_0 9 rfl rfl)
theorem dX1_fewest_10 : decode cX1_fewest 10 = .ok (.aload_n 0, 1) := dk_42 (dk_at dksX1_fewest_0 10 rfl rfl)
theorem dX1_fewest_11 : decode cX1_fewest 11 = .ok (.iconst 0, 1) := dk_3 (dk_at dksX1_fewest_0 11 rfl rfl)
theorem dX1_fewest_12 : decode cX1_fewest 12 = .ok (.invokevirtual 241, 3) := dk_182 0 241 (dk_at dksX1_fewest_0 12 rfl rfl)
theorem dX1_fewest_15 : decode cX1_fewest 15 = .ok (.istore_n 1, 1) := dk_60 (dk_at dksX1_fewest_0 15 rfl rfl)
theorem dX1_fewest_16 : decode cX1_fewest 16 = .ok (.aload_n 0, 1) := dk_42 (dk_at dksX1_fewest_0 16 rfl rfl)
theorem dX1_fewest_17 : decode cX1_fewest 17 = .ok (.iload_n 1, 1) := dk_27 (dk_at dksX1_fewest_0 17 rfl rfl)
theorem dX1_fewest_18 : decode cX1_fewest 18 = .ok (.bipush (-9), 2) := dk_16 247 (dk_at dksX1_fewest_0 18 rfl rfl)
theorem dX1_fewest_20 : decode cX1_fewest 20 = .ok (.if_icmp .ne 10, 3) := dk_160 0 10 (dk_at dksX1_fewest_0 20 rfl rfl)
theorem dX1_fewest_23 : decode cX1_fewest 23 = .ok (.aload_n 0, 1) := dk_42 (dk_at dksX1_fewest_0 23 rfl rfl)
theorem dX1_fewest_24 : decode cX1_fewest 24 = .ok (.getfield 67, 3) := dk_180 0 67 (dk_at dksX1_fewest_1 0 rfl rfl)
theorem dX1_fewest_27 : decode cX1_fewest 27 = .ok (.goto 7, 3) := dk_167 0 7 (dk_at dksX1_fewest_1 3 rfl rfl)
theorem dX1_fewest_30 : decode cX1_fewest 30 = .ok (.iload_n 1, 1) := dk_27 (dk_at dksX1_fewest_1 6 rfl rfl)
theorem dX1_fewest_31 : decode cX1_fewest 31 = .ok (.invokestatic 215, 3) := dk_184 0 215 (dk_at dksX1_fewest_1 7 rfl rfl)
theorem dX1_fewest_34 : decode cX1_fewest 34 = .ok (.putfield 67, 3) := dk_181 0 67 (dk_at dksX1_fewest_1 10 rfl rfl)
theorem dX1_fewest_37 : decode cX1_fewest 37 = .ok (.iload_n 1, 1) := dk_27 (dk_at dksX1_fewest_1 13 rfl rfl)
theorem dX1_fewest_38 : decode cX1_fewest 38 = .ok (.ireturn, 1) := dk_172 (dk_at dksX1_fewest_1 14 rfl rfl)
abbrev cX1_nearest : ByteArray := prog_10_method_73_code
def yX1_nearest : MethodName := ⟨RX1, "nearest", "()I"⟩
def dkwX1_nearest_3 : List UInt8 := [42, 28, 181, 0, 67, 27, 172]
abbrev dktX1_nearest_3 : List UInt8 := dkwX1_nearest_3 ++ []
def dkwX1_nearest_2 : List UInt8 := [167, 0, 4, 27, 60, 21, 4, 28, 164, 0, 8, 21, 4, 167, 0, 4, 28, 61, 132, 3, 1, 167, 255, 203]
abbrev dktX1_nearest_2 : List UInt8 := dkwX1_nearest_2 ++ dktX1_nearest_3
def dkwX1_nearest_1 : List UInt8 := [42, 29, 182, 0, 185, 42, 180, 0, 7, 4, 46, 126, 184, 0, 215, 54, 4, 21, 4, 28, 164, 0, 7, 29]
abbrev dktX1_nearest_1 : List UInt8 := dkwX1_nearest_1 ++ dktX1_nearest_2
def dkwX1_nearest_0 : List UInt8 := [42, 180, 0, 147, 154, 0, 6, 16, 252, 172, 3, 60, 2, 61, 3, 62, 29, 42, 182, 0, 150, 162, 0, 51]
abbrev dktX1_nearest_0 : List UInt8 := dkwX1_nearest_0 ++ dktX1_nearest_1
theorem dksX1_nearest_0 : cX1_nearest.data.toList.drop 0 = dktX1_nearest_0 := by decide +kernel
theorem dksX1_nearest_1 : cX1_nearest.data.toList.drop 24 = dktX1_nearest_1 := dk_seg dksX1_nearest_0 24 rfl rfl
theorem dksX1_nearest_2 : cX1_nearest.data.toList.drop 48 = dktX1_nearest_2 := dk_seg dksX1_nearest_1 24 rfl rfl
theorem dksX1_nearest_3 : cX1_nearest.data.toList.drop 72 = dktX1_nearest_3 := dk_seg dksX1_nearest_2 24 rfl rfl
theorem dX1_nearest_0 : decode cX1_nearest 0 = .ok (.aload_n 0, 1) := dk_42 (dk_at dksX1_nearest_0 0 rfl rfl)
theorem dX1_nearest_1 : decode cX1_nearest 1 = .ok (.getfield 147, 3) := dk_180 0 147 (dk_at dksX1_nearest_0 1 rfl rfl)
theorem dX1_nearest_4 : decode cX1_nearest 4 = .ok (.ifCond .ne 6, 3) := dk_154 0 6 (dk_at dksX1_nearest_0 4 rfl rfl)
theorem dX1_nearest_7 : decode cX1_nearest 7 = .ok (.bipush (-4), 2) := dk_16 252 (dk_at dksX1_nearest_0 7 rfl rfl)
theorem dX1_nearest_9 : decode cX1_nearest 9 = .ok (.ireturn, 1) := dk_172 (dk_at dksX1_nearest_0 9 rfl rfl)
theorem dX1_nearest_10 : decode cX1_nearest 10 = .ok (.iconst 0, 1) := dk_3 (dk_at dksX1_nearest_0 10 rfl rfl)
theorem dX1_nearest_11 : decode cX1_nearest 11 = .ok (.istore_n 1, 1) := dk_60 (dk_at dksX1_nearest_0 11 rfl rfl)
theorem dX1_nearest_12 : decode cX1_nearest 12 = .ok (.iconst (-1), 1) := dk_2 (dk_at dksX1_nearest_0 12 rfl rfl)
theorem dX1_nearest_13 : decode cX1_nearest 13 = .ok (.istore_n 2, 1) := dk_61 (dk_at dksX1_nearest_0 13 rfl rfl)
theorem dX1_nearest_14 : decode cX1_nearest 14 = .ok (.iconst 0, 1) := dk_3 (dk_at dksX1_nearest_0 14 rfl rfl)
theorem dX1_nearest_15 : decode cX1_nearest 15 = .ok (.istore_n 3, 1) := dk_62 (dk_at dksX1_nearest_0 15 rfl rfl)
theorem dX1_nearest_16 : decode cX1_nearest 16 = .ok (.iload_n 3, 1) := dk_29 (dk_at dksX1_nearest_0 16 rfl rfl)
theorem dX1_nearest_17 : decode cX1_nearest 17 = .ok (.aload_n 0, 1) := dk_42 (dk_at dksX1_nearest_0 17 rfl rfl)
theorem dX1_nearest_18 : decode cX1_nearest 18 = .ok (.invokevirtual 150, 3) := dk_182 0 150 (dk_at dksX1_nearest_0 18 rfl rfl)
theorem dX1_nearest_21 : decode cX1_nearest 21 = .ok (.if_icmp .ge 51, 3) := dk_162 0 51 (dk_at dksX1_nearest_0 21 rfl rfl)
theorem dX1_nearest_24 : decode cX1_nearest 24 = .ok (.aload_n 0, 1) := dk_42 (dk_at dksX1_nearest_1 0 rfl rfl)
theorem dX1_nearest_25 : decode cX1_nearest 25 = .ok (.iload_n 3, 1) := dk_29 (dk_at dksX1_nearest_1 1 rfl rfl)
theorem dX1_nearest_26 : decode cX1_nearest 26 = .ok (.invokevirtual 185, 3) := dk_182 0 185 (dk_at dksX1_nearest_1 2 rfl rfl)
theorem dX1_nearest_29 : decode cX1_nearest 29 = .ok (.aload_n 0, 1) := dk_42 (dk_at dksX1_nearest_1 5 rfl rfl)
theorem dX1_nearest_30 : decode cX1_nearest 30 = .ok (.getfield 7, 3) := dk_180 0 7 (dk_at dksX1_nearest_1 6 rfl rfl)
theorem dX1_nearest_33 : decode cX1_nearest 33 = .ok (.iconst 1, 1) := dk_4 (dk_at dksX1_nearest_1 9 rfl rfl)
theorem dX1_nearest_34 : decode cX1_nearest 34 = .ok (.iaload, 1) := dk_46 (dk_at dksX1_nearest_1 10 rfl rfl)
theorem dX1_nearest_35 : decode cX1_nearest 35 = .ok (.iand, 1) := dk_126 (dk_at dksX1_nearest_1 11 rfl rfl)
theorem dX1_nearest_36 : decode cX1_nearest 36 = .ok (.invokestatic 215, 3) := dk_184 0 215 (dk_at dksX1_nearest_1 12 rfl rfl)
theorem dX1_nearest_39 : decode cX1_nearest 39 = .ok (.istore 4, 2) := dk_54 4 (dk_at dksX1_nearest_1 15 rfl rfl)
theorem dX1_nearest_41 : decode cX1_nearest 41 = .ok (.iload 4, 2) := dk_21 4 (dk_at dksX1_nearest_1 17 rfl rfl)
theorem dX1_nearest_43 : decode cX1_nearest 43 = .ok (.iload_n 2, 1) := dk_28 (dk_at dksX1_nearest_1 19 rfl rfl)
theorem dX1_nearest_44 : decode cX1_nearest 44 = .ok (.if_icmp .le 7, 3) := dk_164 0 7 (dk_at dksX1_nearest_1 20 rfl rfl)
theorem dX1_nearest_47 : decode cX1_nearest 47 = .ok (.iload_n 3, 1) := dk_29 (dk_at dksX1_nearest_1 23 rfl rfl)
theorem dX1_nearest_48 : decode cX1_nearest 48 = .ok (.goto 4, 3) := dk_167 0 4 (dk_at dksX1_nearest_2 0 rfl rfl)
theorem dX1_nearest_51 : decode cX1_nearest 51 = .ok (.iload_n 1, 1) := dk_27 (dk_at dksX1_nearest_2 3 rfl rfl)
theorem dX1_nearest_52 : decode cX1_nearest 52 = .ok (.istore_n 1, 1) := dk_60 (dk_at dksX1_nearest_2 4 rfl rfl)
theorem dX1_nearest_53 : decode cX1_nearest 53 = .ok (.iload 4, 2) := dk_21 4 (dk_at dksX1_nearest_2 5 rfl rfl)
theorem dX1_nearest_55 : decode cX1_nearest 55 = .ok (.iload_n 2, 1) := dk_28 (dk_at dksX1_nearest_2 7 rfl rfl)
theorem dX1_nearest_56 : decode cX1_nearest 56 = .ok (.if_icmp .le 8, 3) := dk_164 0 8 (dk_at dksX1_nearest_2 8 rfl rfl)
theorem dX1_nearest_59 : decode cX1_nearest 59 = .ok (.iload 4, 2) := dk_21 4 (dk_at dksX1_nearest_2 11 rfl rfl)
theorem dX1_nearest_61 : decode cX1_nearest 61 = .ok (.goto 4, 3) := dk_167 0 4 (dk_at dksX1_nearest_2 13 rfl rfl)
theorem dX1_nearest_64 : decode cX1_nearest 64 = .ok (.iload_n 2, 1) := dk_28 (dk_at dksX1_nearest_2 16 rfl rfl)
theorem dX1_nearest_65 : decode cX1_nearest 65 = .ok (.istore_n 2, 1) := dk_61 (dk_at dksX1_nearest_2 17 rfl rfl)
theorem dX1_nearest_66 : decode cX1_nearest 66 = .ok (.iinc 3 1, 3) := dk_132 3 1 (dk_at dksX1_nearest_2 18 rfl rfl)
theorem dX1_nearest_69 : decode cX1_nearest 69 = .ok (.goto (-53), 3) := dk_167 255 203 (dk_at dksX1_nearest_2 21 rfl rfl)
theorem dX1_nearest_72 : decode cX1_nearest 72 = .ok (.aload_n 0, 1) := dk_42 (dk_at dksX1_nearest_3 0 rfl rfl)
theorem dX1_nearest_73 : decode cX1_nearest 73 = .ok (.iload_n 2, 1) := dk_28 (dk_at dksX1_nearest_3 1 rfl rfl)
theorem dX1_nearest_74 : decode cX1_nearest 74 = .ok (.putfield 67, 3) := dk_181 0 67 (dk_at dksX1_nearest_3 2 rfl rfl)
theorem dX1_nearest_77 : decode cX1_nearest 77 = .ok (.iload_n 1, 1) := dk_27 (dk_at dksX1_nearest_3 5 rfl rfl)
theorem dX1_nearest_78 : decode cX1_nearest 78 = .ok (.ireturn, 1) := dk_172 (dk_at dksX1_nearest_3 6 rfl rfl)
abbrev cX1_tight : ByteArray := prog_10_method_74_code
def yX1_tight : MethodName := ⟨RX1, "tight", "(I)I"⟩
def dkwX1_tight_3 : List UInt8 := [167, 0, 4, 3, 172]
abbrev dktX1_tight_3 : List UInt8 := dkwX1_tight_3 ++ []
def dkwX1_tight_2 : List UInt8 := [182, 0, 235, 154, 0, 7, 4, 167, 0, 4, 3, 61, 132, 3, 1, 167, 255, 213, 28, 153, 0, 7, 4]
abbrev dktX1_tight_2 : List UInt8 := dkwX1_tight_2 ++ dktX1_tight_3
def dkwX1_tight_1 : List UInt8 := [162, 0, 41, 28, 153, 0, 37, 27, 29, 184, 0, 153, 153, 0, 17, 42, 27, 4, 29, 120, 2, 130, 126]
abbrev dktX1_tight_1 : List UInt8 := dkwX1_tight_1 ++ dktX1_tight_2
def dkwX1_tight_0 : List UInt8 := [42, 27, 182, 0, 229, 154, 0, 5, 2, 172, 42, 27, 182, 0, 235, 61, 3, 62, 29, 42, 180, 0, 147]
abbrev dktX1_tight_0 : List UInt8 := dkwX1_tight_0 ++ dktX1_tight_1
theorem dksX1_tight_0 : cX1_tight.data.toList.drop 0 = dktX1_tight_0 := by decide +kernel
theorem dksX1_tight_1 : cX1_tight.data.toList.drop 23 = dktX1_tight_1 := dk_seg dksX1_tight_0 23 rfl rfl
theorem dksX1_tight_2 : cX1_tight.data.toList.drop 46 = dktX1_tight_2 := dk_seg dksX1_tight_1 23 rfl rfl
theorem dksX1_tight_3 : cX1_tight.data.toList.drop 69 = dktX1_tight_3 := dk_seg dksX1_tight_2 23 rfl rfl
theorem dX1_tight_0 : decode cX1_tight 0 = .ok (.aload_n 0, 1) := dk_42 (dk_at dksX1_tight_0 0 rfl rfl)
theorem dX1_tight_1 : decode cX1_tight 1 = .ok (.iload_n 1, 1) := dk_27 (dk_at dksX1_tight_0 1 rfl rfl)
theorem dX1_tight_2 : decode cX1_tight 2 = .ok (.invokevirtual 229, 3) := dk_182 0 229 (dk_at dksX1_tight_0 2 rfl rfl)
theorem dX1_tight_5 : decode cX1_tight 5 = .ok (.ifCond .ne 5, 3) := dk_154 0 5 (dk_at dksX1_tight_0 5 rfl rfl)
theorem dX1_tight_8 : decode cX1_tight 8 = .ok (.iconst (-1), 1) := dk_2 (dk_at dksX1_tight_0 8 rfl rfl)
theorem dX1_tight_9 : decode cX1_tight 9 = .ok (.ireturn, 1) := dk_172 (dk_at dksX1_tight_0 9 rfl rfl)
theorem dX1_tight_10 : decode cX1_tight 10 = .ok (.aload_n 0, 1) := dk_42 (dk_at dksX1_tight_0 10 rfl rfl)
theorem dX1_tight_11 : decode cX1_tight 11 = .ok (.iload_n 1, 1) := dk_27 (dk_at dksX1_tight_0 11 rfl rfl)
theorem dX1_tight_12 : decode cX1_tight 12 = .ok (.invokevirtual 235, 3) := dk_182 0 235 (dk_at dksX1_tight_0 12 rfl rfl)
theorem dX1_tight_15 : decode cX1_tight 15 = .ok (.istore_n 2, 1) := dk_61 (dk_at dksX1_tight_0 15 rfl rfl)
theorem dX1_tight_16 : decode cX1_tight 16 = .ok (.iconst 0, 1) := dk_3 (dk_at dksX1_tight_0 16 rfl rfl)
theorem dX1_tight_17 : decode cX1_tight 17 = .ok (.istore_n 3, 1) := dk_62 (dk_at dksX1_tight_0 17 rfl rfl)
theorem dX1_tight_18 : decode cX1_tight 18 = .ok (.iload_n 3, 1) := dk_29 (dk_at dksX1_tight_0 18 rfl rfl)
theorem dX1_tight_19 : decode cX1_tight 19 = .ok (.aload_n 0, 1) := dk_42 (dk_at dksX1_tight_0 19 rfl rfl)
theorem dX1_tight_20 : decode cX1_tight 20 = .ok (.getfield 147, 3) := dk_180 0 147 (dk_at dksX1_tight_0 20 rfl rfl)
theorem dX1_tight_23 : decode cX1_tight 23 = .ok (.if_icmp .ge 41, 3) := dk_162 0 41 (dk_at dksX1_tight_1 0 rfl rfl)
theorem dX1_tight_26 : decode cX1_tight 26 = .ok (.iload_n 2, 1) := dk_28 (dk_at dksX1_tight_1 3 rfl rfl)
theorem dX1_tight_27 : decode cX1_tight 27 = .ok (.ifCond .eq 37, 3) := dk_153 0 37 (dk_at dksX1_tight_1 4 rfl rfl)
theorem dX1_tight_30 : decode cX1_tight 30 = .ok (.iload_n 1, 1) := dk_27 (dk_at dksX1_tight_1 7 rfl rfl)
theorem dX1_tight_31 : decode cX1_tight 31 = .ok (.iload_n 3, 1) := dk_29 (dk_at dksX1_tight_1 8 rfl rfl)
theorem dX1_tight_32 : decode cX1_tight 32 = .ok (.invokestatic 153, 3) := dk_184 0 153 (dk_at dksX1_tight_1 9 rfl rfl)
theorem dX1_tight_35 : decode cX1_tight 35 = .ok (.ifCond .eq 17, 3) := dk_153 0 17 (dk_at dksX1_tight_1 12 rfl rfl)
theorem dX1_tight_38 : decode cX1_tight 38 = .ok (.aload_n 0, 1) := dk_42 (dk_at dksX1_tight_1 15 rfl rfl)
theorem dX1_tight_39 : decode cX1_tight 39 = .ok (.iload_n 1, 1) := dk_27 (dk_at dksX1_tight_1 16 rfl rfl)
theorem dX1_tight_40 : decode cX1_tight 40 = .ok (.iconst 1, 1) := dk_4 (dk_at dksX1_tight_1 17 rfl rfl)
theorem dX1_tight_41 : decode cX1_tight 41 = .ok (.iload_n 3, 1) := dk_29 (dk_at dksX1_tight_1 18 rfl rfl)
theorem dX1_tight_42 : decode cX1_tight 42 = .ok (.ishl, 1) := dk_120 (dk_at dksX1_tight_1 19 rfl rfl)
theorem dX1_tight_43 : decode cX1_tight 43 = .ok (.iconst (-1), 1) := dk_2 (dk_at dksX1_tight_1 20 rfl rfl)
theorem dX1_tight_44 : decode cX1_tight 44 = .ok (.ixor, 1) := dk_130 (dk_at dksX1_tight_1 21 rfl rfl)
theorem dX1_tight_45 : decode cX1_tight 45 = .ok (.iand, 1) := dk_126 (dk_at dksX1_tight_1 22 rfl rfl)
theorem dX1_tight_46 : decode cX1_tight 46 = .ok (.invokevirtual 235, 3) := dk_182 0 235 (dk_at dksX1_tight_2 0 rfl rfl)
theorem dX1_tight_49 : decode cX1_tight 49 = .ok (.ifCond .ne 7, 3) := dk_154 0 7 (dk_at dksX1_tight_2 3 rfl rfl)
theorem dX1_tight_52 : decode cX1_tight 52 = .ok (.iconst 1, 1) := dk_4 (dk_at dksX1_tight_2 6 rfl rfl)
theorem dX1_tight_53 : decode cX1_tight 53 = .ok (.goto 4, 3) := dk_167 0 4 (dk_at dksX1_tight_2 7 rfl rfl)
theorem dX1_tight_56 : decode cX1_tight 56 = .ok (.iconst 0, 1) := dk_3 (dk_at dksX1_tight_2 10 rfl rfl)
theorem dX1_tight_57 : decode cX1_tight 57 = .ok (.istore_n 2, 1) := dk_61 (dk_at dksX1_tight_2 11 rfl rfl)
theorem dX1_tight_58 : decode cX1_tight 58 = .ok (.iinc 3 1, 3) := dk_132 3 1 (dk_at dksX1_tight_2 12 rfl rfl)
theorem dX1_tight_61 : decode cX1_tight 61 = .ok (.goto (-43), 3) := dk_167 255 213 (dk_at dksX1_tight_2 15 rfl rfl)
theorem dX1_tight_64 : decode cX1_tight 64 = .ok (.iload_n 2, 1) := dk_28 (dk_at dksX1_tight_2 18 rfl rfl)
theorem dX1_tight_65 : decode cX1_tight 65 = .ok (.ifCond .eq 7, 3) := dk_153 0 7 (dk_at dksX1_tight_2 19 rfl rfl)
theorem dX1_tight_68 : decode cX1_tight 68 = .ok (.iconst 1, 1) := dk_4 (dk_at dksX1_tight_2 22 rfl rfl)
theorem dX1_tight_69 : decode cX1_tight 69 = .ok (.goto 4, 3) := dk_167 0 4 (dk_at dksX1_tight_3 0 rfl rfl)
theorem dX1_tight_72 : decode cX1_tight 72 = .ok (.iconst 0, 1) := dk_3 (dk_at dksX1_tight_3 3 rfl rfl)
theorem dX1_tight_73 : decode cX1_tight 73 = .ok (.ireturn, 1) := dk_172 (dk_at dksX1_tight_3 4 rfl rfl)
abbrev cX1_clash : ByteArray := prog_10_method_76_code
def yX1_clash : MethodName := ⟨RX1, "clash", "(I)I"⟩
def dkwX1_clash_1 : List UInt8 := [154, 0, 8, 16, 252, 167, 0, 16, 42, 27, 182, 0, 245, 153, 0, 7, 4, 167, 0, 4, 3, 172]
abbrev dktX1_clash_1 : List UInt8 := dkwX1_clash_1 ++ []
def dkwX1_clash_0 : List UInt8 := [27, 133, 9, 4, 42, 180, 0, 60, 120, 4, 100, 133, 184, 0, 72, 154, 0, 5, 2, 172, 42, 180, 0, 147]
abbrev dktX1_clash_0 : List UInt8 := dkwX1_clash_0 ++ dktX1_clash_1
theorem dksX1_clash_0 : cX1_clash.data.toList.drop 0 = dktX1_clash_0 := by decide +kernel
theorem dksX1_clash_1 : cX1_clash.data.toList.drop 24 = dktX1_clash_1 := dk_seg dksX1_clash_0 24 rfl rfl
theorem dX1_clash_0 : decode cX1_clash 0 = .ok (.iload_n 1, 1) := dk_27 (dk_at dksX1_clash_0 0 rfl rfl)
theorem dX1_clash_1 : decode cX1_clash 1 = .ok (.i2l, 1) := dk_133 (dk_at dksX1_clash_0 1 rfl rfl)
theorem dX1_clash_2 : decode cX1_clash 2 = .ok (.lconst 0, 1) := dk_9 (dk_at dksX1_clash_0 2 rfl rfl)
theorem dX1_clash_3 : decode cX1_clash 3 = .ok (.iconst 1, 1) := dk_4 (dk_at dksX1_clash_0 3 rfl rfl)
theorem dX1_clash_4 : decode cX1_clash 4 = .ok (.aload_n 0, 1) := dk_42 (dk_at dksX1_clash_0 4 rfl rfl)
theorem dX1_clash_5 : decode cX1_clash 5 = .ok (.getfield 60, 3) := dk_180 0 60 (dk_at dksX1_clash_0 5 rfl rfl)
theorem dX1_clash_8 : decode cX1_clash 8 = .ok (.ishl, 1) := dk_120 (dk_at dksX1_clash_0 8 rfl rfl)
theorem dX1_clash_9 : decode cX1_clash 9 = .ok (.iconst 1, 1) := dk_4 (dk_at dksX1_clash_0 9 rfl rfl)
theorem dX1_clash_10 : decode cX1_clash 10 = .ok (.isub, 1) := dk_100 (dk_at dksX1_clash_0 10 rfl rfl)
theorem dX1_clash_11 : decode cX1_clash 11 = .ok (.i2l, 1) := dk_133 (dk_at dksX1_clash_0 11 rfl rfl)
theorem dX1_clash_12 : decode cX1_clash 12 = .ok (.invokestatic 72, 3) := dk_184 0 72 (dk_at dksX1_clash_0 12 rfl rfl)
theorem dX1_clash_15 : decode cX1_clash 15 = .ok (.ifCond .ne 5, 3) := dk_154 0 5 (dk_at dksX1_clash_0 15 rfl rfl)
theorem dX1_clash_18 : decode cX1_clash 18 = .ok (.iconst (-1), 1) := dk_2 (dk_at dksX1_clash_0 18 rfl rfl)
theorem dX1_clash_19 : decode cX1_clash 19 = .ok (.ireturn, 1) := dk_172 (dk_at dksX1_clash_0 19 rfl rfl)
theorem dX1_clash_20 : decode cX1_clash 20 = .ok (.aload_n 0, 1) := dk_42 (dk_at dksX1_clash_0 20 rfl rfl)
theorem dX1_clash_21 : decode cX1_clash 21 = .ok (.getfield 147, 3) := dk_180 0 147 (dk_at dksX1_clash_0 21 rfl rfl)
theorem dX1_clash_24 : decode cX1_clash 24 = .ok (.ifCond .ne 8, 3) := dk_154 0 8 (dk_at dksX1_clash_1 0 rfl rfl)
theorem dX1_clash_27 : decode cX1_clash 27 = .ok (.bipush (-4), 2) := dk_16 252 (dk_at dksX1_clash_1 3 rfl rfl)
theorem dX1_clash_29 : decode cX1_clash 29 = .ok (.goto 16, 3) := dk_167 0 16 (dk_at dksX1_clash_1 5 rfl rfl)
theorem dX1_clash_32 : decode cX1_clash 32 = .ok (.aload_n 0, 1) := dk_42 (dk_at dksX1_clash_1 8 rfl rfl)
theorem dX1_clash_33 : decode cX1_clash 33 = .ok (.iload_n 1, 1) := dk_27 (dk_at dksX1_clash_1 9 rfl rfl)
theorem dX1_clash_34 : decode cX1_clash 34 = .ok (.invokevirtual 245, 3) := dk_182 0 245 (dk_at dksX1_clash_1 10 rfl rfl)
theorem dX1_clash_37 : decode cX1_clash 37 = .ok (.ifCond .eq 7, 3) := dk_153 0 7 (dk_at dksX1_clash_1 13 rfl rfl)
theorem dX1_clash_40 : decode cX1_clash 40 = .ok (.iconst 1, 1) := dk_4 (dk_at dksX1_clash_1 16 rfl rfl)
theorem dX1_clash_41 : decode cX1_clash 41 = .ok (.goto 4, 3) := dk_167 0 4 (dk_at dksX1_clash_1 17 rfl rfl)
theorem dX1_clash_44 : decode cX1_clash 44 = .ok (.iconst 0, 1) := dk_3 (dk_at dksX1_clash_1 20 rfl rfl)
theorem dX1_clash_45 : decode cX1_clash 45 = .ok (.ireturn, 1) := dk_172 (dk_at dksX1_clash_1 21 rfl rfl)
abbrev cX1_clashes : ByteArray := prog_10_method_75_code
def yX1_clashes : MethodName := ⟨RX1, "clashes", "(I)Z"⟩
def dkwX1_clashes_1 : List UInt8 := [132, 2, 1, 167, 255, 231, 4, 172]
abbrev dktX1_clashes_1 : List UInt8 := dkwX1_clashes_1 ++ []
def dkwX1_clashes_0 : List UInt8 := [3, 61, 28, 42, 182, 0, 150, 162, 0, 23, 27, 42, 28, 182, 0, 185, 2, 130, 126, 154, 0, 5, 3, 172]
abbrev dktX1_clashes_0 : List UInt8 := dkwX1_clashes_0 ++ dktX1_clashes_1
theorem dksX1_clashes_0 : cX1_clashes.data.toList.drop 0 = dktX1_clashes_0 := by decide +kernel
theorem dksX1_clashes_1 : cX1_clashes.data.toList.drop 24 = dktX1_clashes_1 := dk_seg dksX1_clashes_0 24 rfl rfl
theorem dX1_clashes_0 : decode cX1_clashes 0 = .ok (.iconst 0, 1) := dk_3 (dk_at dksX1_clashes_0 0 rfl rfl)
theorem dX1_clashes_1 : decode cX1_clashes 1 = .ok (.istore_n 2, 1) := dk_61 (dk_at dksX1_clashes_0 1 rfl rfl)
theorem dX1_clashes_2 : decode cX1_clashes 2 = .ok (.iload_n 2, 1) := dk_28 (dk_at dksX1_clashes_0 2 rfl rfl)
theorem dX1_clashes_3 : decode cX1_clashes 3 = .ok (.aload_n 0, 1) := dk_42 (dk_at dksX1_clashes_0 3 rfl rfl)
theorem dX1_clashes_4 : decode cX1_clashes 4 = .ok (.invokevirtual 150, 3) := dk_182 0 150 (dk_at dksX1_clashes_0 4 rfl rfl)
theorem dX1_clashes_7 : decode cX1_clashes 7 = .ok (.if_icmp .ge 23, 3) := dk_162 0 23 (dk_at dksX1_clashes_0 7 rfl rfl)
theorem dX1_clashes_10 : decode cX1_clashes 10 = .ok (.iload_n 1, 1) := dk_27 (dk_at dksX1_clashes_0 10 rfl rfl)
theorem dX1_clashes_11 : decode cX1_clashes 11 = .ok (.aload_n 0, 1) := dk_42 (dk_at dksX1_clashes_0 11 rfl rfl)
theorem dX1_clashes_12 : decode cX1_clashes 12 = .ok (.iload_n 2, 1) := dk_28 (dk_at dksX1_clashes_0 12 rfl rfl)
theorem dX1_clashes_13 : decode cX1_clashes 13 = .ok (.invokevirtual 185, 3) := dk_182 0 185 (dk_at dksX1_clashes_0 13 rfl rfl)
theorem dX1_clashes_16 : decode cX1_clashes 16 = .ok (.iconst (-1), 1) := dk_2 (dk_at dksX1_clashes_0 16 rfl rfl)
theorem dX1_clashes_17 : decode cX1_clashes 17 = .ok (.ixor, 1) := dk_130 (dk_at dksX1_clashes_0 17 rfl rfl)
theorem dX1_clashes_18 : decode cX1_clashes 18 = .ok (.iand, 1) := dk_126 (dk_at dksX1_clashes_0 18 rfl rfl)
theorem dX1_clashes_19 : decode cX1_clashes 19 = .ok (.ifCond .ne 5, 3) := dk_154 0 5 (dk_at dksX1_clashes_0 19 rfl rfl)
theorem dX1_clashes_22 : decode cX1_clashes 22 = .ok (.iconst 0, 1) := dk_3 (dk_at dksX1_clashes_0 22 rfl rfl)
theorem dX1_clashes_23 : decode cX1_clashes 23 = .ok (.ireturn, 1) := dk_172 (dk_at dksX1_clashes_0 23 rfl rfl)
theorem dX1_clashes_24 : decode cX1_clashes 24 = .ok (.iinc 2 1, 3) := dk_132 2 1 (dk_at dksX1_clashes_1 0 rfl rfl)
theorem dX1_clashes_27 : decode cX1_clashes 27 = .ok (.goto (-25), 3) := dk_167 255 231 (dk_at dksX1_clashes_1 3 rfl rfl)
theorem dX1_clashes_30 : decode cX1_clashes 30 = .ok (.iconst 1, 1) := dk_4 (dk_at dksX1_clashes_1 6 rfl rfl)
theorem dX1_clashes_31 : decode cX1_clashes 31 = .ok (.ireturn, 1) := dk_172 (dk_at dksX1_clashes_1 7 rfl rfl)
abbrev cX1_two : ByteArray := prog_10_method_77_code
def yX1_two : MethodName := ⟨RX1, "two", "()I"⟩
def dkwX1_two_3 : List UInt8 := [167, 0, 4, 3, 96, 60, 132, 3, 1, 167, 255, 192, 42, 27, 181, 0, 67, 28, 172]
abbrev dktX1_two_3 : List UInt8 := dkwX1_two_3 ++ []
def dkwX1_two_2 : List UInt8 := [54, 4, 21, 4, 153, 0, 11, 27, 154, 0, 7, 29, 167, 0, 4, 28, 61, 27, 21, 4, 153, 0, 7, 4]
abbrev dktX1_two_2 : List UInt8 := dkwX1_two_2 ++ dktX1_two_3
def dkwX1_two_1 : List UInt8 := [162, 0, 60, 29, 184, 0, 215, 6, 162, 0, 15, 42, 29, 182, 0, 245, 153, 0, 7, 4, 167, 0, 4, 3]
abbrev dktX1_two_1 : List UInt8 := dkwX1_two_1 ++ dktX1_two_2
def dkwX1_two_0 : List UInt8 := [42, 180, 0, 147, 154, 0, 6, 16, 252, 172, 3, 60, 16, 247, 61, 4, 62, 29, 4, 42, 180, 0, 60, 120]
abbrev dktX1_two_0 : List UInt8 := dkwX1_two_0 ++ dktX1_two_1
theorem dksX1_two_0 : cX1_two.data.toList.drop 0 = dktX1_two_0 := by decide +kernel
theorem dksX1_two_1 : cX1_two.data.toList.drop 24 = dktX1_two_1 := dk_seg dksX1_two_0 24 rfl rfl
theorem dksX1_two_2 : cX1_two.data.toList.drop 48 = dktX1_two_2 := dk_seg dksX1_two_1 24 rfl rfl
theorem dksX1_two_3 : cX1_two.data.toList.drop 72 = dktX1_two_3 := dk_seg dksX1_two_2 24 rfl rfl
theorem dX1_two_0 : decode cX1_two 0 = .ok (.aload_n 0, 1) := dk_42 (dk_at dksX1_two_0 0 rfl rfl)
theorem dX1_two_1 : decode cX1_two 1 = .ok (.getfield 147, 3) := dk_180 0 147 (dk_at dksX1_two_0 1 rfl rfl)
theorem dX1_two_4 : decode cX1_two 4 = .ok (.ifCond .ne 6, 3) := dk_154 0 6 (dk_at dksX1_two_0 4 rfl rfl)
theorem dX1_two_7 : decode cX1_two 7 = .ok (.bipush (-4), 2) := dk_16 252 (dk_at dksX1_two_0 7 rfl rfl)
theorem dX1_two_9 : decode cX1_two 9 = .ok (.ireturn, 1) := dk_172 (dk_at dksX1_two_0 9 rfl rfl)
theorem dX1_two_10 : decode cX1_two 10 = .ok (.iconst 0, 1) := dk_3 (dk_at dksX1_two_0 10 rfl rfl)
theorem dX1_two_11 : decode cX1_two 11 = .ok (.istore_n 1, 1) := dk_60 (dk_at dksX1_two_0 11 rfl rfl)
theorem dX1_two_12 : decode cX1_two 12 = .ok (.bipush (-9), 2) := dk_16 247 (dk_at dksX1_two_0 12 rfl rfl)
theorem dX1_two_14 : decode cX1_two 14 = .ok (.istore_n 2, 1) := dk_61 (dk_at dksX1_two_0 14 rfl rfl)
theorem dX1_two_15 : decode cX1_two 15 = .ok (.iconst 1, 1) := dk_4 (dk_at dksX1_two_0 15 rfl rfl)
theorem dX1_two_16 : decode cX1_two 16 = .ok (.istore_n 3, 1) := dk_62 (dk_at dksX1_two_0 16 rfl rfl)
theorem dX1_two_17 : decode cX1_two 17 = .ok (.iload_n 3, 1) := dk_29 (dk_at dksX1_two_0 17 rfl rfl)
theorem dX1_two_18 : decode cX1_two 18 = .ok (.iconst 1, 1) := dk_4 (dk_at dksX1_two_0 18 rfl rfl)
theorem dX1_two_19 : decode cX1_two 19 = .ok (.aload_n 0, 1) := dk_42 (dk_at dksX1_two_0 19 rfl rfl)
theorem dX1_two_20 : decode cX1_two 20 = .ok (.getfield 60, 3) := dk_180 0 60 (dk_at dksX1_two_0 20 rfl rfl)
theorem dX1_two_23 : decode cX1_two 23 = .ok (.ishl, 1) := dk_120 (dk_at dksX1_two_0 23 rfl rfl)
theorem dX1_two_24 : decode cX1_two 24 = .ok (.if_icmp .ge 60, 3) := dk_162 0 60 (dk_at dksX1_two_1 0 rfl rfl)
theorem dX1_two_27 : decode cX1_two 27 = .ok (.iload_n 3, 1) := dk_29 (dk_at dksX1_two_1 3 rfl rfl)
theorem dX1_two_28 : decode cX1_two 28 = .ok (.invokestatic 215, 3) := dk_184 0 215 (dk_at dksX1_two_1 4 rfl rfl)
theorem dX1_two_31 : decode cX1_two 31 = .ok (.iconst 3, 1) := dk_6 (dk_at dksX1_two_1 7 rfl rfl)
theorem dX1_two_32 : decode cX1_two 32 = .ok (.if_icmp .ge 15, 3) := dk_162 0 15 (dk_at dksX1_two_1 8 rfl rfl)
theorem dX1_two_35 : decode cX1_two 35 = .ok (.aload_n 0, 1) := dk_42 (dk_at dksX1_two_1 11 rfl rfl)
theorem dX1_two_36 : decode cX1_two 36 = .ok (.iload_n 3, 1) := dk_29 (dk_at dksX1_two_1 12 rfl rfl)
theorem dX1_two_37 : decode cX1_two 37 = .ok (.invokevirtual 245, 3) := dk_182 0 245 (dk_at dksX1_two_1 13 rfl rfl)
theorem dX1_two_40 : decode cX1_two 40 = .ok (.ifCond .eq 7, 3) := dk_153 0 7 (dk_at dksX1_two_1 16 rfl rfl)
theorem dX1_two_43 : decode cX1_two 43 = .ok (.iconst 1, 1) := dk_4 (dk_at dksX1_two_1 19 rfl rfl)
theorem dX1_two_44 : decode cX1_two 44 = .ok (.goto 4, 3) := dk_167 0 4 (dk_at dksX1_two_1 20 rfl rfl)
theorem dX1_two_47 : decode cX1_two 47 = .ok (.iconst 0, 1) := dk_3 (dk_at dksX1_two_1 23 rfl rfl)
theorem dX1_two_48 : decode cX1_two 48 = .ok (.istore 4, 2) := dk_54 4 (dk_at dksX1_two_2 0 rfl rfl)
theorem dX1_two_50 : decode cX1_two 50 = .ok (.iload 4, 2) := dk_21 4 (dk_at dksX1_two_2 2 rfl rfl)
theorem dX1_two_52 : decode cX1_two 52 = .ok (.ifCond .eq 11, 3) := dk_153 0 11 (dk_at dksX1_two_2 4 rfl rfl)
theorem dX1_two_55 : decode cX1_two 55 = .ok (.iload_n 1, 1) := dk_27 (dk_at dksX1_two_2 7 rfl rfl)
theorem dX1_two_56 : decode cX1_two 56 = .ok (.ifCond .ne 7, 3) := dk_154 0 7 (dk_at dksX1_two_2 8 rfl rfl)
theorem dX1_two_59 : decode cX1_two 59 = .ok (.iload_n 3, 1) := dk_29 (dk_at dksX1_two_2 11 rfl rfl)
theorem dX1_two_60 : decode cX1_two 60 = .ok (.goto 4, 3) := dk_167 0 4 (dk_at dksX1_two_2 12 rfl rfl)
theorem dX1_two_63 : decode cX1_two 63 = .ok (.iload_n 2, 1) := dk_28 (dk_at dksX1_two_2 15 rfl rfl)
theorem dX1_two_64 : decode cX1_two 64 = .ok (.istore_n 2, 1) := dk_61 (dk_at dksX1_two_2 16 rfl rfl)
theorem dX1_two_65 : decode cX1_two 65 = .ok (.iload_n 1, 1) := dk_27 (dk_at dksX1_two_2 17 rfl rfl)
theorem dX1_two_66 : decode cX1_two 66 = .ok (.iload 4, 2) := dk_21 4 (dk_at dksX1_two_2 18 rfl rfl)
theorem dX1_two_68 : decode cX1_two 68 = .ok (.ifCond .eq 7, 3) := dk_153 0 7 (dk_at dksX1_two_2 20 rfl rfl)
theorem dX1_two_71 : decode cX1_two 71 = .ok (.iconst 1, 1) := dk_4 (dk_at dksX1_two_2 23 rfl rfl)
theorem dX1_two_72 : decode cX1_two 72 = .ok (.goto 4, 3) := dk_167 0 4 (dk_at dksX1_two_3 0 rfl rfl)
theorem dX1_two_75 : decode cX1_two 75 = .ok (.iconst 0, 1) := dk_3 (dk_at dksX1_two_3 3 rfl rfl)
theorem dX1_two_76 : decode cX1_two 76 = .ok (.iadd, 1) := dk_96 (dk_at dksX1_two_3 4 rfl rfl)
theorem dX1_two_77 : decode cX1_two 77 = .ok (.istore_n 1, 1) := dk_60 (dk_at dksX1_two_3 5 rfl rfl)
theorem dX1_two_78 : decode cX1_two 78 = .ok (.iinc 3 1, 3) := dk_132 3 1 (dk_at dksX1_two_3 6 rfl rfl)
theorem dX1_two_81 : decode cX1_two 81 = .ok (.goto (-64), 3) := dk_167 255 192 (dk_at dksX1_two_3 9 rfl rfl)
theorem dX1_two_84 : decode cX1_two 84 = .ok (.aload_n 0, 1) := dk_42 (dk_at dksX1_two_3 12 rfl rfl)
theorem dX1_two_85 : decode cX1_two 85 = .ok (.iload_n 1, 1) := dk_27 (dk_at dksX1_two_3 13 rfl rfl)
theorem dX1_two_86 : decode cX1_two 86 = .ok (.putfield 67, 3) := dk_181 0 67 (dk_at dksX1_two_3 14 rfl rfl)
theorem dX1_two_89 : decode cX1_two 89 = .ok (.iload_n 2, 1) := dk_28 (dk_at dksX1_two_3 17 rfl rfl)
theorem dX1_two_90 : decode cX1_two 90 = .ok (.ireturn, 1) := dk_172 (dk_at dksX1_two_3 18 rfl rfl)
abbrev cX1_least : ByteArray := prog_10_method_78_code
def yX1_least : MethodName := ⟨RX1, "least", "()I"⟩
def dkwX1_least_4 : List UInt8 := [160, 0, 8, 16, 247, 167, 0, 7, 27, 184, 0, 215, 172]
abbrev dktX1_least_4 : List UInt8 := dkwX1_least_4 ++ []
def dkwX1_least_3 : List UInt8 := [167, 255, 202, 42, 27, 16, 247, 160, 0, 10, 42, 180, 0, 67, 167, 0, 4, 27, 181, 0, 67, 27, 16, 247]
abbrev dktX1_least_3 : List UInt8 := dkwX1_least_3 ++ dktX1_least_4
def dkwX1_least_2 : List UInt8 := [3, 62, 29, 153, 0, 15, 42, 28, 182, 0, 245, 153, 0, 7, 28, 167, 0, 4, 27, 60, 132, 2, 1]
abbrev dktX1_least_2 : List UInt8 := dkwX1_least_2 ++ dktX1_least_3
def dkwX1_least_1 : List UInt8 := [162, 0, 50, 27, 16, 247, 159, 0, 14, 28, 184, 0, 215, 27, 184, 0, 215, 162, 0, 7, 4, 167, 0, 4]
abbrev dktX1_least_1 : List UInt8 := dkwX1_least_1 ++ dktX1_least_2
def dkwX1_least_0 : List UInt8 := [42, 180, 0, 147, 154, 0, 6, 16, 252, 172, 16, 247, 60, 4, 61, 28, 4, 42, 180, 0, 60, 120]
abbrev dktX1_least_0 : List UInt8 := dkwX1_least_0 ++ dktX1_least_1
theorem dksX1_least_0 : cX1_least.data.toList.drop 0 = dktX1_least_0 := by decide +kernel
theorem dksX1_least_1 : cX1_least.data.toList.drop 22 = dktX1_least_1 := dk_seg dksX1_least_0 22 rfl rfl
theorem dksX1_least_2 : cX1_least.data.toList.drop 46 = dktX1_least_2 := dk_seg dksX1_least_1 24 rfl rfl
theorem dksX1_least_3 : cX1_least.data.toList.drop 69 = dktX1_least_3 := dk_seg dksX1_least_2 23 rfl rfl
theorem dksX1_least_4 : cX1_least.data.toList.drop 93 = dktX1_least_4 := dk_seg dksX1_least_3 24 rfl rfl
theorem dX1_least_0 : decode cX1_least 0 = .ok (.aload_n 0, 1) := dk_42 (dk_at dksX1_least_0 0 rfl rfl)
theorem dX1_least_1 : decode cX1_least 1 = .ok (.getfield 147, 3) := dk_180 0 147 (dk_at dksX1_least_0 1 rfl rfl)
theorem dX1_least_4 : decode cX1_least 4 = .ok (.ifCond .ne 6, 3) := dk_154 0 6 (dk_at dksX1_least_0 4 rfl rfl)
theorem dX1_least_7 : decode cX1_least 7 = .ok (.bipush (-4), 2) := dk_16 252 (dk_at dksX1_least_0 7 rfl rfl)
theorem dX1_least_9 : decode cX1_least 9 = .ok (.ireturn, 1) := dk_172 (dk_at dksX1_least_0 9 rfl rfl)
theorem dX1_least_10 : decode cX1_least 10 = .ok (.bipush (-9), 2) := dk_16 247 (dk_at dksX1_least_0 10 rfl rfl)
theorem dX1_least_12 : decode cX1_least 12 = .ok (.istore_n 1, 1) := dk_60 (dk_at dksX1_least_0 12 rfl rfl)
theorem dX1_least_13 : decode cX1_least 13 = .ok (.iconst 1, 1) := dk_4 (dk_at dksX1_least_0 13 rfl rfl)
theorem dX1_least_14 : decode cX1_least 14 = .ok (.istore_n 2, 1) := dk_61 (dk_at dksX1_least_0 14 rfl rfl)
theorem dX1_least_15 : decode cX1_least 15 = .ok (.iload_n 2, 1) := dk_28 (dk_at dksX1_least_0 15 rfl rfl)
theorem dX1_least_16 : decode cX1_least 16 = .ok (.iconst 1, 1) := dk_4 (dk_at dksX1_least_0 16 rfl rfl)
theorem dX1_least_17 : decode cX1_least 17 = .ok (.aload_n 0, 1) := dk_42 (dk_at dksX1_least_0 17 rfl rfl)
theorem dX1_least_18 : decode cX1_least 18 = .ok (.getfield 60, 3) := dk_180 0 60 (dk_at dksX1_least_0 18 rfl rfl)
theorem dX1_least_21 : decode cX1_least 21 = .ok (.ishl, 1) := dk_120 (dk_at dksX1_least_0 21 rfl rfl)
theorem dX1_least_22 : decode cX1_least 22 = .ok (.if_icmp .ge 50, 3) := dk_162 0 50 (dk_at dksX1_least_1 0 rfl rfl)
theorem dX1_least_25 : decode cX1_least 25 = .ok (.iload_n 1, 1) := dk_27 (dk_at dksX1_least_1 3 rfl rfl)
theorem dX1_least_26 : decode cX1_least 26 = .ok (.bipush (-9), 2) := dk_16 247 (dk_at dksX1_least_1 4 rfl rfl)
theorem dX1_least_28 : decode cX1_least 28 = .ok (.if_icmp .eq 14, 3) := dk_159 0 14 (dk_at dksX1_least_1 6 rfl rfl)
theorem dX1_least_31 : decode cX1_least 31 = .ok (.iload_n 2, 1) := dk_28 (dk_at dksX1_least_1 9 rfl rfl)
theorem dX1_least_32 : decode cX1_least 32 = .ok (.invokestatic 215, 3) := dk_184 0 215 (dk_at dksX1_least_1 10 rfl rfl)
theorem dX1_least_35 : decode cX1_least 35 = .ok (.iload_n 1, 1) := dk_27 (dk_at dksX1_least_1 13 rfl rfl)
theorem dX1_least_36 : decode cX1_least 36 = .ok (.invokestatic 215, 3) := dk_184 0 215 (dk_at dksX1_least_1 14 rfl rfl)
theorem dX1_least_39 : decode cX1_least 39 = .ok (.if_icmp .ge 7, 3) := dk_162 0 7 (dk_at dksX1_least_1 17 rfl rfl)
theorem dX1_least_42 : decode cX1_least 42 = .ok (.iconst 1, 1) := dk_4 (dk_at dksX1_least_1 20 rfl rfl)
theorem dX1_least_43 : decode cX1_least 43 = .ok (.goto 4, 3) := dk_167 0 4 (dk_at dksX1_least_1 21 rfl rfl)
theorem dX1_least_46 : decode cX1_least 46 = .ok (.iconst 0, 1) := dk_3 (dk_at dksX1_least_2 0 rfl rfl)
theorem dX1_least_47 : decode cX1_least 47 = .ok (.istore_n 3, 1) := dk_62 (dk_at dksX1_least_2 1 rfl rfl)
theorem dX1_least_48 : decode cX1_least 48 = .ok (.iload_n 3, 1) := dk_29 (dk_at dksX1_least_2 2 rfl rfl)
theorem dX1_least_49 : decode cX1_least 49 = .ok (.ifCond .eq 15, 3) := dk_153 0 15 (dk_at dksX1_least_2 3 rfl rfl)
theorem dX1_least_52 : decode cX1_least 52 = .ok (.aload_n 0, 1) := dk_42 (dk_at dksX1_least_2 6 rfl rfl)
theorem dX1_least_53 : decode cX1_least 53 = .ok (.iload_n 2, 1) := dk_28 (dk_at dksX1_least_2 7 rfl rfl)
theorem dX1_least_54 : decode cX1_least 54 = .ok (.invokevirtual 245, 3) := dk_182 0 245 (dk_at dksX1_least_2 8 rfl rfl)
theorem dX1_least_57 : decode cX1_least 57 = .ok (.ifCond .eq 7, 3) := dk_153 0 7 (dk_at dksX1_least_2 11 rfl rfl)
theorem dX1_least_60 : decode cX1_least 60 = .ok (.iload_n 2, 1) := dk_28 (dk_at dksX1_least_2 14 rfl rfl)
theorem dX1_least_61 : decode cX1_least 61 = .ok (.goto 4, 3) := dk_167 0 4 (dk_at dksX1_least_2 15 rfl rfl)
theorem dX1_least_64 : decode cX1_least 64 = .ok (.iload_n 1, 1) := dk_27 (dk_at dksX1_least_2 18 rfl rfl)
theorem dX1_least_65 : decode cX1_least 65 = .ok (.istore_n 1, 1) := dk_60 (dk_at dksX1_least_2 19 rfl rfl)
theorem dX1_least_66 : decode cX1_least 66 = .ok (.iinc 2 1, 3) := dk_132 2 1 (dk_at dksX1_least_2 20 rfl rfl)
theorem dX1_least_69 : decode cX1_least 69 = .ok (.goto (-54), 3) := dk_167 255 202 (dk_at dksX1_least_3 0 rfl rfl)
theorem dX1_least_72 : decode cX1_least 72 = .ok (.aload_n 0, 1) := dk_42 (dk_at dksX1_least_3 3 rfl rfl)
theorem dX1_least_73 : decode cX1_least 73 = .ok (.iload_n 1, 1) := dk_27 (dk_at dksX1_least_3 4 rfl rfl)
theorem dX1_least_74 : decode cX1_least 74 = .ok (.bipush (-9), 2) := dk_16 247 (dk_at dksX1_least_3 5 rfl rfl)
theorem dX1_least_76 : decode cX1_least 76 = .ok (.if_icmp .ne 10, 3) := dk_160 0 10 (dk_at dksX1_least_3 7 rfl rfl)
theorem dX1_least_79 : decode cX1_least 79 = .ok (.aload_n 0, 1) := dk_42 (dk_at dksX1_least_3 10 rfl rfl)
theorem dX1_least_80 : decode cX1_least 80 = .ok (.getfield 67, 3) := dk_180 0 67 (dk_at dksX1_least_3 11 rfl rfl)
theorem dX1_least_83 : decode cX1_least 83 = .ok (.goto 4, 3) := dk_167 0 4 (dk_at dksX1_least_3 14 rfl rfl)
theorem dX1_least_86 : decode cX1_least 86 = .ok (.iload_n 1, 1) := dk_27 (dk_at dksX1_least_3 17 rfl rfl)
theorem dX1_least_87 : decode cX1_least 87 = .ok (.putfield 67, 3) := dk_181 0 67 (dk_at dksX1_least_3 18 rfl rfl)
theorem dX1_least_90 : decode cX1_least 90 = .ok (.iload_n 1, 1) := dk_27 (dk_at dksX1_least_3 21 rfl rfl)
theorem dX1_least_91 : decode cX1_least 91 = .ok (.bipush (-9), 2) := dk_16 247 (dk_at dksX1_least_3 22 rfl rfl)
theorem dX1_least_93 : decode cX1_least 93 = .ok (.if_icmp .ne 8, 3) := dk_160 0 8 (dk_at dksX1_least_4 0 rfl rfl)
theorem dX1_least_96 : decode cX1_least 96 = .ok (.bipush (-9), 2) := dk_16 247 (dk_at dksX1_least_4 3 rfl rfl)
theorem dX1_least_98 : decode cX1_least 98 = .ok (.goto 7, 3) := dk_167 0 7 (dk_at dksX1_least_4 5 rfl rfl)
theorem dX1_least_101 : decode cX1_least 101 = .ok (.iload_n 1, 1) := dk_27 (dk_at dksX1_least_4 8 rfl rfl)
theorem dX1_least_102 : decode cX1_least 102 = .ok (.invokestatic 215, 3) := dk_184 0 215 (dk_at dksX1_least_4 9 rfl rfl)
theorem dX1_least_105 : decode cX1_least 105 = .ok (.ireturn, 1) := dk_172 (dk_at dksX1_least_4 12 rfl rfl)
abbrev cX1_relent : ByteArray := prog_10_method_79_code
def yX1_relent : MethodName := ⟨RX1, "relent", "()I"⟩
def dkwX1_relent_5 : List UInt8 := [184, 0, 215, 172]
abbrev dktX1_relent_5 : List UInt8 := dkwX1_relent_5 ++ []
def dkwX1_relent_4 : List UInt8 := [182, 0, 245, 154, 0, 7, 28, 167, 0, 4, 27, 60, 132, 2, 1, 167, 255, 170, 42, 27, 181, 0, 67, 27]
abbrev dktX1_relent_4 : List UInt8 := dkwX1_relent_4 ++ dktX1_relent_5
def dkwX1_relent_3 : List UInt8 := [180, 0, 7, 4, 46, 2, 130, 126, 154, 0, 24, 42, 42, 180, 0, 7, 4, 46, 28, 2, 130, 126]
abbrev dktX1_relent_3 : List UInt8 := dkwX1_relent_3 ++ dktX1_relent_4
def dkwX1_relent_2 : List UInt8 := [184, 0, 215, 160, 0, 12, 28, 27, 162, 0, 7, 4, 167, 0, 4, 3, 62, 29, 153, 0, 37, 28, 42]
abbrev dktX1_relent_2 : List UInt8 := dkwX1_relent_2 ++ dktX1_relent_3
def dkwX1_relent_1 : List UInt8 := [180, 0, 60, 120, 162, 0, 82, 28, 184, 0, 215, 27, 184, 0, 215, 161, 0, 19, 28, 184, 0, 215, 27]
abbrev dktX1_relent_1 : List UInt8 := dkwX1_relent_1 ++ dktX1_relent_2
def dkwX1_relent_0 : List UInt8 := [42, 180, 0, 147, 154, 0, 6, 16, 252, 172, 42, 180, 0, 7, 4, 46, 60, 3, 61, 28, 4, 42]
abbrev dktX1_relent_0 : List UInt8 := dkwX1_relent_0 ++ dktX1_relent_1
theorem dksX1_relent_0 : cX1_relent.data.toList.drop 0 = dktX1_relent_0 := by decide +kernel
theorem dksX1_relent_1 : cX1_relent.data.toList.drop 22 = dktX1_relent_1 := dk_seg dksX1_relent_0 22 rfl rfl
theorem dksX1_relent_2 : cX1_relent.data.toList.drop 45 = dktX1_relent_2 := dk_seg dksX1_relent_1 23 rfl rfl
theorem dksX1_relent_3 : cX1_relent.data.toList.drop 68 = dktX1_relent_3 := dk_seg dksX1_relent_2 23 rfl rfl
theorem dksX1_relent_4 : cX1_relent.data.toList.drop 90 = dktX1_relent_4 := dk_seg dksX1_relent_3 22 rfl rfl
theorem dksX1_relent_5 : cX1_relent.data.toList.drop 114 = dktX1_relent_5 := dk_seg dksX1_relent_4 24 rfl rfl
theorem dX1_relent_0 : decode cX1_relent 0 = .ok (.aload_n 0, 1) := dk_42 (dk_at dksX1_relent_0 0 rfl rfl)
theorem dX1_relent_1 : decode cX1_relent 1 = .ok (.getfield 147, 3) := dk_180 0 147 (dk_at dksX1_relent_0 1 rfl rfl)
theorem dX1_relent_4 : decode cX1_relent 4 = .ok (.ifCond .ne 6, 3) := dk_154 0 6 (dk_at dksX1_relent_0 4 rfl rfl)
theorem dX1_relent_7 : decode cX1_relent 7 = .ok (.bipush (-4), 2) := dk_16 252 (dk_at dksX1_relent_0 7 rfl rfl)
theorem dX1_relent_9 : decode cX1_relent 9 = .ok (.ireturn, 1) := dk_172 (dk_at dksX1_relent_0 9 rfl rfl)
theorem dX1_relent_10 : decode cX1_relent 10 = .ok (.aload_n 0, 1) := dk_42 (dk_at dksX1_relent_0 10 rfl rfl)
theorem dX1_relent_11 : decode cX1_relent 11 = .ok (.getfield 7, 3) := dk_180 0 7 (dk_at dksX1_relent_0 11 rfl rfl)
theorem dX1_relent_14 : decode cX1_relent 14 = .ok (.iconst 1, 1) := dk_4 (dk_at dksX1_relent_0 14 rfl rfl)
theorem dX1_relent_15 : decode cX1_relent 15 = .ok (.iaload, 1) := dk_46 (dk_at dksX1_relent_0 15 rfl rfl)
theorem dX1_relent_16 : decode cX1_relent 16 = .ok (.istore_n 1, 1) := dk_60 (dk_at dksX1_relent_0 16 rfl rfl)
theorem dX1_relent_17 : decode cX1_relent 17 = .ok (.iconst 0, 1) := dk_3 (dk_at dksX1_relent_0 17 rfl rfl)
theorem dX1_relent_18 : decode cX1_relent 18 = .ok (.istore_n 2, 1) := dk_61 (dk_at dksX1_relent_0 18 rfl rfl)
theorem dX1_relent_19 : decode cX1_relent 19 = .ok (.iload_n 2, 1) := dk_28 (dk_at dksX1_relent_0 19 rfl rfl)
theorem dX1_relent_20 : decode cX1_relent 20 = .ok (.iconst 1, 1) := dk_4 (dk_at dksX1_relent_0 20 rfl rfl)
theorem dX1_relent_21 : decode cX1_relent 21 = .ok (.aload_n 0, 1) := dk_42 (dk_at dksX1_relent_0 21 rfl rfl)
theorem dX1_relent_22 : decode cX1_relent 22 = .ok (.getfield 60, 3) := dk_180 0 60 (dk_at dksX1_relent_1 0 rfl rfl)
theorem dX1_relent_25 : decode cX1_relent 25 = .ok (.ishl, 1) := dk_120 (dk_at dksX1_relent_1 3 rfl rfl)
theorem dX1_relent_26 : decode cX1_relent 26 = .ok (.if_icmp .ge 82, 3) := dk_162 0 82 (dk_at dksX1_relent_1 4 rfl rfl)
theorem dX1_relent_29 : decode cX1_relent 29 = .ok (.iload_n 2, 1) := dk_28 (dk_at dksX1_relent_1 7 rfl rfl)
theorem dX1_relent_30 : decode cX1_relent 30 = .ok (.invokestatic 215, 3) := dk_184 0 215 (dk_at dksX1_relent_1 8 rfl rfl)
theorem dX1_relent_33 : decode cX1_relent 33 = .ok (.iload_n 1, 1) := dk_27 (dk_at dksX1_relent_1 11 rfl rfl)
theorem dX1_relent_34 : decode cX1_relent 34 = .ok (.invokestatic 215, 3) := dk_184 0 215 (dk_at dksX1_relent_1 12 rfl rfl)
theorem dX1_relent_37 : decode cX1_relent 37 = .ok (.if_icmp .lt 19, 3) := dk_161 0 19 (dk_at dksX1_relent_1 15 rfl rfl)
theorem dX1_relent_40 : decode cX1_relent 40 = .ok (.iload_n 2, 1) := dk_28 (dk_at dksX1_relent_1 18 rfl rfl)
theorem dX1_relent_41 : decode cX1_relent 41 = .ok (.invokestatic 215, 3) := dk_184 0 215 (dk_at dksX1_relent_1 19 rfl rfl)
theorem dX1_relent_44 : decode cX1_relent 44 = .ok (.iload_n 1, 1) := dk_27 (dk_at dksX1_relent_1 22 rfl rfl)
theorem dX1_relent_45 : decode cX1_relent 45 = .ok (.invokestatic 215, 3) := dk_184 0 215 (dk_at dksX1_relent_2 0 rfl rfl)
theorem dX1_relent_48 : decode cX1_relent 48 = .ok (.if_icmp .ne 12, 3) := dk_160 0 12 (dk_at dksX1_relent_2 3 rfl rfl)
theorem dX1_relent_51 : decode cX1_relent 51 = .ok (.iload_n 2, 1) := dk_28 (dk_at dksX1_relent_2 6 rfl rfl)
theorem dX1_relent_52 : decode cX1_relent 52 = .ok (.iload_n 1, 1) := dk_27 (dk_at dksX1_relent_2 7 rfl rfl)
theorem dX1_relent_53 : decode cX1_relent 53 = .ok (.if_icmp .ge 7, 3) := dk_162 0 7 (dk_at dksX1_relent_2 8 rfl rfl)
theorem dX1_relent_56 : decode cX1_relent 56 = .ok (.iconst 1, 1) := dk_4 (dk_at dksX1_relent_2 11 rfl rfl)
theorem dX1_relent_57 : decode cX1_relent 57 = .ok (.goto 4, 3) := dk_167 0 4 (dk_at dksX1_relent_2 12 rfl rfl)
theorem dX1_relent_60 : decode cX1_relent 60 = .ok (.iconst 0, 1) := dk_3 (dk_at dksX1_relent_2 15 rfl rfl)
theorem dX1_relent_61 : decode cX1_relent 61 = .ok (.istore_n 3, 1) := dk_62 (dk_at dksX1_relent_2 16 rfl rfl)
theorem dX1_relent_62 : decode cX1_relent 62 = .ok (.iload_n 3, 1) := dk_29 (dk_at dksX1_relent_2 17 rfl rfl)
theorem dX1_relent_63 : decode cX1_relent 63 = .ok (.ifCond .eq 37, 3) := dk_153 0 37 (dk_at dksX1_relent_2 18 rfl rfl)
theorem dX1_relent_66 : decode cX1_relent 66 = .ok (.iload_n 2, 1) := dk_28 (dk_at dksX1_relent_2 21 rfl rfl)
theorem dX1_relent_67 : decode cX1_relent 67 = .ok (.aload_n 0, 1) := dk_42 (dk_at dksX1_relent_2 22 rfl rfl)
theorem dX1_relent_68 : decode cX1_relent 68 = .ok (.getfield 7, 3) := dk_180 0 7 (dk_at dksX1_relent_3 0 rfl rfl)
theorem dX1_relent_71 : decode cX1_relent 71 = .ok (.iconst 1, 1) := dk_4 (dk_at dksX1_relent_3 3 rfl rfl)
theorem dX1_relent_72 : decode cX1_relent 72 = .ok (.iaload, 1) := dk_46 (dk_at dksX1_relent_3 4 rfl rfl)
theorem dX1_relent_73 : decode cX1_relent 73 = .ok (.iconst (-1), 1) := dk_2 (dk_at dksX1_relent_3 5 rfl rfl)
theorem dX1_relent_74 : decode cX1_relent 74 = .ok (.ixor, 1) := dk_130 (dk_at dksX1_relent_3 6 rfl rfl)
theorem dX1_relent_75 : decode cX1_relent 75 = .ok (.iand, 1) := dk_126 (dk_at dksX1_relent_3 7 rfl rfl)
theorem dX1_relent_76 : decode cX1_relent 76 = .ok (.ifCond .ne 24, 3) := dk_154 0 24 (dk_at dksX1_relent_3 8 rfl rfl)
theorem dX1_relent_79 : decode cX1_relent 79 = .ok (.aload_n 0, 1) := dk_42 (dk_at dksX1_relent_3 11 rfl rfl)
theorem dX1_relent_80 : decode cX1_relent 80 = .ok (.aload_n 0, 1) := dk_42 (dk_at dksX1_relent_3 12 rfl rfl)
theorem dX1_relent_81 : decode cX1_relent 81 = .ok (.getfield 7, 3) := dk_180 0 7 (dk_at dksX1_relent_3 13 rfl rfl)
theorem dX1_relent_84 : decode cX1_relent 84 = .ok (.iconst 1, 1) := dk_4 (dk_at dksX1_relent_3 16 rfl rfl)
theorem dX1_relent_85 : decode cX1_relent 85 = .ok (.iaload, 1) := dk_46 (dk_at dksX1_relent_3 17 rfl rfl)
theorem dX1_relent_86 : decode cX1_relent 86 = .ok (.iload_n 2, 1) := dk_28 (dk_at dksX1_relent_3 18 rfl rfl)
theorem dX1_relent_87 : decode cX1_relent 87 = .ok (.iconst (-1), 1) := dk_2 (dk_at dksX1_relent_3 19 rfl rfl)
theorem dX1_relent_88 : decode cX1_relent 88 = .ok (.ixor, 1) := dk_130 (dk_at dksX1_relent_3 20 rfl rfl)
theorem dX1_relent_89 : decode cX1_relent 89 = .ok (.iand, 1) := dk_126 (dk_at dksX1_relent_3 21 rfl rfl)
theorem dX1_relent_90 : decode cX1_relent 90 = .ok (.invokevirtual 245, 3) := dk_182 0 245 (dk_at dksX1_relent_4 0 rfl rfl)
theorem dX1_relent_93 : decode cX1_relent 93 = .ok (.ifCond .ne 7, 3) := dk_154 0 7 (dk_at dksX1_relent_4 3 rfl rfl)
theorem dX1_relent_96 : decode cX1_relent 96 = .ok (.iload_n 2, 1) := dk_28 (dk_at dksX1_relent_4 6 rfl rfl)
theorem dX1_relent_97 : decode cX1_relent 97 = .ok (.goto 4, 3) := dk_167 0 4 (dk_at dksX1_relent_4 7 rfl rfl)
theorem dX1_relent_100 : decode cX1_relent 100 = .ok (.iload_n 1, 1) := dk_27 (dk_at dksX1_relent_4 10 rfl rfl)
theorem dX1_relent_101 : decode cX1_relent 101 = .ok (.istore_n 1, 1) := dk_60 (dk_at dksX1_relent_4 11 rfl rfl)
theorem dX1_relent_102 : decode cX1_relent 102 = .ok (.iinc 2 1, 3) := dk_132 2 1 (dk_at dksX1_relent_4 12 rfl rfl)
theorem dX1_relent_105 : decode cX1_relent 105 = .ok (.goto (-86), 3) := dk_167 255 170 (dk_at dksX1_relent_4 15 rfl rfl)
theorem dX1_relent_108 : decode cX1_relent 108 = .ok (.aload_n 0, 1) := dk_42 (dk_at dksX1_relent_4 18 rfl rfl)
theorem dX1_relent_109 : decode cX1_relent 109 = .ok (.iload_n 1, 1) := dk_27 (dk_at dksX1_relent_4 19 rfl rfl)
theorem dX1_relent_110 : decode cX1_relent 110 = .ok (.putfield 67, 3) := dk_181 0 67 (dk_at dksX1_relent_4 20 rfl rfl)
theorem dX1_relent_113 : decode cX1_relent 113 = .ok (.iload_n 1, 1) := dk_27 (dk_at dksX1_relent_4 23 rfl rfl)
theorem dX1_relent_114 : decode cX1_relent 114 = .ok (.invokestatic 215, 3) := dk_184 0 215 (dk_at dksX1_relent_5 0 rfl rfl)
theorem dX1_relent_117 : decode cX1_relent 117 = .ok (.ireturn, 1) := dk_172 (dk_at dksX1_relent_5 3 rfl rfl)
abbrev cX1_game : ByteArray := prog_10_method_84_code
def yX1_game : MethodName := ⟨RX1, "game", "(I)I"⟩
def dkwX1_game_1 : List UInt8 := [42, 27, 182, 1, 1, 42, 180, 0, 50, 3, 51, 153, 0, 7, 4, 167, 0, 4, 3, 172]
abbrev dktX1_game_1 : List UInt8 := dkwX1_game_1 ++ []
def dkwX1_game_0 : List UInt8 := [27, 133, 9, 20, 0, 76, 184, 0, 72, 154, 0, 5, 2, 172, 42, 180, 0, 147, 154, 0, 6, 16, 252, 172]
abbrev dktX1_game_0 : List UInt8 := dkwX1_game_0 ++ dktX1_game_1
theorem dksX1_game_0 : cX1_game.data.toList.drop 0 = dktX1_game_0 := by decide +kernel
theorem dksX1_game_1 : cX1_game.data.toList.drop 24 = dktX1_game_1 := dk_seg dksX1_game_0 24 rfl rfl
theorem dX1_game_0 : decode cX1_game 0 = .ok (.iload_n 1, 1) := dk_27 (dk_at dksX1_game_0 0 rfl rfl)
theorem dX1_game_1 : decode cX1_game 1 = .ok (.i2l, 1) := dk_133 (dk_at dksX1_game_0 1 rfl rfl)
theorem dX1_game_2 : decode cX1_game 2 = .ok (.lconst 0, 1) := dk_9 (dk_at dksX1_game_0 2 rfl rfl)
theorem dX1_game_3 : decode cX1_game 3 = .ok (.ldc2_w 76, 3) := dk_20 0 76 (dk_at dksX1_game_0 3 rfl rfl)
theorem dX1_game_6 : decode cX1_game 6 = .ok (.invokestatic 72, 3) := dk_184 0 72 (dk_at dksX1_game_0 6 rfl rfl)
theorem dX1_game_9 : decode cX1_game 9 = .ok (.ifCond .ne 5, 3) := dk_154 0 5 (dk_at dksX1_game_0 9 rfl rfl)
theorem dX1_game_12 : decode cX1_game 12 = .ok (.iconst (-1), 1) := dk_2 (dk_at dksX1_game_0 12 rfl rfl)
theorem dX1_game_13 : decode cX1_game 13 = .ok (.ireturn, 1) := dk_172 (dk_at dksX1_game_0 13 rfl rfl)
theorem dX1_game_14 : decode cX1_game 14 = .ok (.aload_n 0, 1) := dk_42 (dk_at dksX1_game_0 14 rfl rfl)
theorem dX1_game_15 : decode cX1_game 15 = .ok (.getfield 147, 3) := dk_180 0 147 (dk_at dksX1_game_0 15 rfl rfl)
theorem dX1_game_18 : decode cX1_game 18 = .ok (.ifCond .ne 6, 3) := dk_154 0 6 (dk_at dksX1_game_0 18 rfl rfl)
theorem dX1_game_21 : decode cX1_game 21 = .ok (.bipush (-4), 2) := dk_16 252 (dk_at dksX1_game_0 21 rfl rfl)
theorem dX1_game_23 : decode cX1_game 23 = .ok (.ireturn, 1) := dk_172 (dk_at dksX1_game_0 23 rfl rfl)
theorem dX1_game_24 : decode cX1_game 24 = .ok (.aload_n 0, 1) := dk_42 (dk_at dksX1_game_1 0 rfl rfl)
theorem dX1_game_25 : decode cX1_game 25 = .ok (.iload_n 1, 1) := dk_27 (dk_at dksX1_game_1 1 rfl rfl)
theorem dX1_game_26 : decode cX1_game 26 = .ok (.invokevirtual 257, 3) := dk_182 1 1 (dk_at dksX1_game_1 2 rfl rfl)
theorem dX1_game_29 : decode cX1_game 29 = .ok (.aload_n 0, 1) := dk_42 (dk_at dksX1_game_1 5 rfl rfl)
theorem dX1_game_30 : decode cX1_game 30 = .ok (.getfield 50, 3) := dk_180 0 50 (dk_at dksX1_game_1 6 rfl rfl)
theorem dX1_game_33 : decode cX1_game 33 = .ok (.iconst 0, 1) := dk_3 (dk_at dksX1_game_1 9 rfl rfl)
theorem dX1_game_34 : decode cX1_game 34 = .ok (.baload, 1) := dk_51 (dk_at dksX1_game_1 10 rfl rfl)
theorem dX1_game_35 : decode cX1_game 35 = .ok (.ifCond .eq 7, 3) := dk_153 0 7 (dk_at dksX1_game_1 11 rfl rfl)
theorem dX1_game_38 : decode cX1_game 38 = .ok (.iconst 1, 1) := dk_4 (dk_at dksX1_game_1 14 rfl rfl)
theorem dX1_game_39 : decode cX1_game 39 = .ok (.goto 4, 3) := dk_167 0 4 (dk_at dksX1_game_1 15 rfl rfl)
theorem dX1_game_42 : decode cX1_game 42 = .ok (.iconst 0, 1) := dk_3 (dk_at dksX1_game_1 18 rfl rfl)
theorem dX1_game_43 : decode cX1_game 43 = .ok (.ireturn, 1) := dk_172 (dk_at dksX1_game_1 19 rfl rfl)
abbrev cX1_layGame : ByteArray := prog_10_method_83_code
def yX1_layGame : MethodName := ⟨RX1, "layGame", "(I)V"⟩
def dkwX1_layGame_3 : List UInt8 := [42, 182, 0, 254, 132, 2, 1, 167, 255, 244, 177]
abbrev dktX1_layGame_3 : List UInt8 := dkwX1_layGame_3 ++ []
def dkwX1_layGame_2 : List UInt8 := [167, 0, 4, 3, 84, 132, 3, 1, 167, 255, 217, 132, 2, 1, 167, 255, 199, 3, 61, 28, 27, 162, 0, 13]
abbrev dktX1_layGame_2 : List UInt8 := dkwX1_layGame_2 ++ dktX1_layGame_3
def dkwX1_layGame_1 : List UInt8 := [180, 0, 50, 16, 64, 28, 104, 29, 96, 28, 42, 29, 182, 0, 185, 2, 130, 126, 154, 0, 7, 4]
abbrev dktX1_layGame_1 : List UInt8 := dkwX1_layGame_1 ++ dktX1_layGame_2
def dkwX1_layGame_0 : List UInt8 := [3, 61, 28, 4, 42, 180, 0, 60, 120, 162, 0, 53, 3, 62, 29, 42, 182, 0, 150, 162, 0, 37, 42]
abbrev dktX1_layGame_0 : List UInt8 := dkwX1_layGame_0 ++ dktX1_layGame_1
theorem dksX1_layGame_0 : cX1_layGame.data.toList.drop 0 = dktX1_layGame_0 := by decide +kernel
theorem dksX1_layGame_1 : cX1_layGame.data.toList.drop 23 = dktX1_layGame_1 := dk_seg dksX1_layGame_0 23 rfl rfl
theorem dksX1_layGame_2 : cX1_layGame.data.toList.drop 45 = dktX1_layGame_2 := dk_seg dksX1_layGame_1 22 rfl rfl
theorem dksX1_layGame_3 : cX1_layGame.data.toList.drop 69 = dktX1_layGame_3 := dk_seg dksX1_layGame_2 24 rfl rfl
theorem dX1_layGame_0 : decode cX1_layGame 0 = .ok (.iconst 0, 1) := dk_3 (dk_at dksX1_layGame_0 0 rfl rfl)
theorem dX1_layGame_1 : decode cX1_layGame 1 = .ok (.istore_n 2, 1) := dk_61 (dk_at dksX1_layGame_0 1 rfl rfl)
theorem dX1_layGame_2 : decode cX1_layGame 2 = .ok (.iload_n 2, 1) := dk_28 (dk_at dksX1_layGame_0 2 rfl rfl)
theorem dX1_layGame_3 : decode cX1_layGame 3 = .ok (.iconst 1, 1) := dk_4 (dk_at dksX1_layGame_0 3 rfl rfl)
theorem dX1_layGame_4 : decode cX1_layGame 4 = .ok (.aload_n 0, 1) := dk_42 (dk_at dksX1_layGame_0 4 rfl rfl)
theorem dX1_layGame_5 : decode cX1_layGame 5 = .ok (.getfield 60, 3) := dk_180 0 60 (dk_at dksX1_layGame_0 5 rfl rfl)
theorem dX1_layGame_8 : decode cX1_layGame 8 = .ok (.ishl, 1) := dk_120 (dk_at dksX1_layGame_0 8 rfl rfl)
theorem dX1_layGame_9 : decode cX1_layGame 9 = .ok (.if_icmp .ge 53, 3) := dk_162 0 53 (dk_at dksX1_layGame_0 9 rfl rfl)
theorem dX1_layGame_12 : decode cX1_layGame 12 = .ok (.iconst 0, 1) := dk_3 (dk_at dksX1_layGame_0 12 rfl rfl)
theorem dX1_layGame_13 : decode cX1_layGame 13 = .ok (.istore_n 3, 1) := dk_62 (dk_at dksX1_layGame_0 13 rfl rfl)
theorem dX1_layGame_14 : decode cX1_layGame 14 = .ok (.iload_n 3, 1) := dk_29 (dk_at dksX1_layGame_0 14 rfl rfl)
theorem dX1_layGame_15 : decode cX1_layGame 15 = .ok (.aload_n 0, 1) := dk_42 (dk_at dksX1_layGame_0 15 rfl rfl)
theorem dX1_layGame_16 : decode cX1_layGame 16 = .ok (.invokevirtual 150, 3) := dk_182 0 150 (dk_at dksX1_layGame_0 16 rfl rfl)
theorem dX1_layGame_19 : decode cX1_layGame 19 = .ok (.if_icmp .ge 37, 3) := dk_162 0 37 (dk_at dksX1_layGame_0 19 rfl rfl)
theorem dX1_layGame_22 : decode cX1_layGame 22 = .ok (.aload_n 0, 1) := dk_42 (dk_at dksX1_layGame_0 22 rfl rfl)
theorem dX1_layGame_23 : decode cX1_layGame 23 = .ok (.getfield 50, 3) := dk_180 0 50 (dk_at dksX1_layGame_1 0 rfl rfl)
theorem dX1_layGame_26 : decode cX1_layGame 26 = .ok (.bipush 64, 2) := dk_16 64 (dk_at dksX1_layGame_1 3 rfl rfl)
theorem dX1_layGame_28 : decode cX1_layGame 28 = .ok (.iload_n 2, 1) := dk_28 (dk_at dksX1_layGame_1 5 rfl rfl)
theorem dX1_layGame_29 : decode cX1_layGame 29 = .ok (.imul, 1) := dk_104 (dk_at dksX1_layGame_1 6 rfl rfl)
theorem dX1_layGame_30 : decode cX1_layGame 30 = .ok (.iload_n 3, 1) := dk_29 (dk_at dksX1_layGame_1 7 rfl rfl)
theorem dX1_layGame_31 : decode cX1_layGame 31 = .ok (.iadd, 1) := dk_96 (dk_at dksX1_layGame_1 8 rfl rfl)
theorem dX1_layGame_32 : decode cX1_layGame 32 = .ok (.iload_n 2, 1) := dk_28 (dk_at dksX1_layGame_1 9 rfl rfl)
theorem dX1_layGame_33 : decode cX1_layGame 33 = .ok (.aload_n 0, 1) := dk_42 (dk_at dksX1_layGame_1 10 rfl rfl)
theorem dX1_layGame_34 : decode cX1_layGame 34 = .ok (.iload_n 3, 1) := dk_29 (dk_at dksX1_layGame_1 11 rfl rfl)
theorem dX1_layGame_35 : decode cX1_layGame 35 = .ok (.invokevirtual 185, 3) := dk_182 0 185 (dk_at dksX1_layGame_1 12 rfl rfl)
theorem dX1_layGame_38 : decode cX1_layGame 38 = .ok (.iconst (-1), 1) := dk_2 (dk_at dksX1_layGame_1 15 rfl rfl)
theorem dX1_layGame_39 : decode cX1_layGame 39 = .ok (.ixor, 1) := dk_130 (dk_at dksX1_layGame_1 16 rfl rfl)
theorem dX1_layGame_40 : decode cX1_layGame 40 = .ok (.iand, 1) := dk_126 (dk_at dksX1_layGame_1 17 rfl rfl)
theorem dX1_layGame_41 : decode cX1_layGame 41 = .ok (.ifCond .ne 7, 3) := dk_154 0 7 (dk_at dksX1_layGame_1 18 rfl rfl)
theorem dX1_layGame_44 : decode cX1_layGame 44 = .ok (.iconst 1, 1) := dk_4 (dk_at dksX1_layGame_1 21 rfl rfl)
theorem dX1_layGame_45 : decode cX1_layGame 45 = .ok (.goto 4, 3) := dk_167 0 4 (dk_at dksX1_layGame_2 0 rfl rfl)
theorem dX1_layGame_48 : decode cX1_layGame 48 = .ok (.iconst 0, 1) := dk_3 (dk_at dksX1_layGame_2 3 rfl rfl)
theorem dX1_layGame_49 : decode cX1_layGame 49 = .ok (.bastore, 1) := dk_84 (dk_at dksX1_layGame_2 4 rfl rfl)
theorem dX1_layGame_50 : decode cX1_layGame 50 = .ok (.iinc 3 1, 3) := dk_132 3 1 (dk_at dksX1_layGame_2 5 rfl rfl)
theorem dX1_layGame_53 : decode cX1_layGame 53 = .ok (.goto (-39), 3) := dk_167 255 217 (dk_at dksX1_layGame_2 8 rfl rfl)
theorem dX1_layGame_56 : decode cX1_layGame 56 = .ok (.iinc 2 1, 3) := dk_132 2 1 (dk_at dksX1_layGame_2 11 rfl rfl)
theorem dX1_layGame_59 : decode cX1_layGame 59 = .ok (.goto (-57), 3) := dk_167 255 199 (dk_at dksX1_layGame_2 14 rfl rfl)
theorem dX1_layGame_62 : decode cX1_layGame 62 = .ok (.iconst 0, 1) := dk_3 (dk_at dksX1_layGame_2 17 rfl rfl)
theorem dX1_layGame_63 : decode cX1_layGame 63 = .ok (.istore_n 2, 1) := dk_61 (dk_at dksX1_layGame_2 18 rfl rfl)
theorem dX1_layGame_64 : decode cX1_layGame 64 = .ok (.iload_n 2, 1) := dk_28 (dk_at dksX1_layGame_2 19 rfl rfl)
theorem dX1_layGame_65 : decode cX1_layGame 65 = .ok (.iload_n 1, 1) := dk_27 (dk_at dksX1_layGame_2 20 rfl rfl)
theorem dX1_layGame_66 : decode cX1_layGame 66 = .ok (.if_icmp .ge 13, 3) := dk_162 0 13 (dk_at dksX1_layGame_2 21 rfl rfl)
theorem dX1_layGame_69 : decode cX1_layGame 69 = .ok (.aload_n 0, 1) := dk_42 (dk_at dksX1_layGame_3 0 rfl rfl)
theorem dX1_layGame_70 : decode cX1_layGame 70 = .ok (.invokevirtual 254, 3) := dk_182 0 254 (dk_at dksX1_layGame_3 1 rfl rfl)
theorem dX1_layGame_73 : decode cX1_layGame 73 = .ok (.iinc 2 1, 3) := dk_132 2 1 (dk_at dksX1_layGame_3 4 rfl rfl)
theorem dX1_layGame_76 : decode cX1_layGame 76 = .ok (.goto (-12), 3) := dk_167 255 244 (dk_at dksX1_layGame_3 7 rfl rfl)
theorem dX1_layGame_79 : decode cX1_layGame 79 = .ok (.return_, 1) := dk_177 (dk_at dksX1_layGame_3 10 rfl rfl)
abbrev cX1_layTurn : ByteArray := prog_10_method_82_code
def yX1_layTurn : MethodName := ⟨RX1, "layTurn", "()V"⟩
def dkwX1_layTurn_3 : List UInt8 := [27, 51, 84, 132, 1, 1, 167, 255, 234, 177]
abbrev dktX1_layTurn_3 : List UInt8 := dkwX1_layTurn_3 ++ []
def dkwX1_layTurn_2 : List UInt8 := [132, 1, 1, 167, 255, 210, 3, 60, 27, 17, 64, 0, 162, 0, 21, 42, 180, 0, 50, 27, 42, 180, 0, 54]
abbrev dktX1_layTurn_2 : List UInt8 := dkwX1_layTurn_2 ++ dktX1_layTurn_3
def dkwX1_layTurn_1 : List UInt8 := [180, 0, 54, 16, 64, 27, 104, 28, 96, 42, 27, 28, 182, 0, 251, 84, 132, 2, 1, 167, 255, 228]
abbrev dktX1_layTurn_1 : List UInt8 := dkwX1_layTurn_1 ++ dktX1_layTurn_2
def dkwX1_layTurn_0 : List UInt8 := [3, 60, 27, 4, 42, 180, 0, 60, 120, 162, 0, 42, 3, 61, 28, 42, 182, 0, 150, 162, 0, 26, 42]
abbrev dktX1_layTurn_0 : List UInt8 := dkwX1_layTurn_0 ++ dktX1_layTurn_1
theorem dksX1_layTurn_0 : cX1_layTurn.data.toList.drop 0 = dktX1_layTurn_0 := by decide +kernel
theorem dksX1_layTurn_1 : cX1_layTurn.data.toList.drop 23 = dktX1_layTurn_1 := dk_seg dksX1_layTurn_0 23 rfl rfl
theorem dksX1_layTurn_2 : cX1_layTurn.data.toList.drop 45 = dktX1_layTurn_2 := dk_seg dksX1_layTurn_1 22 rfl rfl
theorem dksX1_layTurn_3 : cX1_layTurn.data.toList.drop 69 = dktX1_layTurn_3 := dk_seg dksX1_layTurn_2 24 rfl rfl
theorem dX1_layTurn_0 : decode cX1_layTurn 0 = .ok (.iconst 0, 1) := dk_3 (dk_at dksX1_layTurn_0 0 rfl rfl)
theorem dX1_layTurn_1 : decode cX1_layTurn 1 = .ok (.istore_n 1, 1) := dk_60 (dk_at dksX1_layTurn_0 1 rfl rfl)
theorem dX1_layTurn_2 : decode cX1_layTurn 2 = .ok (.iload_n 1, 1) := dk_27 (dk_at dksX1_layTurn_0 2 rfl rfl)
theorem dX1_layTurn_3 : decode cX1_layTurn 3 = .ok (.iconst 1, 1) := dk_4 (dk_at dksX1_layTurn_0 3 rfl rfl)
theorem dX1_layTurn_4 : decode cX1_layTurn 4 = .ok (.aload_n 0, 1) := dk_42 (dk_at dksX1_layTurn_0 4 rfl rfl)
theorem dX1_layTurn_5 : decode cX1_layTurn 5 = .ok (.getfield 60, 3) := dk_180 0 60 (dk_at dksX1_layTurn_0 5 rfl rfl)
theorem dX1_layTurn_8 : decode cX1_layTurn 8 = .ok (.ishl, 1) := dk_120 (dk_at dksX1_layTurn_0 8 rfl rfl)
theorem dX1_layTurn_9 : decode cX1_layTurn 9 = .ok (.if_icmp .ge 42, 3) := dk_162 0 42 (dk_at dksX1_layTurn_0 9 rfl rfl)
theorem dX1_layTurn_12 : decode cX1_layTurn 12 = .ok (.iconst 0, 1) := dk_3 (dk_at dksX1_layTurn_0 12 rfl rfl)
theorem dX1_layTurn_13 : decode cX1_layTurn 13 = .ok (.istore_n 2, 1) := dk_61 (dk_at dksX1_layTurn_0 13 rfl rfl)
theorem dX1_layTurn_14 : decode cX1_layTurn 14 = .ok (.iload_n 2, 1) := dk_28 (dk_at dksX1_layTurn_0 14 rfl rfl)
theorem dX1_layTurn_15 : decode cX1_layTurn 15 = .ok (.aload_n 0, 1) := dk_42 (dk_at dksX1_layTurn_0 15 rfl rfl)
theorem dX1_layTurn_16 : decode cX1_layTurn 16 = .ok (.invokevirtual 150, 3) := dk_182 0 150 (dk_at dksX1_layTurn_0 16 rfl rfl)
theorem dX1_layTurn_19 : decode cX1_layTurn 19 = .ok (.if_icmp .ge 26, 3) := dk_162 0 26 (dk_at dksX1_layTurn_0 19 rfl rfl)
theorem dX1_layTurn_22 : decode cX1_layTurn 22 = .ok (.aload_n 0, 1) := dk_42 (dk_at dksX1_layTurn_0 22 rfl rfl)
theorem dX1_layTurn_23 : decode cX1_layTurn 23 = .ok (.getfield 54, 3) := dk_180 0 54 (dk_at dksX1_layTurn_1 0 rfl rfl)
theorem dX1_layTurn_26 : decode cX1_layTurn 26 = .ok (.bipush 64, 2) := dk_16 64 (dk_at dksX1_layTurn_1 3 rfl rfl)
theorem dX1_layTurn_28 : decode cX1_layTurn 28 = .ok (.iload_n 1, 1) := dk_27 (dk_at dksX1_layTurn_1 5 rfl rfl)
theorem dX1_layTurn_29 : decode cX1_layTurn 29 = .ok (.imul, 1) := dk_104 (dk_at dksX1_layTurn_1 6 rfl rfl)
theorem dX1_layTurn_30 : decode cX1_layTurn 30 = .ok (.iload_n 2, 1) := dk_28 (dk_at dksX1_layTurn_1 7 rfl rfl)
theorem dX1_layTurn_31 : decode cX1_layTurn 31 = .ok (.iadd, 1) := dk_96 (dk_at dksX1_layTurn_1 8 rfl rfl)
theorem dX1_layTurn_32 : decode cX1_layTurn 32 = .ok (.aload_n 0, 1) := dk_42 (dk_at dksX1_layTurn_1 9 rfl rfl)
theorem dX1_layTurn_33 : decode cX1_layTurn 33 = .ok (.iload_n 1, 1) := dk_27 (dk_at dksX1_layTurn_1 10 rfl rfl)
theorem dX1_layTurn_34 : decode cX1_layTurn 34 = .ok (.iload_n 2, 1) := dk_28 (dk_at dksX1_layTurn_1 11 rfl rfl)
theorem dX1_layTurn_35 : decode cX1_layTurn 35 = .ok (.invokevirtual 251, 3) := dk_182 0 251 (dk_at dksX1_layTurn_1 12 rfl rfl)
theorem dX1_layTurn_38 : decode cX1_layTurn 38 = .ok (.bastore, 1) := dk_84 (dk_at dksX1_layTurn_1 15 rfl rfl)
theorem dX1_layTurn_39 : decode cX1_layTurn 39 = .ok (.iinc 2 1, 3) := dk_132 2 1 (dk_at dksX1_layTurn_1 16 rfl rfl)
theorem dX1_layTurn_42 : decode cX1_layTurn 42 = .ok (.goto (-28), 3) := dk_167 255 228 (dk_at dksX1_layTurn_1 19 rfl rfl)
theorem dX1_layTurn_45 : decode cX1_layTurn 45 = .ok (.iinc 1 1, 3) := dk_132 1 1 (dk_at dksX1_layTurn_2 0 rfl rfl)
theorem dX1_layTurn_48 : decode cX1_layTurn 48 = .ok (.goto (-46), 3) := dk_167 255 210 (dk_at dksX1_layTurn_2 3 rfl rfl)
theorem dX1_layTurn_51 : decode cX1_layTurn 51 = .ok (.iconst 0, 1) := dk_3 (dk_at dksX1_layTurn_2 6 rfl rfl)
theorem dX1_layTurn_52 : decode cX1_layTurn 52 = .ok (.istore_n 1, 1) := dk_60 (dk_at dksX1_layTurn_2 7 rfl rfl)
theorem dX1_layTurn_53 : decode cX1_layTurn 53 = .ok (.iload_n 1, 1) := dk_27 (dk_at dksX1_layTurn_2 8 rfl rfl)
theorem dX1_layTurn_54 : decode cX1_layTurn 54 = .ok (.sipush 16384, 3) := dk_17 64 0 (dk_at dksX1_layTurn_2 9 rfl rfl)
theorem dX1_layTurn_57 : decode cX1_layTurn 57 = .ok (.if_icmp .ge 21, 3) := dk_162 0 21 (dk_at dksX1_layTurn_2 12 rfl rfl)
theorem dX1_layTurn_60 : decode cX1_layTurn 60 = .ok (.aload_n 0, 1) := dk_42 (dk_at dksX1_layTurn_2 15 rfl rfl)
theorem dX1_layTurn_61 : decode cX1_layTurn 61 = .ok (.getfield 50, 3) := dk_180 0 50 (dk_at dksX1_layTurn_2 16 rfl rfl)
theorem dX1_layTurn_64 : decode cX1_layTurn 64 = .ok (.iload_n 1, 1) := dk_27 (dk_at dksX1_layTurn_2 19 rfl rfl)
theorem dX1_layTurn_65 : decode cX1_layTurn 65 = .ok (.aload_n 0, 1) := dk_42 (dk_at dksX1_layTurn_2 20 rfl rfl)
theorem dX1_layTurn_66 : decode cX1_layTurn 66 = .ok (.getfield 54, 3) := dk_180 0 54 (dk_at dksX1_layTurn_2 21 rfl rfl)
theorem dX1_layTurn_69 : decode cX1_layTurn 69 = .ok (.iload_n 1, 1) := dk_27 (dk_at dksX1_layTurn_3 0 rfl rfl)
theorem dX1_layTurn_70 : decode cX1_layTurn 70 = .ok (.baload, 1) := dk_51 (dk_at dksX1_layTurn_3 1 rfl rfl)
theorem dX1_layTurn_71 : decode cX1_layTurn 71 = .ok (.bastore, 1) := dk_84 (dk_at dksX1_layTurn_3 2 rfl rfl)
theorem dX1_layTurn_72 : decode cX1_layTurn 72 = .ok (.iinc 1 1, 3) := dk_132 1 1 (dk_at dksX1_layTurn_3 3 rfl rfl)
theorem dX1_layTurn_75 : decode cX1_layTurn 75 = .ok (.goto (-22), 3) := dk_167 255 234 (dk_at dksX1_layTurn_3 6 rfl rfl)
theorem dX1_layTurn_78 : decode cX1_layTurn 78 = .ok (.return_, 1) := dk_177 (dk_at dksX1_layTurn_3 9 rfl rfl)
abbrev cX1_withstands : ByteArray := prog_10_method_81_code
def yX1_withstands : MethodName := ⟨RX1, "withstands", "(II)Z"⟩
def dkwX1_withstands_3 : List UInt8 := [3, 54, 4, 132, 5, 1, 167, 255, 209, 21, 4, 172]
abbrev dktX1_withstands_3 : List UInt8 := dkwX1_withstands_3 ++ []
def dkwX1_withstands_2 : List UInt8 := [184, 0, 153, 153, 0, 17, 42, 27, 4, 21, 5, 120, 128, 28, 182, 0, 248, 153, 0, 7, 4, 167, 0, 4]
abbrev dktX1_withstands_2 : List UInt8 := dkwX1_withstands_2 ++ dktX1_withstands_3
def dkwX1_withstands_1 : List UInt8 := [54, 4, 3, 54, 5, 21, 5, 42, 180, 0, 60, 162, 0, 44, 21, 4, 153, 0, 30, 29, 21, 5]
abbrev dktX1_withstands_1 : List UInt8 := dkwX1_withstands_1 ++ dktX1_withstands_2
def dkwX1_withstands_0 : List UInt8 := [42, 180, 0, 7, 4, 46, 27, 2, 130, 126, 62, 29, 154, 0, 10, 42, 27, 28, 182, 0, 248, 172, 4]
abbrev dktX1_withstands_0 : List UInt8 := dkwX1_withstands_0 ++ dktX1_withstands_1
theorem dksX1_withstands_0 : cX1_withstands.data.toList.drop 0 = dktX1_withstands_0 := by decide +kernel
theorem dksX1_withstands_1 : cX1_withstands.data.toList.drop 23 = dktX1_withstands_1 := dk_seg dksX1_withstands_0 23 rfl rfl
theorem dksX1_withstands_2 : cX1_withstands.data.toList.drop 45 = dktX1_withstands_2 := dk_seg dksX1_withstands_1 22 rfl rfl
theorem dksX1_withstands_3 : cX1_withstands.data.toList.drop 69 = dktX1_withstands_3 := dk_seg dksX1_withstands_2 24 rfl rfl
theorem dX1_withstands_0 : decode cX1_withstands 0 = .ok (.aload_n 0, 1) := dk_42 (dk_at dksX1_withstands_0 0 rfl rfl)
theorem dX1_withstands_1 : decode cX1_withstands 1 = .ok (.getfield 7, 3) := dk_180 0 7 (dk_at dksX1_withstands_0 1 rfl rfl)
theorem dX1_withstands_4 : decode cX1_withstands 4 = .ok (.iconst 1, 1) := dk_4 (dk_at dksX1_withstands_0 4 rfl rfl)
theorem dX1_withstands_5 : decode cX1_withstands 5 = .ok (.iaload, 1) := dk_46 (dk_at dksX1_withstands_0 5 rfl rfl)
theorem dX1_withstands_6 : decode cX1_withstands 6 = .ok (.iload_n 1, 1) := dk_27 (dk_at dksX1_withstands_0 6 rfl rfl)
theorem dX1_withstands_7 : decode cX1_withstands 7 = .ok (.iconst (-1), 1) := dk_2 (dk_at dksX1_withstands_0 7 rfl rfl)
theorem dX1_withstands_8 : decode cX1_withstands 8 = .ok (.ixor, 1) := dk_130 (dk_at dksX1_withstands_0 8 rfl rfl)
theorem dX1_withstands_9 : decode cX1_withstands 9 = .ok (.iand, 1) := dk_126 (dk_at dksX1_withstands_0 9 rfl rfl)
theorem dX1_withstands_10 : decode cX1_withstands 10 = .ok (.istore_n 3, 1) := dk_62 (dk_at dksX1_withstands_0 10 rfl rfl)
theorem dX1_withstands_11 : decode cX1_withstands 11 = .ok (.iload_n 3, 1) := dk_29 (dk_at dksX1_withstands_0 11 rfl rfl)
theorem dX1_withstands_12 : decode cX1_withstands 12 = .ok (.ifCond .ne 10, 3) := dk_154 0 10 (dk_at dksX1_withstands_0 12 rfl rfl)
theorem dX1_withstands_15 : decode cX1_withstands 15 = .ok (.aload_n 0, 1) := dk_42 (dk_at dksX1_withstands_0 15 rfl rfl)
theorem dX1_withstands_16 : decode cX1_withstands 16 = .ok (.iload_n 1, 1) := dk_27 (dk_at dksX1_withstands_0 16 rfl rfl)
theorem dX1_withstands_17 : decode cX1_withstands 17 = .ok (.iload_n 2, 1) := dk_28 (dk_at dksX1_withstands_0 17 rfl rfl)
theorem dX1_withstands_18 : decode cX1_withstands 18 = .ok (.invokevirtual 248, 3) := dk_182 0 248 (dk_at dksX1_withstands_0 18 rfl rfl)
theorem dX1_withstands_21 : decode cX1_withstands 21 = .ok (.ireturn, 1) := dk_172 (dk_at dksX1_withstands_0 21 rfl rfl)
theorem dX1_withstands_22 : decode cX1_withstands 22 = .ok (.iconst 1, 1) := dk_4 (dk_at dksX1_withstands_0 22 rfl rfl)
theorem dX1_withstands_23 : decode cX1_withstands 23 = .ok (.istore 4, 2) := dk_54 4 (dk_at dksX1_withstands_1 0 rfl rfl)
theorem dX1_withstands_25 : decode cX1_withstands 25 = .ok (.iconst 0, 1) := dk_3 (dk_at dksX1_withstands_1 2 rfl rfl)
theorem dX1_withstands_26 : decode cX1_withstands 26 = .ok (.istore 5, 2) := dk_54 5 (dk_at dksX1_withstands_1 3 rfl rfl)
theorem dX1_withstands_28 : decode cX1_withstands 28 = .ok (.iload 5, 2) := dk_21 5 (dk_at dksX1_withstands_1 5 rfl rfl)
theorem dX1_withstands_30 : decode cX1_withstands 30 = .ok (.aload_n 0, 1) := dk_42 (dk_at dksX1_withstands_1 7 rfl rfl)
theorem dX1_withstands_31 : decode cX1_withstands 31 = .ok (.getfield 60, 3) := dk_180 0 60 (dk_at dksX1_withstands_1 8 rfl rfl)
theorem dX1_withstands_34 : decode cX1_withstands 34 = .ok (.if_icmp .ge 44, 3) := dk_162 0 44 (dk_at dksX1_withstands_1 11 rfl rfl)
theorem dX1_withstands_37 : decode cX1_withstands 37 = .ok (.iload 4, 2) := dk_21 4 (dk_at dksX1_withstands_1 14 rfl rfl)
theorem dX1_withstands_39 : decode cX1_withstands 39 = .ok (.ifCond .eq 30, 3) := dk_153 0 30 (dk_at dksX1_withstands_1 16 rfl rfl)
theorem dX1_withstands_42 : decode cX1_withstands 42 = .ok (.iload_n 3, 1) := dk_29 (dk_at dksX1_withstands_1 19 rfl rfl)
theorem dX1_withstands_43 : decode cX1_withstands 43 = .ok (.iload 5, 2) := dk_21 5 (dk_at dksX1_withstands_1 20 rfl rfl)
theorem dX1_withstands_45 : decode cX1_withstands 45 = .ok (.invokestatic 153, 3) := dk_184 0 153 (dk_at dksX1_withstands_2 0 rfl rfl)
theorem dX1_withstands_48 : decode cX1_withstands 48 = .ok (.ifCond .eq 17, 3) := dk_153 0 17 (dk_at dksX1_withstands_2 3 rfl rfl)
theorem dX1_withstands_51 : decode cX1_withstands 51 = .ok (.aload_n 0, 1) := dk_42 (dk_at dksX1_withstands_2 6 rfl rfl)
theorem dX1_withstands_52 : decode cX1_withstands 52 = .ok (.iload_n 1, 1) := dk_27 (dk_at dksX1_withstands_2 7 rfl rfl)
theorem dX1_withstands_53 : decode cX1_withstands 53 = .ok (.iconst 1, 1) := dk_4 (dk_at dksX1_withstands_2 8 rfl rfl)
theorem dX1_withstands_54 : decode cX1_withstands 54 = .ok (.iload 5, 2) := dk_21 5 (dk_at dksX1_withstands_2 9 rfl rfl)
theorem dX1_withstands_56 : decode cX1_withstands 56 = .ok (.ishl, 1) := dk_120 (dk_at dksX1_withstands_2 11 rfl rfl)
theorem dX1_withstands_57 : decode cX1_withstands 57 = .ok (.ior, 1) := dk_128 (dk_at dksX1_withstands_2 12 rfl rfl)
theorem dX1_withstands_58 : decode cX1_withstands 58 = .ok (.iload_n 2, 1) := dk_28 (dk_at dksX1_withstands_2 13 rfl rfl)
theorem dX1_withstands_59 : decode cX1_withstands 59 = .ok (.invokevirtual 248, 3) := dk_182 0 248 (dk_at dksX1_withstands_2 14 rfl rfl)
theorem dX1_withstands_62 : decode cX1_withstands 62 = .ok (.ifCond .eq 7, 3) := dk_153 0 7 (dk_at dksX1_withstands_2 17 rfl rfl)
theorem dX1_withstands_65 : decode cX1_withstands 65 = .ok (.iconst 1, 1) := dk_4 (dk_at dksX1_withstands_2 20 rfl rfl)
theorem dX1_withstands_66 : decode cX1_withstands 66 = .ok (.goto 4, 3) := dk_167 0 4 (dk_at dksX1_withstands_2 21 rfl rfl)
theorem dX1_withstands_69 : decode cX1_withstands 69 = .ok (.iconst 0, 1) := dk_3 (dk_at dksX1_withstands_3 0 rfl rfl)
theorem dX1_withstands_70 : decode cX1_withstands 70 = .ok (.istore 4, 2) := dk_54 4 (dk_at dksX1_withstands_3 1 rfl rfl)
theorem dX1_withstands_72 : decode cX1_withstands 72 = .ok (.iinc 5 1, 3) := dk_132 5 1 (dk_at dksX1_withstands_3 3 rfl rfl)
theorem dX1_withstands_75 : decode cX1_withstands 75 = .ok (.goto (-47), 3) := dk_167 255 209 (dk_at dksX1_withstands_3 6 rfl rfl)
theorem dX1_withstands_78 : decode cX1_withstands 78 = .ok (.iload 4, 2) := dk_21 4 (dk_at dksX1_withstands_3 9 rfl rfl)
theorem dX1_withstands_80 : decode cX1_withstands 80 = .ok (.ireturn, 1) := dk_172 (dk_at dksX1_withstands_3 11 rfl rfl)
abbrev cX1_answers : ByteArray := prog_10_method_80_code
def yX1_answers : MethodName := ⟨RX1, "answers", "(II)Z"⟩
def dkwX1_answers_2 : List UInt8 := [21, 4, 120, 128, 96, 51, 153, 0, 7, 4, 167, 0, 4, 3, 62, 132, 4, 1, 167, 255, 206, 29, 172]
abbrev dktX1_answers_2 : List UInt8 := dkwX1_answers_2 ++ []
def dkwX1_answers_1 : List UInt8 := [29, 154, 0, 31, 28, 21, 4, 184, 0, 153, 154, 0, 26, 42, 180, 0, 50, 16, 64, 27, 104, 28, 4]
abbrev dktX1_answers_1 : List UInt8 := dkwX1_answers_1 ++ dktX1_answers_2
def dkwX1_answers_0 : List UInt8 := [42, 180, 0, 50, 16, 64, 27, 104, 28, 96, 51, 62, 3, 54, 4, 21, 4, 42, 180, 0, 147, 162, 0, 47]
abbrev dktX1_answers_0 : List UInt8 := dkwX1_answers_0 ++ dktX1_answers_1
theorem dksX1_answers_0 : cX1_answers.data.toList.drop 0 = dktX1_answers_0 := by decide +kernel
theorem dksX1_answers_1 : cX1_answers.data.toList.drop 24 = dktX1_answers_1 := dk_seg dksX1_answers_0 24 rfl rfl
theorem dksX1_answers_2 : cX1_answers.data.toList.drop 47 = dktX1_answers_2 := dk_seg dksX1_answers_1 23 rfl rfl
theorem dX1_answers_0 : decode cX1_answers 0 = .ok (.aload_n 0, 1) := dk_42 (dk_at dksX1_answers_0 0 rfl rfl)
theorem dX1_answers_1 : decode cX1_answers 1 = .ok (.getfield 50, 3) := dk_180 0 50 (dk_at dksX1_answers_0 1 rfl rfl)
theorem dX1_answers_4 : decode cX1_answers 4 = .ok (.bipush 64, 2) := dk_16 64 (dk_at dksX1_answers_0 4 rfl rfl)
theorem dX1_answers_6 : decode cX1_answers 6 = .ok (.iload_n 1, 1) := dk_27 (dk_at dksX1_answers_0 6 rfl rfl)
theorem dX1_answers_7 : decode cX1_answers 7 = .ok (.imul, 1) := dk_104 (dk_at dksX1_answers_0 7 rfl rfl)
theorem dX1_answers_8 : decode cX1_answers 8 = .ok (.iload_n 2, 1) := dk_28 (dk_at dksX1_answers_0 8 rfl rfl)
theorem dX1_answers_9 : decode cX1_answers 9 = .ok (.iadd, 1) := dk_96 (dk_at dksX1_answers_0 9 rfl rfl)
theorem dX1_answers_10 : decode cX1_answers 10 = .ok (.baload, 1) := dk_51 (dk_at dksX1_answers_0 10 rfl rfl)
theorem dX1_answers_11 : decode cX1_answers 11 = .ok (.istore_n 3, 1) := dk_62 (dk_at dksX1_answers_0 11 rfl rfl)
theorem dX1_answers_12 : decode cX1_answers 12 = .ok (.iconst 0, 1) := dk_3 (dk_at dksX1_answers_0 12 rfl rfl)
theorem dX1_answers_13 : decode cX1_answers 13 = .ok (.istore 4, 2) := dk_54 4 (dk_at dksX1_answers_0 13 rfl rfl)
theorem dX1_answers_15 : decode cX1_answers 15 = .ok (.iload 4, 2) := dk_21 4 (dk_at dksX1_answers_0 15 rfl rfl)
theorem dX1_answers_17 : decode cX1_answers 17 = .ok (.aload_n 0, 1) := dk_42 (dk_at dksX1_answers_0 17 rfl rfl)
theorem dX1_answers_18 : decode cX1_answers 18 = .ok (.getfield 147, 3) := dk_180 0 147 (dk_at dksX1_answers_0 18 rfl rfl)
theorem dX1_answers_21 : decode cX1_answers 21 = .ok (.if_icmp .ge 47, 3) := dk_162 0 47 (dk_at dksX1_answers_0 21 rfl rfl)
theorem dX1_answers_24 : decode cX1_answers 24 = .ok (.iload_n 3, 1) := dk_29 (dk_at dksX1_answers_1 0 rfl rfl)
theorem dX1_answers_25 : decode cX1_answers 25 = .ok (.ifCond .ne 31, 3) := dk_154 0 31 (dk_at dksX1_answers_1 1 rfl rfl)
theorem dX1_answers_28 : decode cX1_answers 28 = .ok (.iload_n 2, 1) := dk_28 (dk_at dksX1_answers_1 4 rfl rfl)
theorem dX1_answers_29 : decode cX1_answers 29 = .ok (.iload 4, 2) := dk_21 4 (dk_at dksX1_answers_1 5 rfl rfl)
theorem dX1_answers_31 : decode cX1_answers 31 = .ok (.invokestatic 153, 3) := dk_184 0 153 (dk_at dksX1_answers_1 7 rfl rfl)
theorem dX1_answers_34 : decode cX1_answers 34 = .ok (.ifCond .ne 26, 3) := dk_154 0 26 (dk_at dksX1_answers_1 10 rfl rfl)
theorem dX1_answers_37 : decode cX1_answers 37 = .ok (.aload_n 0, 1) := dk_42 (dk_at dksX1_answers_1 13 rfl rfl)
theorem dX1_answers_38 : decode cX1_answers 38 = .ok (.getfield 50, 3) := dk_180 0 50 (dk_at dksX1_answers_1 14 rfl rfl)
theorem dX1_answers_41 : decode cX1_answers 41 = .ok (.bipush 64, 2) := dk_16 64 (dk_at dksX1_answers_1 17 rfl rfl)
theorem dX1_answers_43 : decode cX1_answers 43 = .ok (.iload_n 1, 1) := dk_27 (dk_at dksX1_answers_1 19 rfl rfl)
theorem dX1_answers_44 : decode cX1_answers 44 = .ok (.imul, 1) := dk_104 (dk_at dksX1_answers_1 20 rfl rfl)
theorem dX1_answers_45 : decode cX1_answers 45 = .ok (.iload_n 2, 1) := dk_28 (dk_at dksX1_answers_1 21 rfl rfl)
theorem dX1_answers_46 : decode cX1_answers 46 = .ok (.iconst 1, 1) := dk_4 (dk_at dksX1_answers_1 22 rfl rfl)
theorem dX1_answers_47 : decode cX1_answers 47 = .ok (.iload 4, 2) := dk_21 4 (dk_at dksX1_answers_2 0 rfl rfl)
theorem dX1_answers_49 : decode cX1_answers 49 = .ok (.ishl, 1) := dk_120 (dk_at dksX1_answers_2 2 rfl rfl)
theorem dX1_answers_50 : decode cX1_answers 50 = .ok (.ior, 1) := dk_128 (dk_at dksX1_answers_2 3 rfl rfl)
theorem dX1_answers_51 : decode cX1_answers 51 = .ok (.iadd, 1) := dk_96 (dk_at dksX1_answers_2 4 rfl rfl)
theorem dX1_answers_52 : decode cX1_answers 52 = .ok (.baload, 1) := dk_51 (dk_at dksX1_answers_2 5 rfl rfl)
theorem dX1_answers_53 : decode cX1_answers 53 = .ok (.ifCond .eq 7, 3) := dk_153 0 7 (dk_at dksX1_answers_2 6 rfl rfl)
theorem dX1_answers_56 : decode cX1_answers 56 = .ok (.iconst 1, 1) := dk_4 (dk_at dksX1_answers_2 9 rfl rfl)
theorem dX1_answers_57 : decode cX1_answers 57 = .ok (.goto 4, 3) := dk_167 0 4 (dk_at dksX1_answers_2 10 rfl rfl)
theorem dX1_answers_60 : decode cX1_answers 60 = .ok (.iconst 0, 1) := dk_3 (dk_at dksX1_answers_2 13 rfl rfl)
theorem dX1_answers_61 : decode cX1_answers 61 = .ok (.istore_n 3, 1) := dk_62 (dk_at dksX1_answers_2 14 rfl rfl)
theorem dX1_answers_62 : decode cX1_answers 62 = .ok (.iinc 4 1, 3) := dk_132 4 1 (dk_at dksX1_answers_2 15 rfl rfl)
theorem dX1_answers_65 : decode cX1_answers 65 = .ok (.goto (-50), 3) := dk_167 255 206 (dk_at dksX1_answers_2 18 rfl rfl)
theorem dX1_answers_68 : decode cX1_answers 68 = .ok (.iload_n 3, 1) := dk_29 (dk_at dksX1_answers_2 21 rfl rfl)
theorem dX1_answers_69 : decode cX1_answers 69 = .ok (.ireturn, 1) := dk_172 (dk_at dksX1_answers_2 22 rfl rfl)
abbrev cX1_names : ByteArray := prog_10_method_85_code
def yX1_names : MethodName := ⟨RX1, "names", "(I)I"⟩
def dkwX1_names_3 : List UInt8 := [167, 255, 219, 16, 247, 172]
abbrev dktX1_names_3 : List UInt8 := dkwX1_names_3 ++ []
def dkwX1_names_2 : List UInt8 := [184, 0, 153, 153, 0, 16, 42, 4, 28, 120, 3, 182, 0, 248, 154, 0, 5, 28, 172, 132, 2, 1]
abbrev dktX1_names_2 : List UInt8 := dkwX1_names_2 ++ dktX1_names_3
def dkwX1_names_1 : List UInt8 := [42, 27, 4, 100, 182, 1, 1, 3, 61, 28, 42, 180, 0, 60, 162, 0, 35, 42, 180, 0, 7, 4, 46, 28]
abbrev dktX1_names_1 : List UInt8 := dkwX1_names_1 ++ dktX1_names_2
def dkwX1_names_0 : List UInt8 := [27, 133, 10, 20, 0, 76, 184, 0, 72, 154, 0, 5, 2, 172, 42, 180, 0, 147, 154, 0, 6, 16, 252, 172]
abbrev dktX1_names_0 : List UInt8 := dkwX1_names_0 ++ dktX1_names_1
theorem dksX1_names_0 : cX1_names.data.toList.drop 0 = dktX1_names_0 := by decide +kernel
theorem dksX1_names_1 : cX1_names.data.toList.drop 24 = dktX1_names_1 := dk_seg dksX1_names_0 24 rfl rfl
theorem dksX1_names_2 : cX1_names.data.toList.drop 48 = dktX1_names_2 := dk_seg dksX1_names_1 24 rfl rfl
theorem dksX1_names_3 : cX1_names.data.toList.drop 70 = dktX1_names_3 := dk_seg dksX1_names_2 22 rfl rfl
theorem dX1_names_0 : decode cX1_names 0 = .ok (.iload_n 1, 1) := dk_27 (dk_at dksX1_names_0 0 rfl rfl)
theorem dX1_names_1 : decode cX1_names 1 = .ok (.i2l, 1) := dk_133 (dk_at dksX1_names_0 1 rfl rfl)
theorem dX1_names_2 : decode cX1_names 2 = .ok (.lconst 1, 1) := dk_10 (dk_at dksX1_names_0 2 rfl rfl)
theorem dX1_names_3 : decode cX1_names 3 = .ok (.ldc2_w 76, 3) := dk_20 0 76 (dk_at dksX1_names_0 3 rfl rfl)
theorem dX1_names_6 : decode cX1_names 6 = .ok (.invokestatic 72, 3) := dk_184 0 72 (dk_at dksX1_names_0 6 rfl rfl)
theorem dX1_names_9 : decode cX1_names 9 = .ok (.ifCond .ne 5, 3) := dk_154 0 5 (dk_at dksX1_names_0 9 rfl rfl)
theorem dX1_names_12 : decode cX1_names 12 = .ok (.iconst (-1), 1) := dk_2 (dk_at dksX1_names_0 12 rfl rfl)
theorem dX1_names_13 : decode cX1_names 13 = .ok (.ireturn, 1) := dk_172 (dk_at dksX1_names_0 13 rfl rfl)
theorem dX1_names_14 : decode cX1_names 14 = .ok (.aload_n 0, 1) := dk_42 (dk_at dksX1_names_0 14 rfl rfl)
theorem dX1_names_15 : decode cX1_names 15 = .ok (.getfield 147, 3) := dk_180 0 147 (dk_at dksX1_names_0 15 rfl rfl)
theorem dX1_names_18 : decode cX1_names 18 = .ok (.ifCond .ne 6, 3) := dk_154 0 6 (dk_at dksX1_names_0 18 rfl rfl)
theorem dX1_names_21 : decode cX1_names 21 = .ok (.bipush (-4), 2) := dk_16 252 (dk_at dksX1_names_0 21 rfl rfl)
theorem dX1_names_23 : decode cX1_names 23 = .ok (.ireturn, 1) := dk_172 (dk_at dksX1_names_0 23 rfl rfl)
theorem dX1_names_24 : decode cX1_names 24 = .ok (.aload_n 0, 1) := dk_42 (dk_at dksX1_names_1 0 rfl rfl)
theorem dX1_names_25 : decode cX1_names 25 = .ok (.iload_n 1, 1) := dk_27 (dk_at dksX1_names_1 1 rfl rfl)
theorem dX1_names_26 : decode cX1_names 26 = .ok (.iconst 1, 1) := dk_4 (dk_at dksX1_names_1 2 rfl rfl)
theorem dX1_names_27 : decode cX1_names 27 = .ok (.isub, 1) := dk_100 (dk_at dksX1_names_1 3 rfl rfl)
theorem dX1_names_28 : decode cX1_names 28 = .ok (.invokevirtual 257, 3) := dk_182 1 1 (dk_at dksX1_names_1 4 rfl rfl)
theorem dX1_names_31 : decode cX1_names 31 = .ok (.iconst 0, 1) := dk_3 (dk_at dksX1_names_1 7 rfl rfl)
theorem dX1_names_32 : decode cX1_names 32 = .ok (.istore_n 2, 1) := dk_61 (dk_at dksX1_names_1 8 rfl rfl)
theorem dX1_names_33 : decode cX1_names 33 = .ok (.iload_n 2, 1) := dk_28 (dk_at dksX1_names_1 9 rfl rfl)
theorem dX1_names_34 : decode cX1_names 34 = .ok (.aload_n 0, 1) := dk_42 (dk_at dksX1_names_1 10 rfl rfl)
theorem dX1_names_35 : decode cX1_names 35 = .ok (.getfield 60, 3) := dk_180 0 60 (dk_at dksX1_names_1 11 rfl rfl)
theorem dX1_names_38 : decode cX1_names 38 = .ok (.if_icmp .ge 35, 3) := dk_162 0 35 (dk_at dksX1_names_1 14 rfl rfl)
theorem dX1_names_41 : decode cX1_names 41 = .ok (.aload_n 0, 1) := dk_42 (dk_at dksX1_names_1 17 rfl rfl)
theorem dX1_names_42 : decode cX1_names 42 = .ok (.getfield 7, 3) := dk_180 0 7 (dk_at dksX1_names_1 18 rfl rfl)
theorem dX1_names_45 : decode cX1_names 45 = .ok (.iconst 1, 1) := dk_4 (dk_at dksX1_names_1 21 rfl rfl)
theorem dX1_names_46 : decode cX1_names 46 = .ok (.iaload, 1) := dk_46 (dk_at dksX1_names_1 22 rfl rfl)
theorem dX1_names_47 : decode cX1_names 47 = .ok (.iload_n 2, 1) := dk_28 (dk_at dksX1_names_1 23 rfl rfl)
theorem dX1_names_48 : decode cX1_names 48 = .ok (.invokestatic 153, 3) := dk_184 0 153 (dk_at dksX1_names_2 0 rfl rfl)
theorem dX1_names_51 : decode cX1_names 51 = .ok (.ifCond .eq 16, 3) := dk_153 0 16 (dk_at dksX1_names_2 3 rfl rfl)
theorem dX1_names_54 : decode cX1_names 54 = .ok (.aload_n 0, 1) := dk_42 (dk_at dksX1_names_2 6 rfl rfl)
theorem dX1_names_55 : decode cX1_names 55 = .ok (.iconst 1, 1) := dk_4 (dk_at dksX1_names_2 7 rfl rfl)
theorem dX1_names_56 : decode cX1_names 56 = .ok (.iload_n 2, 1) := dk_28 (dk_at dksX1_names_2 8 rfl rfl)
theorem dX1_names_57 : decode cX1_names 57 = .ok (.ishl, 1) := dk_120 (dk_at dksX1_names_2 9 rfl rfl)
theorem dX1_names_58 : decode cX1_names 58 = .ok (.iconst 0, 1) := dk_3 (dk_at dksX1_names_2 10 rfl rfl)
theorem dX1_names_59 : decode cX1_names 59 = .ok (.invokevirtual 248, 3) := dk_182 0 248 (dk_at dksX1_names_2 11 rfl rfl)
theorem dX1_names_62 : decode cX1_names 62 = .ok (.ifCond .ne 5, 3) := dk_154 0 5 (dk_at dksX1_names_2 14 rfl rfl)
theorem dX1_names_65 : decode cX1_names 65 = .ok (.iload_n 2, 1) := dk_28 (dk_at dksX1_names_2 17 rfl rfl)
theorem dX1_names_66 : decode cX1_names 66 = .ok (.ireturn, 1) := dk_172 (dk_at dksX1_names_2 18 rfl rfl)
theorem dX1_names_67 : decode cX1_names 67 = .ok (.iinc 2 1, 3) := dk_132 2 1 (dk_at dksX1_names_2 19 rfl rfl)
theorem dX1_names_70 : decode cX1_names 70 = .ok (.goto (-37), 3) := dk_167 255 219 (dk_at dksX1_names_3 0 rfl rfl)
theorem dX1_names_73 : decode cX1_names 73 = .ok (.bipush (-9), 2) := dk_16 247 (dk_at dksX1_names_3 3 rfl rfl)
theorem dX1_names_75 : decode cX1_names 75 = .ok (.ireturn, 1) := dk_172 (dk_at dksX1_names_3 5 rfl rfl)
abbrev cX1_contradict : ByteArray := prog_10_method_89_code
def yX1_contradict : MethodName := ⟨RX1, "contradict", "(I)I"⟩
def dkwX1_contradict_6 : List UInt8 := [42, 21, 4, 181, 0, 67, 29, 172]
abbrev dktX1_contradict_6 : List UInt8 := dkwX1_contradict_6 ++ []
def dkwX1_contradict_5 : List UInt8 := [21, 7, 153, 0, 7, 4, 167, 0, 4, 3, 96, 62, 132, 6, 1, 167, 255, 172, 132, 5, 1, 167, 255, 147]
abbrev dktX1_contradict_5 : List UInt8 := dkwX1_contradict_5 ++ dktX1_contradict_6
def dkwX1_contradict_4 : List UInt8 := [153, 0, 18, 29, 154, 0, 14, 16, 100, 21, 5, 104, 21, 6, 96, 167, 0, 5, 21, 4, 54, 4, 29]
abbrev dktX1_contradict_4 : List UInt8 := dkwX1_contradict_4 ++ dktX1_contradict_5
def dkwX1_contradict_3 : List UInt8 := [154, 0, 15, 42, 27, 21, 6, 21, 5, 182, 1, 11, 153, 0, 7, 4, 167, 0, 4, 3, 54, 7, 21, 7]
abbrev dktX1_contradict_3 : List UInt8 := dkwX1_contradict_3 ++ dktX1_contradict_4
def dkwX1_contradict_2 : List UInt8 := [54, 6, 21, 6, 42, 180, 0, 25, 27, 46, 6, 108, 162, 0, 77, 42, 27, 21, 5, 21, 6, 182, 1, 11]
abbrev dktX1_contradict_2 : List UInt8 := dkwX1_contradict_2 ++ dktX1_contradict_3
def dkwX1_contradict_1 : List UInt8 := [16, 247, 54, 4, 3, 54, 5, 21, 5, 42, 180, 0, 25, 27, 46, 6, 108, 162, 0, 102, 21, 5, 4, 96]
abbrev dktX1_contradict_1 : List UInt8 := dkwX1_contradict_1 ++ dktX1_contradict_2
def dkwX1_contradict_0 : List UInt8 := [27, 184, 0, 78, 154, 0, 5, 2, 172, 42, 27, 182, 1, 8, 61, 28, 153, 0, 5, 28, 172, 3, 62]
abbrev dktX1_contradict_0 : List UInt8 := dkwX1_contradict_0 ++ dktX1_contradict_1
theorem dksX1_contradict_0 : cX1_contradict.data.toList.drop 0 = dktX1_contradict_0 := by decide +kernel
theorem dksX1_contradict_1 : cX1_contradict.data.toList.drop 23 = dktX1_contradict_1 := dk_seg dksX1_contradict_0 23 rfl rfl
theorem dksX1_contradict_2 : cX1_contradict.data.toList.drop 47 = dktX1_contradict_2 := dk_seg dksX1_contradict_1 24 rfl rfl
theorem dksX1_contradict_3 : cX1_contradict.data.toList.drop 71 = dktX1_contradict_3 := dk_seg dksX1_contradict_2 24 rfl rfl
theorem dksX1_contradict_4 : cX1_contradict.data.toList.drop 95 = dktX1_contradict_4 := dk_seg dksX1_contradict_3 24 rfl rfl
theorem dksX1_contradict_5 : cX1_contradict.data.toList.drop 118 = dktX1_contradict_5 := dk_seg dksX1_contradict_4 23 rfl rfl
theorem dksX1_contradict_6 : cX1_contradict.data.toList.drop 142 = dktX1_contradict_6 := dk_seg dksX1_contradict_5 24 rfl rfl
theorem dX1_contradict_0 : decode cX1_contradict 0 = .ok (.iload_n 1, 1) := dk_27 (dk_at dksX1_contradict_0 0 rfl rfl)
theorem dX1_contradict_1 : decode cX1_contradict 1 = .ok (.invokestatic 78, 3) := dk_184 0 78 (dk_at dksX1_contradict_0 1 rfl rfl)
theorem dX1_contradict_4 : decode cX1_contradict 4 = .ok (.ifCond .ne 5, 3) := dk_154 0 5 (dk_at dksX1_contradict_0 4 rfl rfl)
theorem dX1_contradict_7 : decode cX1_contradict 7 = .ok (.iconst (-1), 1) := dk_2 (dk_at dksX1_contradict_0 7 rfl rfl)
theorem dX1_contradict_8 : decode cX1_contradict 8 = .ok (.ireturn, 1) := dk_172 (dk_at dksX1_contradict_0 8 rfl rfl)
theorem dX1_contradict_9 : decode cX1_contradict 9 = .ok (.aload_n 0, 1) := dk_42 (dk_at dksX1_contradict_0 9 rfl rfl)
theorem dX1_contradict_10 : decode cX1_contradict 10 = .ok (.iload_n 1, 1) := dk_27 (dk_at dksX1_contradict_0 10 rfl rfl)
theorem dX1_contradict_11 : decode cX1_contradict 11 = .ok (.invokevirtual 264, 3) := dk_182 1 8 (dk_at dksX1_contradict_0 11 rfl rfl)
theorem dX1_contradict_14 : decode cX1_contradict 14 = .ok (.istore_n 2, 1) := dk_61 (dk_at dksX1_contradict_0 14 rfl rfl)
theorem dX1_contradict_15 : decode cX1_contradict 15 = .ok (.iload_n 2, 1) := dk_28 (dk_at dksX1_contradict_0 15 rfl rfl)
theorem dX1_contradict_16 : decode cX1_contradict 16 = .ok (.ifCond .eq 5, 3) := dk_153 0 5 (dk_at dksX1_contradict_0 16 rfl rfl)
theorem dX1_contradict_19 : decode cX1_contradict 19 = .ok (.iload_n 2, 1) := dk_28 (dk_at dksX1_contradict_0 19 rfl rfl)
theorem dX1_contradict_20 : decode cX1_contradict 20 = .ok (.ireturn, 1) := dk_172 (dk_at dksX1_contradict_0 20 rfl rfl)
theorem dX1_contradict_21 : decode cX1_contradict 21 = .ok (.iconst 0, 1) := dk_3 (dk_at dksX1_contradict_0 21 rfl rfl)
theorem dX1_contradict_22 : decode cX1_contradict 22 = .ok (.istore_n 3, 1) := dk_62 (dk_at dksX1_contradict_0 22 rfl rfl)
theorem dX1_contradict_23 : decode cX1_contradict 23 = .ok (.bipush (-9), 2) := dk_16 247 (dk_at dksX1_contradict_1 0 rfl rfl)
theorem dX1_contradict_25 : decode cX1_contradict 25 = .ok (.istore 4, 2) := dk_54 4 (dk_at dksX1_contradict_1 2 rfl rfl)
theorem dX1_contradict_27 : decode cX1_contradict 27 = .ok (.iconst 0, 1) := dk_3 (dk_at dksX1_contradict_1 4 rfl rfl)
theorem dX1_contradict_28 : decode cX1_contradict 28 = .ok (.istore 5, 2) := dk_54 5 (dk_at dksX1_contradict_1 5 rfl rfl)
theorem dX1_contradict_30 : decode cX1_contradict 30 = .ok (.iload 5, 2) := dk_21 5 (dk_at dksX1_contradict_1 7 rfl rfl)
theorem dX1_contradict_32 : decode cX1_contradict 32 = .ok (.aload_n 0, 1) := dk_42 (dk_at dksX1_contradict_1 9 rfl rfl)
theorem dX1_contradict_33 : decode cX1_contradict 33 = .ok (.getfield 25, 3) := dk_180 0 25 (dk_at dksX1_contradict_1 10 rfl rfl)
theorem dX1_contradict_36 : decode cX1_contradict 36 = .ok (.iload_n 1, 1) := dk_27 (dk_at dksX1_contradict_1 13 rfl rfl)
theorem dX1_contradict_37 : decode cX1_contradict 37 = .ok (.iaload, 1) := dk_46 (dk_at dksX1_contradict_1 14 rfl rfl)
theorem dX1_contradict_38 : decode cX1_contradict 38 = .ok (.iconst 3, 1) := dk_6 (dk_at dksX1_contradict_1 15 rfl rfl)
theorem dX1_contradict_39 : decode cX1_contradict 39 = .ok (.idiv, 1) := dk_108 (dk_at dksX1_contradict_1 16 rfl rfl)
theorem dX1_contradict_40 : decode cX1_contradict 40 = .ok (.if_icmp .ge 102, 3) := dk_162 0 102 (dk_at dksX1_contradict_1 17 rfl rfl)
theorem dX1_contradict_43 : decode cX1_contradict 43 = .ok (.iload 5, 2) := dk_21 5 (dk_at dksX1_contradict_1 20 rfl rfl)
theorem dX1_contradict_45 : decode cX1_contradict 45 = .ok (.iconst 1, 1) := dk_4 (dk_at dksX1_contradict_1 22 rfl rfl)
theorem dX1_contradict_46 : decode cX1_contradict 46 = .ok (.iadd, 1) := dk_96 (dk_at dksX1_contradict_1 23 rfl rfl)
theorem dX1_contradict_47 : decode cX1_contradict 47 = .ok (.istore 6, 2) := dk_54 6 (dk_at dksX1_contradict_2 0 rfl rfl)
theorem dX1_contradict_49 : decode cX1_contradict 49 = .ok (.iload 6, 2) := dk_21 6 (dk_at dksX1_contradict_2 2 rfl rfl)
theorem dX1_contradict_51 : decode cX1_contradict 51 = .ok (.aload_n 0, 1) := dk_42 (dk_at dksX1_contradict_2 4 rfl rfl)
theorem dX1_contradict_52 : decode cX1_contradict 52 = .ok (.getfield 25, 3) := dk_180 0 25 (dk_at dksX1_contradict_2 5 rfl rfl)
theorem dX1_contradict_55 : decode cX1_contradict 55 = .ok (.iload_n 1, 1) := dk_27 (dk_at dksX1_contradict_2 8 rfl rfl)
theorem dX1_contradict_56 : decode cX1_contradict 56 = .ok (.iaload, 1) := dk_46 (dk_at dksX1_contradict_2 9 rfl rfl)
theorem dX1_contradict_57 : decode cX1_contradict 57 = .ok (.iconst 3, 1) := dk_6 (dk_at dksX1_contradict_2 10 rfl rfl)
theorem dX1_contradict_58 : decode cX1_contradict 58 = .ok (.idiv, 1) := dk_108 (dk_at dksX1_contradict_2 11 rfl rfl)
theorem dX1_contradict_59 : decode cX1_contradict 59 = .ok (.if_icmp .ge 77, 3) := dk_162 0 77 (dk_at dksX1_contradict_2 12 rfl rfl)
theorem dX1_contradict_62 : decode cX1_contradict 62 = .ok (.aload_n 0, 1) := dk_42 (dk_at dksX1_contradict_2 15 rfl rfl)
theorem dX1_contradict_63 : decode cX1_contradict 63 = .ok (.iload_n 1, 1) := dk_27 (dk_at dksX1_contradict_2 16 rfl rfl)
theorem dX1_contradict_64 : decode cX1_contradict 64 = .ok (.iload 5, 2) := dk_21 5 (dk_at dksX1_contradict_2 17 rfl rfl)
theorem dX1_contradict_66 : decode cX1_contradict 66 = .ok (.iload 6, 2) := dk_21 6 (dk_at dksX1_contradict_2 19 rfl rfl)
theorem dX1_contradict_68 : decode cX1_contradict 68 = .ok (.invokevirtual 267, 3) := dk_182 1 11 (dk_at dksX1_contradict_2 21 rfl rfl)
theorem dX1_contradict_71 : decode cX1_contradict 71 = .ok (.ifCond .ne 15, 3) := dk_154 0 15 (dk_at dksX1_contradict_3 0 rfl rfl)
theorem dX1_contradict_74 : decode cX1_contradict 74 = .ok (.aload_n 0, 1) := dk_42 (dk_at dksX1_contradict_3 3 rfl rfl)
theorem dX1_contradict_75 : decode cX1_contradict 75 = .ok (.iload_n 1, 1) := dk_27 (dk_at dksX1_contradict_3 4 rfl rfl)
theorem dX1_contradict_76 : decode cX1_contradict 76 = .ok (.iload 6, 2) := dk_21 6 (dk_at dksX1_contradict_3 5 rfl rfl)
theorem dX1_contradict_78 : decode cX1_contradict 78 = .ok (.iload 5, 2) := dk_21 5 (dk_at dksX1_contradict_3 7 rfl rfl)
theorem dX1_contradict_80 : decode cX1_contradict 80 = .ok (.invokevirtual 267, 3) := dk_182 1 11 (dk_at dksX1_contradict_3 9 rfl rfl)
theorem dX1_contradict_83 : decode cX1_contradict 83 = .ok (.ifCond .eq 7, 3) := dk_153 0 7 (dk_at dksX1_contradict_3 12 rfl rfl)
theorem dX1_contradict_86 : decode cX1_contradict 86 = .ok (.iconst 1, 1) := dk_4 (dk_at dksX1_contradict_3 15 rfl rfl)
theorem dX1_contradict_87 : decode cX1_contradict 87 = .ok (.goto 4, 3) := dk_167 0 4 (dk_at dksX1_contradict_3 16 rfl rfl)
theorem dX1_contradict_90 : decode cX1_contradict 90 = .ok (.iconst 0, 1) := dk_3 (dk_at dksX1_contradict_3 19 rfl rfl)
theorem dX1_contradict_91 : decode cX1_contradict 91 = .ok (.istore 7, 2) := dk_54 7 (dk_at dksX1_contradict_3 20 rfl rfl)
theorem dX1_contradict_93 : decode cX1_contradict 93 = .ok (.iload 7, 2) := dk_21 7 (dk_at dksX1_contradict_3 22 rfl rfl)
theorem dX1_contradict_95 : decode cX1_contradict 95 = .ok (.ifCond .eq 18, 3) := dk_153 0 18 (dk_at dksX1_contradict_4 0 rfl rfl)
theorem dX1_contradict_98 : decode cX1_contradict 98 = .ok (.iload_n 3, 1) := dk_29 (dk_at dksX1_contradict_4 3 rfl rfl)
theorem dX1_contradict_99 : decode cX1_contradict 99 = .ok (.ifCond .ne 14, 3) := dk_154 0 14 (dk_at dksX1_contradict_4 4 rfl rfl)
theorem dX1_contradict_102 : decode cX1_contradict 102 = .ok (.bipush 100, 2) := dk_16 100 (dk_at dksX1_contradict_4 7 rfl rfl)
theorem dX1_contradict_104 : decode cX1_contradict 104 = .ok (.iload 5, 2) := dk_21 5 (dk_at dksX1_contradict_4 9 rfl rfl)
theorem dX1_contradict_106 : decode cX1_contradict 106 = .ok (.imul, 1) := dk_104 (dk_at dksX1_contradict_4 11 rfl rfl)
theorem dX1_contradict_107 : decode cX1_contradict 107 = .ok (.iload 6, 2) := dk_21 6 (dk_at dksX1_contradict_4 12 rfl rfl)
theorem dX1_contradict_109 : decode cX1_contradict 109 = .ok (.iadd, 1) := dk_96 (dk_at dksX1_contradict_4 14 rfl rfl)
theorem dX1_contradict_110 : decode cX1_contradict 110 = .ok (.goto 5, 3) := dk_167 0 5 (dk_at dksX1_contradict_4 15 rfl rfl)
theorem dX1_contradict_113 : decode cX1_contradict 113 = .ok (.iload 4, 2) := dk_21 4 (dk_at dksX1_contradict_4 18 rfl rfl)
theorem dX1_contradict_115 : decode cX1_contradict 115 = .ok (.istore 4, 2) := dk_54 4 (dk_at dksX1_contradict_4 20 rfl rfl)
theorem dX1_contradict_117 : decode cX1_contradict 117 = .ok (.iload_n 3, 1) := dk_29 (dk_at dksX1_contradict_4 22 rfl rfl)
theorem dX1_contradict_118 : decode cX1_contradict 118 = .ok (.iload 7, 2) := dk_21 7 (dk_at dksX1_contradict_5 0 rfl rfl)
theorem dX1_contradict_120 : decode cX1_contradict 120 = .ok (.ifCond .eq 7, 3) := dk_153 0 7 (dk_at dksX1_contradict_5 2 rfl rfl)
theorem dX1_contradict_123 : decode cX1_contradict 123 = .ok (.iconst 1, 1) := dk_4 (dk_at dksX1_contradict_5 5 rfl rfl)
theorem dX1_contradict_124 : decode cX1_contradict 124 = .ok (.goto 4, 3) := dk_167 0 4 (dk_at dksX1_contradict_5 6 rfl rfl)
theorem dX1_contradict_127 : decode cX1_contradict 127 = .ok (.iconst 0, 1) := dk_3 (dk_at dksX1_contradict_5 9 rfl rfl)
theorem dX1_contradict_128 : decode cX1_contradict 128 = .ok (.iadd, 1) := dk_96 (dk_at dksX1_contradict_5 10 rfl rfl)
theorem dX1_contradict_129 : decode cX1_contradict 129 = .ok (.istore_n 3, 1) := dk_62 (dk_at dksX1_contradict_5 11 rfl rfl)
theorem dX1_contradict_130 : decode cX1_contradict 130 = .ok (.iinc 6 1, 3) := dk_132 6 1 (dk_at dksX1_contradict_5 12 rfl rfl)
theorem dX1_contradict_133 : decode cX1_contradict 133 = .ok (.goto (-84), 3) := dk_167 255 172 (dk_at dksX1_contradict_5 15 rfl rfl)
theorem dX1_contradict_136 : decode cX1_contradict 136 = .ok (.iinc 5 1, 3) := dk_132 5 1 (dk_at dksX1_contradict_5 18 rfl rfl)
theorem dX1_contradict_139 : decode cX1_contradict 139 = .ok (.goto (-109), 3) := dk_167 255 147 (dk_at dksX1_contradict_5 21 rfl rfl)
theorem dX1_contradict_142 : decode cX1_contradict 142 = .ok (.aload_n 0, 1) := dk_42 (dk_at dksX1_contradict_6 0 rfl rfl)
theorem dX1_contradict_143 : decode cX1_contradict 143 = .ok (.iload 4, 2) := dk_21 4 (dk_at dksX1_contradict_6 1 rfl rfl)
theorem dX1_contradict_145 : decode cX1_contradict 145 = .ok (.putfield 67, 3) := dk_181 0 67 (dk_at dksX1_contradict_6 3 rfl rfl)
theorem dX1_contradict_148 : decode cX1_contradict 148 = .ok (.iload_n 3, 1) := dk_29 (dk_at dksX1_contradict_6 6 rfl rfl)
theorem dX1_contradict_149 : decode cX1_contradict 149 = .ok (.ireturn, 1) := dk_172 (dk_at dksX1_contradict_6 7 rfl rfl)
abbrev cX1_noRulings : ByteArray := prog_10_method_87_code
def yX1_noRulings : MethodName := ⟨RX1, "noRulings", "(I)I"⟩
def dkwX1_noRulings_5 : List UInt8 := [167, 0, 8, 42, 6, 182, 0, 82, 172]
abbrev dktX1_noRulings_5 : List UInt8 := dkwX1_noRulings_5 ++ []
def dkwX1_noRulings_4 : List UInt8 := [184, 0, 72, 153, 0, 7, 4, 167, 0, 4, 3, 61, 132, 3, 1, 167, 255, 184, 28, 153, 0, 7, 3]
abbrev dktX1_noRulings_4 : List UInt8 := dkwX1_noRulings_4 ++ dktX1_noRulings_5
def dkwX1_noRulings_3 : List UInt8 := [182, 1, 5, 133, 9, 20, 0, 70, 184, 0, 72, 153, 0, 23, 42, 27, 29, 5, 182, 1, 5, 133, 9, 10]
abbrev dktX1_noRulings_3 : List UInt8 := dkwX1_noRulings_3 ++ dktX1_noRulings_4
def dkwX1_noRulings_2 : List UInt8 := [162, 0, 66, 28, 153, 0, 54, 42, 27, 29, 3, 182, 1, 5, 184, 0, 209, 153, 0, 41, 42, 27, 29, 4]
abbrev dktX1_noRulings_2 : List UInt8 := dkwX1_noRulings_2 ++ dktX1_noRulings_3
def dkwX1_noRulings_1 : List UInt8 := [153, 0, 9, 42, 8, 182, 0, 82, 172, 4, 61, 3, 62, 29, 42, 180, 0, 25, 27, 46, 6, 108]
abbrev dktX1_noRulings_1 : List UInt8 := dkwX1_noRulings_1 ++ dktX1_noRulings_2
def dkwX1_noRulings_0 : List UInt8 := [42, 180, 0, 25, 27, 46, 156, 0, 9, 42, 4, 182, 0, 82, 172, 42, 180, 0, 25, 27, 46, 6, 112]
abbrev dktX1_noRulings_0 : List UInt8 := dkwX1_noRulings_0 ++ dktX1_noRulings_1
theorem dksX1_noRulings_0 : cX1_noRulings.data.toList.drop 0 = dktX1_noRulings_0 := by decide +kernel
theorem dksX1_noRulings_1 : cX1_noRulings.data.toList.drop 23 = dktX1_noRulings_1 := dk_seg dksX1_noRulings_0 23 rfl rfl
theorem dksX1_noRulings_2 : cX1_noRulings.data.toList.drop 45 = dktX1_noRulings_2 := dk_seg dksX1_noRulings_1 22 rfl rfl
theorem dksX1_noRulings_3 : cX1_noRulings.data.toList.drop 69 = dktX1_noRulings_3 := dk_seg dksX1_noRulings_2 24 rfl rfl
theorem dksX1_noRulings_4 : cX1_noRulings.data.toList.drop 93 = dktX1_noRulings_4 := dk_seg dksX1_noRulings_3 24 rfl rfl
theorem dksX1_noRulings_5 : cX1_noRulings.data.toList.drop 116 = dktX1_noRulings_5 := dk_seg dksX1_noRulings_4 23 rfl rfl
theorem dX1_noRulings_0 : decode cX1_noRulings 0 = .ok (.aload_n 0, 1) := dk_42 (dk_at dksX1_noRulings_0 0 rfl rfl)
theorem dX1_noRulings_1 : decode cX1_noRulings 1 = .ok (.getfield 25, 3) := dk_180 0 25 (dk_at dksX1_noRulings_0 1 rfl rfl)
theorem dX1_noRulings_4 : decode cX1_noRulings 4 = .ok (.iload_n 1, 1) := dk_27 (dk_at dksX1_noRulings_0 4 rfl rfl)
theorem dX1_noRulings_5 : decode cX1_noRulings 5 = .ok (.iaload, 1) := dk_46 (dk_at dksX1_noRulings_0 5 rfl rfl)
theorem dX1_noRulings_6 : decode cX1_noRulings 6 = .ok (.ifCond .ge 9, 3) := dk_156 0 9 (dk_at dksX1_noRulings_0 6 rfl rfl)
theorem dX1_noRulings_9 : decode cX1_noRulings 9 = .ok (.aload_n 0, 1) := dk_42 (dk_at dksX1_noRulings_0 9 rfl rfl)
theorem dX1_noRulings_10 : decode cX1_noRulings 10 = .ok (.iconst 1, 1) := dk_4 (dk_at dksX1_noRulings_0 10 rfl rfl)
theorem dX1_noRulings_11 : decode cX1_noRulings 11 = .ok (.invokevirtual 82, 3) := dk_182 0 82 (dk_at dksX1_noRulings_0 11 rfl rfl)
theorem dX1_noRulings_14 : decode cX1_noRulings 14 = .ok (.ireturn, 1) := dk_172 (dk_at dksX1_noRulings_0 14 rfl rfl)
theorem dX1_noRulings_15 : decode cX1_noRulings 15 = .ok (.aload_n 0, 1) := dk_42 (dk_at dksX1_noRulings_0 15 rfl rfl)
theorem dX1_noRulings_16 : decode cX1_noRulings 16 = .ok (.getfield 25, 3) := dk_180 0 25 (dk_at dksX1_noRulings_0 16 rfl rfl)
theorem dX1_noRulings_19 : decode cX1_noRulings 19 = .ok (.iload_n 1, 1) := dk_27 (dk_at dksX1_noRulings_0 19 rfl rfl)
theorem dX1_noRulings_20 : decode cX1_noRulings 20 = .ok (.iaload, 1) := dk_46 (dk_at dksX1_noRulings_0 20 rfl rfl)
theorem dX1_noRulings_21 : decode cX1_noRulings 21 = .ok (.iconst 3, 1) := dk_6 (dk_at dksX1_noRulings_0 21 rfl rfl)
theorem dX1_noRulings_22 : decode cX1_noRulings 22 = .ok (.irem, 1) := dk_112 (dk_at dksX1_noRulings_0 22 rfl rfl)
theorem dX1_noRulings_23 : decode cX1_noRulings 23 = .ok (.ifCond .eq 9, 3) := dk_153 0 9 (dk_at dksX1_noRulings_1 0 rfl rfl)
theorem dX1_noRulings_26 : decode cX1_noRulings 26 = .ok (.aload_n 0, 1) := dk_42 (dk_at dksX1_noRulings_1 3 rfl rfl)
theorem dX1_noRulings_27 : decode cX1_noRulings 27 = .ok (.iconst 5, 1) := dk_8 (dk_at dksX1_noRulings_1 4 rfl rfl)
theorem dX1_noRulings_28 : decode cX1_noRulings 28 = .ok (.invokevirtual 82, 3) := dk_182 0 82 (dk_at dksX1_noRulings_1 5 rfl rfl)
theorem dX1_noRulings_31 : decode cX1_noRulings 31 = .ok (.ireturn, 1) := dk_172 (dk_at dksX1_noRulings_1 8 rfl rfl)
theorem dX1_noRulings_32 : decode cX1_noRulings 32 = .ok (.iconst 1, 1) := dk_4 (dk_at dksX1_noRulings_1 9 rfl rfl)
theorem dX1_noRulings_33 : decode cX1_noRulings 33 = .ok (.istore_n 2, 1) := dk_61 (dk_at dksX1_noRulings_1 10 rfl rfl)
theorem dX1_noRulings_34 : decode cX1_noRulings 34 = .ok (.iconst 0, 1) := dk_3 (dk_at dksX1_noRulings_1 11 rfl rfl)
theorem dX1_noRulings_35 : decode cX1_noRulings 35 = .ok (.istore_n 3, 1) := dk_62 (dk_at dksX1_noRulings_1 12 rfl rfl)
theorem dX1_noRulings_36 : decode cX1_noRulings 36 = .ok (.iload_n 3, 1) := dk_29 (dk_at dksX1_noRulings_1 13 rfl rfl)
theorem dX1_noRulings_37 : decode cX1_noRulings 37 = .ok (.aload_n 0, 1) := dk_42 (dk_at dksX1_noRulings_1 14 rfl rfl)
theorem dX1_noRulings_38 : decode cX1_noRulings 38 = .ok (.getfield 25, 3) := dk_180 0 25 (dk_at dksX1_noRulings_1 15 rfl rfl)
theorem dX1_noRulings_41 : decode cX1_noRulings 41 = .ok (.iload_n 1, 1) := dk_27 (dk_at dksX1_noRulings_1 18 rfl rfl)
theorem dX1_noRulings_42 : decode cX1_noRulings 42 = .ok (.iaload, 1) := dk_46 (dk_at dksX1_noRulings_1 19 rfl rfl)
theorem dX1_noRulings_43 : decode cX1_noRulings 43 = .ok (.iconst 3, 1) := dk_6 (dk_at dksX1_noRulings_1 20 rfl rfl)
theorem dX1_noRulings_44 : decode cX1_noRulings 44 = .ok (.idiv, 1) := dk_108 (dk_at dksX1_noRulings_1 21 rfl rfl)
theorem dX1_noRulings_45 : decode cX1_noRulings 45 = .ok (.if_icmp .ge 66, 3) := dk_162 0 66 (dk_at dksX1_noRulings_2 0 rfl rfl)
theorem dX1_noRulings_48 : decode cX1_noRulings 48 = .ok (.iload_n 2, 1) := dk_28 (dk_at dksX1_noRulings_2 3 rfl rfl)
theorem dX1_noRulings_49 : decode cX1_noRulings 49 = .ok (.ifCond .eq 54, 3) := dk_153 0 54 (dk_at dksX1_noRulings_2 4 rfl rfl)
theorem dX1_noRulings_52 : decode cX1_noRulings 52 = .ok (.aload_n 0, 1) := dk_42 (dk_at dksX1_noRulings_2 7 rfl rfl)
theorem dX1_noRulings_53 : decode cX1_noRulings 53 = .ok (.iload_n 1, 1) := dk_27 (dk_at dksX1_noRulings_2 8 rfl rfl)
theorem dX1_noRulings_54 : decode cX1_noRulings 54 = .ok (.iload_n 3, 1) := dk_29 (dk_at dksX1_noRulings_2 9 rfl rfl)
theorem dX1_noRulings_55 : decode cX1_noRulings 55 = .ok (.iconst 0, 1) := dk_3 (dk_at dksX1_noRulings_2 10 rfl rfl)
theorem dX1_noRulings_56 : decode cX1_noRulings 56 = .ok (.invokevirtual 261, 3) := dk_182 1 5 (dk_at dksX1_noRulings_2 11 rfl rfl)
theorem dX1_noRulings_59 : decode cX1_noRulings 59 = .ok (.invokestatic 209, 3) := dk_184 0 209 (dk_at dksX1_noRulings_2 14 rfl rfl)
theorem dX1_noRulings_62 : decode cX1_noRulings 62 = .ok (.ifCond .eq 41, 3) := dk_153 0 41 (dk_at dksX1_noRulings_2 17 rfl rfl)
theorem dX1_noRulings_65 : decode cX1_noRulings 65 = .ok (.aload_n 0, 1) := dk_42 (dk_at dksX1_noRulings_2 20 rfl rfl)
theorem dX1_noRulings_66 : decode cX1_noRulings 66 = .ok (.iload_n 1, 1) := dk_27 (dk_at dksX1_noRulings_2 21 rfl rfl)
theorem dX1_noRulings_67 : decode cX1_noRulings 67 = .ok (.iload_n 3, 1) := dk_29 (dk_at dksX1_noRulings_2 22 rfl rfl)
theorem dX1_noRulings_68 : decode cX1_noRulings 68 = .ok (.iconst 1, 1) := dk_4 (dk_at dksX1_noRulings_2 23 rfl rfl)
theorem dX1_noRulings_69 : decode cX1_noRulings 69 = .ok (.invokevirtual 261, 3) := dk_182 1 5 (dk_at dksX1_noRulings_3 0 rfl rfl)
theorem dX1_noRulings_72 : decode cX1_noRulings 72 = .ok (.i2l, 1) := dk_133 (dk_at dksX1_noRulings_3 3 rfl rfl)
theorem dX1_noRulings_73 : decode cX1_noRulings 73 = .ok (.lconst 0, 1) := dk_9 (dk_at dksX1_noRulings_3 4 rfl rfl)
theorem dX1_noRulings_74 : decode cX1_noRulings 74 = .ok (.ldc2_w 70, 3) := dk_20 0 70 (dk_at dksX1_noRulings_3 5 rfl rfl)
theorem dX1_noRulings_77 : decode cX1_noRulings 77 = .ok (.invokestatic 72, 3) := dk_184 0 72 (dk_at dksX1_noRulings_3 8 rfl rfl)
theorem dX1_noRulings_80 : decode cX1_noRulings 80 = .ok (.ifCond .eq 23, 3) := dk_153 0 23 (dk_at dksX1_noRulings_3 11 rfl rfl)
theorem dX1_noRulings_83 : decode cX1_noRulings 83 = .ok (.aload_n 0, 1) := dk_42 (dk_at dksX1_noRulings_3 14 rfl rfl)
theorem dX1_noRulings_84 : decode cX1_noRulings 84 = .ok (.iload_n 1, 1) := dk_27 (dk_at dksX1_noRulings_3 15 rfl rfl)
theorem dX1_noRulings_85 : decode cX1_noRulings 85 = .ok (.iload_n 3, 1) := dk_29 (dk_at dksX1_noRulings_3 16 rfl rfl)
theorem dX1_noRulings_86 : decode cX1_noRulings 86 = .ok (.iconst 2, 1) := dk_5 (dk_at dksX1_noRulings_3 17 rfl rfl)
theorem dX1_noRulings_87 : decode cX1_noRulings 87 = .ok (.invokevirtual 261, 3) := dk_182 1 5 (dk_at dksX1_noRulings_3 18 rfl rfl)
theorem dX1_noRulings_90 : decode cX1_noRulings 90 = .ok (.i2l, 1) := dk_133 (dk_at dksX1_noRulings_3 21 rfl rfl)
theorem dX1_noRulings_91 : decode cX1_noRulings 91 = .ok (.lconst 0, 1) := dk_9 (dk_at dksX1_noRulings_3 22 rfl rfl)
theorem dX1_noRulings_92 : decode cX1_noRulings 92 = .ok (.lconst 1, 1) := dk_10 (dk_at dksX1_noRulings_3 23 rfl rfl)
theorem dX1_noRulings_93 : decode cX1_noRulings 93 = .ok (.invokestatic 72, 3) := dk_184 0 72 (dk_at dksX1_noRulings_4 0 rfl rfl)
theorem dX1_noRulings_96 : decode cX1_noRulings 96 = .ok (.ifCond .eq 7, 3) := dk_153 0 7 (dk_at dksX1_noRulings_4 3 rfl rfl)
theorem dX1_noRulings_99 : decode cX1_noRulings 99 = .ok (.iconst 1, 1) := dk_4 (dk_at dksX1_noRulings_4 6 rfl rfl)
theorem dX1_noRulings_100 : decode cX1_noRulings 100 = .ok (.goto 4, 3) := dk_167 0 4 (dk_at dksX1_noRulings_4 7 rfl rfl)
theorem dX1_noRulings_103 : decode cX1_noRulings 103 = .ok (.iconst 0, 1) := dk_3 (dk_at dksX1_noRulings_4 10 rfl rfl)
theorem dX1_noRulings_104 : decode cX1_noRulings 104 = .ok (.istore_n 2, 1) := dk_61 (dk_at dksX1_noRulings_4 11 rfl rfl)
theorem dX1_noRulings_105 : decode cX1_noRulings 105 = .ok (.iinc 3 1, 3) := dk_132 3 1 (dk_at dksX1_noRulings_4 12 rfl rfl)
theorem dX1_noRulings_108 : decode cX1_noRulings 108 = .ok (.goto (-72), 3) := dk_167 255 184 (dk_at dksX1_noRulings_4 15 rfl rfl)
theorem dX1_noRulings_111 : decode cX1_noRulings 111 = .ok (.iload_n 2, 1) := dk_28 (dk_at dksX1_noRulings_4 18 rfl rfl)
theorem dX1_noRulings_112 : decode cX1_noRulings 112 = .ok (.ifCond .eq 7, 3) := dk_153 0 7 (dk_at dksX1_noRulings_4 19 rfl rfl)
theorem dX1_noRulings_115 : decode cX1_noRulings 115 = .ok (.iconst 0, 1) := dk_3 (dk_at dksX1_noRulings_4 22 rfl rfl)
theorem dX1_noRulings_116 : decode cX1_noRulings 116 = .ok (.goto 8, 3) := dk_167 0 8 (dk_at dksX1_noRulings_5 0 rfl rfl)
theorem dX1_noRulings_119 : decode cX1_noRulings 119 = .ok (.aload_n 0, 1) := dk_42 (dk_at dksX1_noRulings_5 3 rfl rfl)
theorem dX1_noRulings_120 : decode cX1_noRulings 120 = .ok (.iconst 3, 1) := dk_6 (dk_at dksX1_noRulings_5 4 rfl rfl)
theorem dX1_noRulings_121 : decode cX1_noRulings 121 = .ok (.invokevirtual 82, 3) := dk_182 0 82 (dk_at dksX1_noRulings_5 5 rfl rfl)
theorem dX1_noRulings_124 : decode cX1_noRulings 124 = .ok (.ireturn, 1) := dk_172 (dk_at dksX1_noRulings_5 8 rfl rfl)
abbrev cX1_rule : ByteArray := prog_10_method_86_code
def yX1_rule : MethodName := ⟨RX1, "rule", "(III)I"⟩
def dkwX1_rule_0 : List UInt8 := [42, 180, 0, 28, 16, 40, 27, 104, 6, 28, 104, 96, 29, 96, 46, 172]
abbrev dktX1_rule_0 : List UInt8 := dkwX1_rule_0 ++ []
theorem dksX1_rule_0 : cX1_rule.data.toList.drop 0 = dktX1_rule_0 := by decide +kernel
theorem dX1_rule_0 : decode cX1_rule 0 = .ok (.aload_n 0, 1) := dk_42 (dk_at dksX1_rule_0 0 rfl rfl)
theorem dX1_rule_1 : decode cX1_rule 1 = .ok (.getfield 28, 3) := dk_180 0 28 (dk_at dksX1_rule_0 1 rfl rfl)
theorem dX1_rule_4 : decode cX1_rule 4 = .ok (.bipush 40, 2) := dk_16 40 (dk_at dksX1_rule_0 4 rfl rfl)
theorem dX1_rule_6 : decode cX1_rule 6 = .ok (.iload_n 1, 1) := dk_27 (dk_at dksX1_rule_0 6 rfl rfl)
theorem dX1_rule_7 : decode cX1_rule 7 = .ok (.imul, 1) := dk_104 (dk_at dksX1_rule_0 7 rfl rfl)
theorem dX1_rule_8 : decode cX1_rule 8 = .ok (.iconst 3, 1) := dk_6 (dk_at dksX1_rule_0 8 rfl rfl)
theorem dX1_rule_9 : decode cX1_rule 9 = .ok (.iload_n 2, 1) := dk_28 (dk_at dksX1_rule_0 9 rfl rfl)
theorem dX1_rule_10 : decode cX1_rule 10 = .ok (.imul, 1) := dk_104 (dk_at dksX1_rule_0 10 rfl rfl)
theorem dX1_rule_11 : decode cX1_rule 11 = .ok (.iadd, 1) := dk_96 (dk_at dksX1_rule_0 11 rfl rfl)
theorem dX1_rule_12 : decode cX1_rule 12 = .ok (.iload_n 3, 1) := dk_29 (dk_at dksX1_rule_0 12 rfl rfl)
theorem dX1_rule_13 : decode cX1_rule 13 = .ok (.iadd, 1) := dk_96 (dk_at dksX1_rule_0 13 rfl rfl)
theorem dX1_rule_14 : decode cX1_rule 14 = .ok (.iaload, 1) := dk_46 (dk_at dksX1_rule_0 14 rfl rfl)
theorem dX1_rule_15 : decode cX1_rule 15 = .ok (.ireturn, 1) := dk_172 (dk_at dksX1_rule_0 15 rfl rfl)
abbrev cX1_against : ByteArray := prog_10_method_88_code
def yX1_against : MethodName := ⟨RX1, "against", "(III)Z"⟩
def dkwX1_against_2 : List UInt8 := [4, 182, 1, 5, 161, 0, 7, 4, 167, 0, 4, 3, 172]
abbrev dktX1_against_2 : List UInt8 := dkwX1_against_2 ++ []
def dkwX1_against_1 : List UInt8 := [4, 160, 0, 34, 42, 27, 29, 5, 182, 1, 5, 154, 0, 24, 42, 27, 29, 4, 182, 1, 5, 42, 27, 28]
abbrev dktX1_against_1 : List UInt8 := dkwX1_against_1 ++ dktX1_against_2
def dkwX1_against_0 : List UInt8 := [42, 27, 28, 3, 182, 1, 5, 42, 27, 29, 3, 182, 1, 5, 160, 0, 45, 42, 27, 28, 5, 182, 1, 5]
abbrev dktX1_against_0 : List UInt8 := dkwX1_against_0 ++ dktX1_against_1
theorem dksX1_against_0 : cX1_against.data.toList.drop 0 = dktX1_against_0 := by decide +kernel
theorem dksX1_against_1 : cX1_against.data.toList.drop 24 = dktX1_against_1 := dk_seg dksX1_against_0 24 rfl rfl
theorem dksX1_against_2 : cX1_against.data.toList.drop 48 = dktX1_against_2 := dk_seg dksX1_against_1 24 rfl rfl
theorem dX1_against_0 : decode cX1_against 0 = .ok (.aload_n 0, 1) := dk_42 (dk_at dksX1_against_0 0 rfl rfl)
theorem dX1_against_1 : decode cX1_against 1 = .ok (.iload_n 1, 1) := dk_27 (dk_at dksX1_against_0 1 rfl rfl)
theorem dX1_against_2 : decode cX1_against 2 = .ok (.iload_n 2, 1) := dk_28 (dk_at dksX1_against_0 2 rfl rfl)
theorem dX1_against_3 : decode cX1_against 3 = .ok (.iconst 0, 1) := dk_3 (dk_at dksX1_against_0 3 rfl rfl)
theorem dX1_against_4 : decode cX1_against 4 = .ok (.invokevirtual 261, 3) := dk_182 1 5 (dk_at dksX1_against_0 4 rfl rfl)
theorem dX1_against_7 : decode cX1_against 7 = .ok (.aload_n 0, 1) := dk_42 (dk_at dksX1_against_0 7 rfl rfl)
theorem dX1_against_8 : decode cX1_against 8 = .ok (.iload_n 1, 1) := dk_27 (dk_at dksX1_against_0 8 rfl rfl)
theorem dX1_against_9 : decode cX1_against 9 = .ok (.iload_n 3, 1) := dk_29 (dk_at dksX1_against_0 9 rfl rfl)
theorem dX1_against_10 : decode cX1_against 10 = .ok (.iconst 0, 1) := dk_3 (dk_at dksX1_against_0 10 rfl rfl)
theorem dX1_against_11 : decode cX1_against 11 = .ok (.invokevirtual 261, 3) := dk_182 1 5 (dk_at dksX1_against_0 11 rfl rfl)
theorem dX1_against_14 : decode cX1_against 14 = .ok (.if_icmp .ne 45, 3) := dk_160 0 45 (dk_at dksX1_against_0 14 rfl rfl)
theorem dX1_against_17 : decode cX1_against 17 = .ok (.aload_n 0, 1) := dk_42 (dk_at dksX1_against_0 17 rfl rfl)
theorem dX1_against_18 : decode cX1_against 18 = .ok (.iload_n 1, 1) := dk_27 (dk_at dksX1_against_0 18 rfl rfl)
theorem dX1_against_19 : decode cX1_against 19 = .ok (.iload_n 2, 1) := dk_28 (dk_at dksX1_against_0 19 rfl rfl)
theorem dX1_against_20 : decode cX1_against 20 = .ok (.iconst 2, 1) := dk_5 (dk_at dksX1_against_0 20 rfl rfl)
theorem dX1_against_21 : decode cX1_against 21 = .ok (.invokevirtual 261, 3) := dk_182 1 5 (dk_at dksX1_against_0 21 rfl rfl)
theorem dX1_against_24 : decode cX1_against 24 = .ok (.iconst 1, 1) := dk_4 (dk_at dksX1_against_1 0 rfl rfl)
theorem dX1_against_25 : decode cX1_against 25 = .ok (.if_icmp .ne 34, 3) := dk_160 0 34 (dk_at dksX1_against_1 1 rfl rfl)
theorem dX1_against_28 : decode cX1_against 28 = .ok (.aload_n 0, 1) := dk_42 (dk_at dksX1_against_1 4 rfl rfl)
theorem dX1_against_29 : decode cX1_against 29 = .ok (.iload_n 1, 1) := dk_27 (dk_at dksX1_against_1 5 rfl rfl)
theorem dX1_against_30 : decode cX1_against 30 = .ok (.iload_n 3, 1) := dk_29 (dk_at dksX1_against_1 6 rfl rfl)
theorem dX1_against_31 : decode cX1_against 31 = .ok (.iconst 2, 1) := dk_5 (dk_at dksX1_against_1 7 rfl rfl)
theorem dX1_against_32 : decode cX1_against 32 = .ok (.invokevirtual 261, 3) := dk_182 1 5 (dk_at dksX1_against_1 8 rfl rfl)
theorem dX1_against_35 : decode cX1_against 35 = .ok (.ifCond .ne 24, 3) := dk_154 0 24 (dk_at dksX1_against_1 11 rfl rfl)
theorem dX1_against_38 : decode cX1_against 38 = .ok (.aload_n 0, 1) := dk_42 (dk_at dksX1_against_1 14 rfl rfl)
theorem dX1_against_39 : decode cX1_against 39 = .ok (.iload_n 1, 1) := dk_27 (dk_at dksX1_against_1 15 rfl rfl)
theorem dX1_against_40 : decode cX1_against 40 = .ok (.iload_n 3, 1) := dk_29 (dk_at dksX1_against_1 16 rfl rfl)
theorem dX1_against_41 : decode cX1_against 41 = .ok (.iconst 1, 1) := dk_4 (dk_at dksX1_against_1 17 rfl rfl)
theorem dX1_against_42 : decode cX1_against 42 = .ok (.invokevirtual 261, 3) := dk_182 1 5 (dk_at dksX1_against_1 18 rfl rfl)
theorem dX1_against_45 : decode cX1_against 45 = .ok (.aload_n 0, 1) := dk_42 (dk_at dksX1_against_1 21 rfl rfl)
theorem dX1_against_46 : decode cX1_against 46 = .ok (.iload_n 1, 1) := dk_27 (dk_at dksX1_against_1 22 rfl rfl)
theorem dX1_against_47 : decode cX1_against 47 = .ok (.iload_n 2, 1) := dk_28 (dk_at dksX1_against_1 23 rfl rfl)
theorem dX1_against_48 : decode cX1_against 48 = .ok (.iconst 1, 1) := dk_4 (dk_at dksX1_against_2 0 rfl rfl)
theorem dX1_against_49 : decode cX1_against 49 = .ok (.invokevirtual 261, 3) := dk_182 1 5 (dk_at dksX1_against_2 1 rfl rfl)
theorem dX1_against_52 : decode cX1_against 52 = .ok (.if_icmp .lt 7, 3) := dk_161 0 7 (dk_at dksX1_against_2 4 rfl rfl)
theorem dX1_against_55 : decode cX1_against 55 = .ok (.iconst 1, 1) := dk_4 (dk_at dksX1_against_2 7 rfl rfl)
theorem dX1_against_56 : decode cX1_against 56 = .ok (.goto 4, 3) := dk_167 0 4 (dk_at dksX1_against_2 8 rfl rfl)
theorem dX1_against_59 : decode cX1_against 59 = .ok (.iconst 0, 1) := dk_3 (dk_at dksX1_against_2 11 rfl rfl)
theorem dX1_against_60 : decode cX1_against 60 = .ok (.ireturn, 1) := dk_172 (dk_at dksX1_against_2 12 rfl rfl)
abbrev cX1_fix : ByteArray := prog_10_method_91_code
def yX1_fix : MethodName := ⟨RX1, "fix", "(I)I"⟩
def dkwX1_fix_3 : List UInt8 := [132, 4, 255, 167, 255, 219, 42, 29, 181, 0, 67, 29, 184, 0, 215, 172]
abbrev dktX1_fix_3 : List UInt8 := dkwX1_fix_3 ++ []
def dkwX1_fix_2 : List UInt8 := [29, 184, 0, 215, 163, 0, 18, 42, 27, 21, 4, 182, 1, 14, 153, 0, 8, 21, 4, 167, 0, 4, 29, 62]
abbrev dktX1_fix_2 : List UInt8 := dkwX1_fix_2 ++ dktX1_fix_3
def dkwX1_fix_1 : List UInt8 := [180, 0, 25, 27, 46, 6, 108, 120, 4, 100, 62, 29, 54, 4, 21, 4, 155, 0, 38, 21, 4, 184, 0, 215]
abbrev dktX1_fix_1 : List UInt8 := dkwX1_fix_1 ++ dktX1_fix_2
def dkwX1_fix_0 : List UInt8 := [27, 184, 0, 78, 154, 0, 5, 2, 172, 42, 27, 182, 1, 8, 61, 28, 153, 0, 5, 28, 172, 4, 42]
abbrev dktX1_fix_0 : List UInt8 := dkwX1_fix_0 ++ dktX1_fix_1
theorem dksX1_fix_0 : cX1_fix.data.toList.drop 0 = dktX1_fix_0 := by decide +kernel
theorem dksX1_fix_1 : cX1_fix.data.toList.drop 23 = dktX1_fix_1 := dk_seg dksX1_fix_0 23 rfl rfl
theorem dksX1_fix_2 : cX1_fix.data.toList.drop 47 = dktX1_fix_2 := dk_seg dksX1_fix_1 24 rfl rfl
theorem dksX1_fix_3 : cX1_fix.data.toList.drop 71 = dktX1_fix_3 := dk_seg dksX1_fix_2 24 rfl rfl
theorem dX1_fix_0 : decode cX1_fix 0 = .ok (.iload_n 1, 1) := dk_27 (dk_at dksX1_fix_0 0 rfl rfl)
theorem dX1_fix_1 : decode cX1_fix 1 = .ok (.invokestatic 78, 3) := dk_184 0 78 (dk_at dksX1_fix_0 1 rfl rfl)
theorem dX1_fix_4 : decode cX1_fix 4 = .ok (.ifCond .ne 5, 3) := dk_154 0 5 (dk_at dksX1_fix_0 4 rfl rfl)
theorem dX1_fix_7 : decode cX1_fix 7 = .ok (.iconst (-1), 1) := dk_2 (dk_at dksX1_fix_0 7 rfl rfl)
theorem dX1_fix_8 : decode cX1_fix 8 = .ok (.ireturn, 1) := dk_172 (dk_at dksX1_fix_0 8 rfl rfl)
theorem dX1_fix_9 : decode cX1_fix 9 = .ok (.aload_n 0, 1) := dk_42 (dk_at dksX1_fix_0 9 rfl rfl)
theorem dX1_fix_10 : decode cX1_fix 10 = .ok (.iload_n 1, 1) := dk_27 (dk_at dksX1_fix_0 10 rfl rfl)
theorem dX1_fix_11 : decode cX1_fix 11 = .ok (.invokevirtual 264, 3) := dk_182 1 8 (dk_at dksX1_fix_0 11 rfl rfl)
theorem dX1_fix_14 : decode cX1_fix 14 = .ok (.istore_n 2, 1) := dk_61 (dk_at dksX1_fix_0 14 rfl rfl)
theorem dX1_fix_15 : decode cX1_fix 15 = .ok (.iload_n 2, 1) := dk_28 (dk_at dksX1_fix_0 15 rfl rfl)
theorem dX1_fix_16 : decode cX1_fix 16 = .ok (.ifCond .eq 5, 3) := dk_153 0 5 (dk_at dksX1_fix_0 16 rfl rfl)
theorem dX1_fix_19 : decode cX1_fix 19 = .ok (.iload_n 2, 1) := dk_28 (dk_at dksX1_fix_0 19 rfl rfl)
theorem dX1_fix_20 : decode cX1_fix 20 = .ok (.ireturn, 1) := dk_172 (dk_at dksX1_fix_0 20 rfl rfl)
theorem dX1_fix_21 : decode cX1_fix 21 = .ok (.iconst 1, 1) := dk_4 (dk_at dksX1_fix_0 21 rfl rfl)
theorem dX1_fix_22 : decode cX1_fix 22 = .ok (.aload_n 0, 1) := dk_42 (dk_at dksX1_fix_0 22 rfl rfl)
theorem dX1_fix_23 : decode cX1_fix 23 = .ok (.getfield 25, 3) := dk_180 0 25 (dk_at dksX1_fix_1 0 rfl rfl)
theorem dX1_fix_26 : decode cX1_fix 26 = .ok (.iload_n 1, 1) := dk_27 (dk_at dksX1_fix_1 3 rfl rfl)
theorem dX1_fix_27 : decode cX1_fix 27 = .ok (.iaload, 1) := dk_46 (dk_at dksX1_fix_1 4 rfl rfl)
theorem dX1_fix_28 : decode cX1_fix 28 = .ok (.iconst 3, 1) := dk_6 (dk_at dksX1_fix_1 5 rfl rfl)
theorem dX1_fix_29 : decode cX1_fix 29 = .ok (.idiv, 1) := dk_108 (dk_at dksX1_fix_1 6 rfl rfl)
theorem dX1_fix_30 : decode cX1_fix 30 = .ok (.ishl, 1) := dk_120 (dk_at dksX1_fix_1 7 rfl rfl)
theorem dX1_fix_31 : decode cX1_fix 31 = .ok (.iconst 1, 1) := dk_4 (dk_at dksX1_fix_1 8 rfl rfl)
theorem dX1_fix_32 : decode cX1_fix 32 = .ok (.isub, 1) := dk_100 (dk_at dksX1_fix_1 9 rfl rfl)
theorem dX1_fix_33 : decode cX1_fix 33 = .ok (.istore_n 3, 1) := dk_62 (dk_at dksX1_fix_1 10 rfl rfl)
theorem dX1_fix_34 : decode cX1_fix 34 = .ok (.iload_n 3, 1) := dk_29 (dk_at dksX1_fix_1 11 rfl rfl)
theorem dX1_fix_35 : decode cX1_fix 35 = .ok (.istore 4, 2) := dk_54 4 (dk_at dksX1_fix_1 12 rfl rfl)
theorem dX1_fix_37 : decode cX1_fix 37 = .ok (.iload 4, 2) := dk_21 4 (dk_at dksX1_fix_1 14 rfl rfl)
theorem dX1_fix_39 : decode cX1_fix 39 = .ok (.ifCond .lt 38, 3) := dk_155 0 38 (dk_at dksX1_fix_1 16 rfl rfl)
theorem dX1_fix_42 : decode cX1_fix 42 = .ok (.iload 4, 2) := dk_21 4 (dk_at dksX1_fix_1 19 rfl rfl)
theorem dX1_fix_44 : decode cX1_fix 44 = .ok (.invokestatic 215, 3) := dk_184 0 215 (dk_at dksX1_fix_1 21 rfl rfl)
theorem dX1_fix_47 : decode cX1_fix 47 = .ok (.iload_n 3, 1) := dk_29 (dk_at dksX1_fix_2 0 rfl rfl)
theorem dX1_fix_48 : decode cX1_fix 48 = .ok (.invokestatic 215, 3) := dk_184 0 215 (dk_at dksX1_fix_2 1 rfl rfl)
theorem dX1_fix_51 : decode cX1_fix 51 = .ok (.if_icmp .gt 18, 3) := dk_163 0 18 (dk_at dksX1_fix_2 4 rfl rfl)
theorem dX1_fix_54 : decode cX1_fix 54 = .ok (.aload_n 0, 1) := dk_42 (dk_at dksX1_fix_2 7 rfl rfl)
theorem dX1_fix_55 : decode cX1_fix 55 = .ok (.iload_n 1, 1) := dk_27 (dk_at dksX1_fix_2 8 rfl rfl)
theorem dX1_fix_56 : decode cX1_fix 56 = .ok (.iload 4, 2) := dk_21 4 (dk_at dksX1_fix_2 9 rfl rfl)
theorem dX1_fix_58 : decode cX1_fix 58 = .ok (.invokevirtual 270, 3) := dk_182 1 14 (dk_at dksX1_fix_2 11 rfl rfl)
theorem dX1_fix_61 : decode cX1_fix 61 = .ok (.ifCond .eq 8, 3) := dk_153 0 8 (dk_at dksX1_fix_2 14 rfl rfl)
theorem dX1_fix_64 : decode cX1_fix 64 = .ok (.iload 4, 2) := dk_21 4 (dk_at dksX1_fix_2 17 rfl rfl)
theorem dX1_fix_66 : decode cX1_fix 66 = .ok (.goto 4, 3) := dk_167 0 4 (dk_at dksX1_fix_2 19 rfl rfl)
theorem dX1_fix_69 : decode cX1_fix 69 = .ok (.iload_n 3, 1) := dk_29 (dk_at dksX1_fix_2 22 rfl rfl)
theorem dX1_fix_70 : decode cX1_fix 70 = .ok (.istore_n 3, 1) := dk_62 (dk_at dksX1_fix_2 23 rfl rfl)
theorem dX1_fix_71 : decode cX1_fix 71 = .ok (.iinc 4 (-1), 3) := dk_132 4 255 (dk_at dksX1_fix_3 0 rfl rfl)
theorem dX1_fix_74 : decode cX1_fix 74 = .ok (.goto (-37), 3) := dk_167 255 219 (dk_at dksX1_fix_3 3 rfl rfl)
theorem dX1_fix_77 : decode cX1_fix 77 = .ok (.aload_n 0, 1) := dk_42 (dk_at dksX1_fix_3 6 rfl rfl)
theorem dX1_fix_78 : decode cX1_fix 78 = .ok (.iload_n 3, 1) := dk_29 (dk_at dksX1_fix_3 7 rfl rfl)
theorem dX1_fix_79 : decode cX1_fix 79 = .ok (.putfield 67, 3) := dk_181 0 67 (dk_at dksX1_fix_3 8 rfl rfl)
theorem dX1_fix_82 : decode cX1_fix 82 = .ok (.iload_n 3, 1) := dk_29 (dk_at dksX1_fix_3 11 rfl rfl)
theorem dX1_fix_83 : decode cX1_fix 83 = .ok (.invokestatic 215, 3) := dk_184 0 215 (dk_at dksX1_fix_3 12 rfl rfl)
theorem dX1_fix_86 : decode cX1_fix 86 = .ok (.ireturn, 1) := dk_172 (dk_at dksX1_fix_3 15 rfl rfl)
abbrev cX1_isFixed : ByteArray := prog_10_method_90_code
def yX1_isFixed : MethodName := ⟨RX1, "isFixed", "(II)Z"⟩
def dkwX1_isFixed_3 : List UInt8 := [3, 62, 132, 5, 1, 167, 255, 200, 132, 4, 1, 167, 255, 178, 29, 172]
abbrev dktX1_isFixed_3 : List UInt8 := dkwX1_isFixed_3 ++ []
def dkwX1_isFixed_2 : List UInt8 := [21, 5, 184, 0, 153, 154, 0, 15, 42, 27, 21, 4, 21, 5, 182, 1, 11, 154, 0, 7, 4, 167, 0, 4]
abbrev dktX1_isFixed_2 : List UInt8 := dkwX1_isFixed_2 ++ dktX1_isFixed_3
def dkwX1_isFixed_1 : List UInt8 := [180, 0, 25, 27, 46, 6, 108, 162, 0, 49, 29, 153, 0, 45, 28, 21, 4, 184, 0, 153, 154, 0, 24, 28]
abbrev dktX1_isFixed_1 : List UInt8 := dkwX1_isFixed_1 ++ dktX1_isFixed_2
def dkwX1_isFixed_0 : List UInt8 := [4, 62, 3, 54, 4, 21, 4, 42, 180, 0, 25, 27, 46, 6, 108, 162, 0, 71, 3, 54, 5, 21, 5, 42]
abbrev dktX1_isFixed_0 : List UInt8 := dkwX1_isFixed_0 ++ dktX1_isFixed_1
theorem dksX1_isFixed_0 : cX1_isFixed.data.toList.drop 0 = dktX1_isFixed_0 := by decide +kernel
theorem dksX1_isFixed_1 : cX1_isFixed.data.toList.drop 24 = dktX1_isFixed_1 := dk_seg dksX1_isFixed_0 24 rfl rfl
theorem dksX1_isFixed_2 : cX1_isFixed.data.toList.drop 48 = dktX1_isFixed_2 := dk_seg dksX1_isFixed_1 24 rfl rfl
theorem dksX1_isFixed_3 : cX1_isFixed.data.toList.drop 72 = dktX1_isFixed_3 := dk_seg dksX1_isFixed_2 24 rfl rfl
theorem dX1_isFixed_0 : decode cX1_isFixed 0 = .ok (.iconst 1, 1) := dk_4 (dk_at dksX1_isFixed_0 0 rfl rfl)
theorem dX1_isFixed_1 : decode cX1_isFixed 1 = .ok (.istore_n 3, 1) := dk_62 (dk_at dksX1_isFixed_0 1 rfl rfl)
theorem dX1_isFixed_2 : decode cX1_isFixed 2 = .ok (.iconst 0, 1) := dk_3 (dk_at dksX1_isFixed_0 2 rfl rfl)
theorem dX1_isFixed_3 : decode cX1_isFixed 3 = .ok (.istore 4, 2) := dk_54 4 (dk_at dksX1_isFixed_0 3 rfl rfl)
theorem dX1_isFixed_5 : decode cX1_isFixed 5 = .ok (.iload 4, 2) := dk_21 4 (dk_at dksX1_isFixed_0 5 rfl rfl)
theorem dX1_isFixed_7 : decode cX1_isFixed 7 = .ok (.aload_n 0, 1) := dk_42 (dk_at dksX1_isFixed_0 7 rfl rfl)
theorem dX1_isFixed_8 : decode cX1_isFixed 8 = .ok (.getfield 25, 3) := dk_180 0 25 (dk_at dksX1_isFixed_0 8 rfl rfl)
theorem dX1_isFixed_11 : decode cX1_isFixed 11 = .ok (.iload_n 1, 1) := dk_27 (dk_at dksX1_isFixed_0 11 rfl rfl)
theorem dX1_isFixed_12 : decode cX1_isFixed 12 = .ok (.iaload, 1) := dk_46 (dk_at dksX1_isFixed_0 12 rfl rfl)
theorem dX1_isFixed_13 : decode cX1_isFixed 13 = .ok (.iconst 3, 1) := dk_6 (dk_at dksX1_isFixed_0 13 rfl rfl)
theorem dX1_isFixed_14 : decode cX1_isFixed 14 = .ok (.idiv, 1) := dk_108 (dk_at dksX1_isFixed_0 14 rfl rfl)
theorem dX1_isFixed_15 : decode cX1_isFixed 15 = .ok (.if_icmp .ge 71, 3) := dk_162 0 71 (dk_at dksX1_isFixed_0 15 rfl rfl)
theorem dX1_isFixed_18 : decode cX1_isFixed 18 = .ok (.iconst 0, 1) := dk_3 (dk_at dksX1_isFixed_0 18 rfl rfl)
theorem dX1_isFixed_19 : decode cX1_isFixed 19 = .ok (.istore 5, 2) := dk_54 5 (dk_at dksX1_isFixed_0 19 rfl rfl)
theorem dX1_isFixed_21 : decode cX1_isFixed 21 = .ok (.iload 5, 2) := dk_21 5 (dk_at dksX1_isFixed_0 21 rfl rfl)
theorem dX1_isFixed_23 : decode cX1_isFixed 23 = .ok (.aload_n 0, 1) := dk_42 (dk_at dksX1_isFixed_0 23 rfl rfl)
theorem dX1_isFixed_24 : decode cX1_isFixed 24 = .ok (.getfield 25, 3) := dk_180 0 25 (dk_at dksX1_isFixed_1 0 rfl rfl)
theorem dX1_isFixed_27 : decode cX1_isFixed 27 = .ok (.iload_n 1, 1) := dk_27 (dk_at dksX1_isFixed_1 3 rfl rfl)
theorem dX1_isFixed_28 : decode cX1_isFixed 28 = .ok (.iaload, 1) := dk_46 (dk_at dksX1_isFixed_1 4 rfl rfl)
theorem dX1_isFixed_29 : decode cX1_isFixed 29 = .ok (.iconst 3, 1) := dk_6 (dk_at dksX1_isFixed_1 5 rfl rfl)
theorem dX1_isFixed_30 : decode cX1_isFixed 30 = .ok (.idiv, 1) := dk_108 (dk_at dksX1_isFixed_1 6 rfl rfl)
theorem dX1_isFixed_31 : decode cX1_isFixed 31 = .ok (.if_icmp .ge 49, 3) := dk_162 0 49 (dk_at dksX1_isFixed_1 7 rfl rfl)
theorem dX1_isFixed_34 : decode cX1_isFixed 34 = .ok (.iload_n 3, 1) := dk_29 (dk_at dksX1_isFixed_1 10 rfl rfl)
theorem dX1_isFixed_35 : decode cX1_isFixed 35 = .ok (.ifCond .eq 45, 3) := dk_153 0 45 (dk_at dksX1_isFixed_1 11 rfl rfl)
theorem dX1_isFixed_38 : decode cX1_isFixed 38 = .ok (.iload_n 2, 1) := dk_28 (dk_at dksX1_isFixed_1 14 rfl rfl)
theorem dX1_isFixed_39 : decode cX1_isFixed 39 = .ok (.iload 4, 2) := dk_21 4 (dk_at dksX1_isFixed_1 15 rfl rfl)
theorem dX1_isFixed_41 : decode cX1_isFixed 41 = .ok (.invokestatic 153, 3) := dk_184 0 153 (dk_at dksX1_isFixed_1 17 rfl rfl)
theorem dX1_isFixed_44 : decode cX1_isFixed 44 = .ok (.ifCond .ne 24, 3) := dk_154 0 24 (dk_at dksX1_isFixed_1 20 rfl rfl)
theorem dX1_isFixed_47 : decode cX1_isFixed 47 = .ok (.iload_n 2, 1) := dk_28 (dk_at dksX1_isFixed_1 23 rfl rfl)
theorem dX1_isFixed_48 : decode cX1_isFixed 48 = .ok (.iload 5, 2) := dk_21 5 (dk_at dksX1_isFixed_2 0 rfl rfl)
theorem dX1_isFixed_50 : decode cX1_isFixed 50 = .ok (.invokestatic 153, 3) := dk_184 0 153 (dk_at dksX1_isFixed_2 2 rfl rfl)
theorem dX1_isFixed_53 : decode cX1_isFixed 53 = .ok (.ifCond .ne 15, 3) := dk_154 0 15 (dk_at dksX1_isFixed_2 5 rfl rfl)
theorem dX1_isFixed_56 : decode cX1_isFixed 56 = .ok (.aload_n 0, 1) := dk_42 (dk_at dksX1_isFixed_2 8 rfl rfl)
theorem dX1_isFixed_57 : decode cX1_isFixed 57 = .ok (.iload_n 1, 1) := dk_27 (dk_at dksX1_isFixed_2 9 rfl rfl)
theorem dX1_isFixed_58 : decode cX1_isFixed 58 = .ok (.iload 4, 2) := dk_21 4 (dk_at dksX1_isFixed_2 10 rfl rfl)
theorem dX1_isFixed_60 : decode cX1_isFixed 60 = .ok (.iload 5, 2) := dk_21 5 (dk_at dksX1_isFixed_2 12 rfl rfl)
theorem dX1_isFixed_62 : decode cX1_isFixed 62 = .ok (.invokevirtual 267, 3) := dk_182 1 11 (dk_at dksX1_isFixed_2 14 rfl rfl)
theorem dX1_isFixed_65 : decode cX1_isFixed 65 = .ok (.ifCond .ne 7, 3) := dk_154 0 7 (dk_at dksX1_isFixed_2 17 rfl rfl)
theorem dX1_isFixed_68 : decode cX1_isFixed 68 = .ok (.iconst 1, 1) := dk_4 (dk_at dksX1_isFixed_2 20 rfl rfl)
theorem dX1_isFixed_69 : decode cX1_isFixed 69 = .ok (.goto 4, 3) := dk_167 0 4 (dk_at dksX1_isFixed_2 21 rfl rfl)
theorem dX1_isFixed_72 : decode cX1_isFixed 72 = .ok (.iconst 0, 1) := dk_3 (dk_at dksX1_isFixed_3 0 rfl rfl)
theorem dX1_isFixed_73 : decode cX1_isFixed 73 = .ok (.istore_n 3, 1) := dk_62 (dk_at dksX1_isFixed_3 1 rfl rfl)
theorem dX1_isFixed_74 : decode cX1_isFixed 74 = .ok (.iinc 5 1, 3) := dk_132 5 1 (dk_at dksX1_isFixed_3 2 rfl rfl)
theorem dX1_isFixed_77 : decode cX1_isFixed 77 = .ok (.goto (-56), 3) := dk_167 255 200 (dk_at dksX1_isFixed_3 5 rfl rfl)
theorem dX1_isFixed_80 : decode cX1_isFixed 80 = .ok (.iinc 4 1, 3) := dk_132 4 1 (dk_at dksX1_isFixed_3 8 rfl rfl)
theorem dX1_isFixed_83 : decode cX1_isFixed 83 = .ok (.goto (-78), 3) := dk_167 255 178 (dk_at dksX1_isFixed_3 11 rfl rfl)
theorem dX1_isFixed_86 : decode cX1_isFixed 86 = .ok (.iload_n 3, 1) := dk_29 (dk_at dksX1_isFixed_3 14 rfl rfl)
theorem dX1_isFixed_87 : decode cX1_isFixed 87 = .ok (.ireturn, 1) := dk_172 (dk_at dksX1_isFixed_3 15 rfl rfl)
abbrev cX1_follows : ByteArray := prog_10_method_92_code
def yX1_follows : MethodName := ⟨RX1, "follows", "(III)I"⟩
def dkwX1_follows_8 : List UInt8 := [167, 0, 5, 16, 247, 172]
abbrev dktX1_follows_8 : List UInt8 := dkwX1_follows_8 ++ []
def dkwX1_follows_7 : List UInt8 := [54, 6, 132, 7, 1, 167, 255, 140, 21, 5, 153, 0, 7, 4, 167, 0, 14, 21, 6, 153, 0, 7, 3]
abbrev dktX1_follows_7 : List UInt8 := dkwX1_follows_7 ++ dktX1_follows_8
def dkwX1_follows_6 : List UInt8 := [182, 1, 5, 154, 0, 19, 42, 27, 21, 7, 4, 182, 1, 5, 29, 161, 0, 7, 4, 167, 0, 4, 3]
abbrev dktX1_follows_6 : List UInt8 := dkwX1_follows_6 ++ dktX1_follows_7
def dkwX1_follows_5 : List UInt8 := [4, 167, 0, 4, 3, 54, 5, 21, 6, 154, 0, 31, 21, 8, 153, 0, 30, 42, 27, 21, 7, 5]
abbrev dktX1_follows_5 : List UInt8 := dkwX1_follows_5 ++ dktX1_follows_6
def dkwX1_follows_4 : List UInt8 := [42, 27, 21, 7, 5, 182, 1, 5, 4, 160, 0, 19, 42, 27, 21, 7, 4, 182, 1, 5, 29, 163, 0, 7]
abbrev dktX1_follows_4 : List UInt8 := dkwX1_follows_4 ++ dktX1_follows_5
def dkwX1_follows_3 : List UInt8 := [182, 1, 5, 28, 160, 0, 7, 4, 167, 0, 4, 3, 54, 8, 21, 5, 154, 0, 32, 21, 8, 153, 0, 31]
abbrev dktX1_follows_3 : List UInt8 := dkwX1_follows_3 ++ dktX1_follows_4
def dkwX1_follows_2 : List UInt8 := [54, 6, 3, 54, 7, 21, 7, 42, 180, 0, 25, 27, 46, 6, 108, 162, 0, 109, 42, 27, 21, 7, 3]
abbrev dktX1_follows_2 : List UInt8 := dkwX1_follows_2 ++ dktX1_follows_3
def dkwX1_follows_1 : List UInt8 := [154, 0, 5, 2, 172, 42, 27, 182, 1, 8, 54, 4, 21, 4, 153, 0, 6, 21, 4, 172, 3, 54, 5, 3]
abbrev dktX1_follows_1 : List UInt8 := dkwX1_follows_1 ++ dktX1_follows_2
def dkwX1_follows_0 : List UInt8 := [27, 184, 0, 78, 153, 0, 22, 28, 184, 0, 209, 153, 0, 15, 29, 133, 9, 20, 0, 70, 184, 0, 72]
abbrev dktX1_follows_0 : List UInt8 := dkwX1_follows_0 ++ dktX1_follows_1
theorem dksX1_follows_0 : cX1_follows.data.toList.drop 0 = dktX1_follows_0 := by decide +kernel
theorem dksX1_follows_1 : cX1_follows.data.toList.drop 23 = dktX1_follows_1 := dk_seg dksX1_follows_0 23 rfl rfl
theorem dksX1_follows_2 : cX1_follows.data.toList.drop 47 = dktX1_follows_2 := dk_seg dksX1_follows_1 24 rfl rfl
theorem dksX1_follows_3 : cX1_follows.data.toList.drop 70 = dktX1_follows_3 := dk_seg dksX1_follows_2 23 rfl rfl
theorem dksX1_follows_4 : cX1_follows.data.toList.drop 94 = dktX1_follows_4 := dk_seg dksX1_follows_3 24 rfl rfl
theorem dksX1_follows_5 : cX1_follows.data.toList.drop 118 = dktX1_follows_5 := dk_seg dksX1_follows_4 24 rfl rfl
theorem dksX1_follows_6 : cX1_follows.data.toList.drop 140 = dktX1_follows_6 := dk_seg dksX1_follows_5 22 rfl rfl
theorem dksX1_follows_7 : cX1_follows.data.toList.drop 163 = dktX1_follows_7 := dk_seg dksX1_follows_6 23 rfl rfl
theorem dksX1_follows_8 : cX1_follows.data.toList.drop 186 = dktX1_follows_8 := dk_seg dksX1_follows_7 23 rfl rfl
theorem dX1_follows_0 : decode cX1_follows 0 = .ok (.iload_n 1, 1) := dk_27 (dk_at dksX1_follows_0 0 rfl rfl)
theorem dX1_follows_1 : decode cX1_follows 1 = .ok (.invokestatic 78, 3) := dk_184 0 78 (dk_at dksX1_follows_0 1 rfl rfl)
theorem dX1_follows_4 : decode cX1_follows 4 = .ok (.ifCond .eq 22, 3) := dk_153 0 22 (dk_at dksX1_follows_0 4 rfl rfl)
theorem dX1_follows_7 : decode cX1_follows 7 = .ok (.iload_n 2, 1) := dk_28 (dk_at dksX1_follows_0 7 rfl rfl)
theorem dX1_follows_8 : decode cX1_follows 8 = .ok (.invokestatic 209, 3) := dk_184 0 209 (dk_at dksX1_follows_0 8 rfl rfl)
theorem dX1_follows_11 : decode cX1_follows 11 = .ok (.ifCond .eq 15, 3) := dk_153 0 15 (dk_at dksX1_follows_0 11 rfl rfl)
theorem dX1_follows_14 : decode cX1_follows 14 = .ok (.iload_n 3, 1) := dk_29 (dk_at dksX1_follows_0 14 rfl rfl)
theorem dX1_follows_15 : decode cX1_follows 15 = .ok (.i2l, 1) := dk_133 (dk_at dksX1_follows_0 15 rfl rfl)
theorem dX1_follows_16 : decode cX1_follows 16 = .ok (.lconst 0, 1) := dk_9 (dk_at dksX1_follows_0 16 rfl rfl)
theorem dX1_follows_17 : decode cX1_follows 17 = .ok (.ldc2_w 70, 3) := dk_20 0 70 (dk_at dksX1_follows_0 17 rfl rfl)
theorem dX1_follows_20 : decode cX1_follows 20 = .ok (.invokestatic 72, 3) := dk_184 0 72 (dk_at dksX1_follows_0 20 rfl rfl)
theorem dX1_follows_23 : decode cX1_follows 23 = .ok (.ifCond .ne 5, 3) := dk_154 0 5 (dk_at dksX1_follows_1 0 rfl rfl)
theorem dX1_follows_26 : decode cX1_follows 26 = .ok (.iconst (-1), 1) := dk_2 (dk_at dksX1_follows_1 3 rfl rfl)
theorem dX1_follows_27 : decode cX1_follows 27 = .ok (.ireturn, 1) := dk_172 (dk_at dksX1_follows_1 4 rfl rfl)
theorem dX1_follows_28 : decode cX1_follows 28 = .ok (.aload_n 0, 1) := dk_42 (dk_at dksX1_follows_1 5 rfl rfl)
theorem dX1_follows_29 : decode cX1_follows 29 = .ok (.iload_n 1, 1) := dk_27 (dk_at dksX1_follows_1 6 rfl rfl)
theorem dX1_follows_30 : decode cX1_follows 30 = .ok (.invokevirtual 264, 3) := dk_182 1 8 (dk_at dksX1_follows_1 7 rfl rfl)
theorem dX1_follows_33 : decode cX1_follows 33 = .ok (.istore 4, 2) := dk_54 4 (dk_at dksX1_follows_1 10 rfl rfl)
theorem dX1_follows_35 : decode cX1_follows 35 = .ok (.iload 4, 2) := dk_21 4 (dk_at dksX1_follows_1 12 rfl rfl)
theorem dX1_follows_37 : decode cX1_follows 37 = .ok (.ifCond .eq 6, 3) := dk_153 0 6 (dk_at dksX1_follows_1 14 rfl rfl)
theorem dX1_follows_40 : decode cX1_follows 40 = .ok (.iload 4, 2) := dk_21 4 (dk_at dksX1_follows_1 17 rfl rfl)
theorem dX1_follows_42 : decode cX1_follows 42 = .ok (.ireturn, 1) := dk_172 (dk_at dksX1_follows_1 19 rfl rfl)
theorem dX1_follows_43 : decode cX1_follows 43 = .ok (.iconst 0, 1) := dk_3 (dk_at dksX1_follows_1 20 rfl rfl)
theorem dX1_follows_44 : decode cX1_follows 44 = .ok (.istore 5, 2) := dk_54 5 (dk_at dksX1_follows_1 21 rfl rfl)
theorem dX1_follows_46 : decode cX1_follows 46 = .ok (.iconst 0, 1) := dk_3 (dk_at dksX1_follows_1 23 rfl rfl)
theorem dX1_follows_47 : decode cX1_follows 47 = .ok (.istore 6, 2) := dk_54 6 (dk_at dksX1_follows_2 0 rfl rfl)
theorem dX1_follows_49 : decode cX1_follows 49 = .ok (.iconst 0, 1) := dk_3 (dk_at dksX1_follows_2 2 rfl rfl)
theorem dX1_follows_50 : decode cX1_follows 50 = .ok (.istore 7, 2) := dk_54 7 (dk_at dksX1_follows_2 3 rfl rfl)
theorem dX1_follows_52 : decode cX1_follows 52 = .ok (.iload 7, 2) := dk_21 7 (dk_at dksX1_follows_2 5 rfl rfl)
theorem dX1_follows_54 : decode cX1_follows 54 = .ok (.aload_n 0, 1) := dk_42 (dk_at dksX1_follows_2 7 rfl rfl)
theorem dX1_follows_55 : decode cX1_follows 55 = .ok (.getfield 25, 3) := dk_180 0 25 (dk_at dksX1_follows_2 8 rfl rfl)
theorem dX1_follows_58 : decode cX1_follows 58 = .ok (.iload_n 1, 1) := dk_27 (dk_at dksX1_follows_2 11 rfl rfl)
theorem dX1_follows_59 : decode cX1_follows 59 = .ok (.iaload, 1) := dk_46 (dk_at dksX1_follows_2 12 rfl rfl)
theorem dX1_follows_60 : decode cX1_follows 60 = .ok (.iconst 3, 1) := dk_6 (dk_at dksX1_follows_2 13 rfl rfl)
theorem dX1_follows_61 : decode cX1_follows 61 = .ok (.idiv, 1) := dk_108 (dk_at dksX1_follows_2 14 rfl rfl)
theorem dX1_follows_62 : decode cX1_follows 62 = .ok (.if_icmp .ge 109, 3) := dk_162 0 109 (dk_at dksX1_follows_2 15 rfl rfl)
theorem dX1_follows_65 : decode cX1_follows 65 = .ok (.aload_n 0, 1) := dk_42 (dk_at dksX1_follows_2 18 rfl rfl)
theorem dX1_follows_66 : decode cX1_follows 66 = .ok (.iload_n 1, 1) := dk_27 (dk_at dksX1_follows_2 19 rfl rfl)
theorem dX1_follows_67 : decode cX1_follows 67 = .ok (.iload 7, 2) := dk_21 7 (dk_at dksX1_follows_2 20 rfl rfl)
theorem dX1_follows_69 : decode cX1_follows 69 = .ok (.iconst 0, 1) := dk_3 (dk_at dksX1_follows_2 22 rfl rfl)
theorem dX1_follows_70 : decode cX1_follows 70 = .ok (.invokevirtual 261, 3) := dk_182 1 5 (dk_at dksX1_follows_3 0 rfl rfl)
theorem dX1_follows_73 : decode cX1_follows 73 = .ok (.iload_n 2, 1) := dk_28 (dk_at dksX1_follows_3 3 rfl rfl)
theorem dX1_follows_74 : decode cX1_follows 74 = .ok (.if_icmp .ne 7, 3) := dk_160 0 7 (dk_at dksX1_follows_3 4 rfl rfl)
theorem dX1_follows_77 : decode cX1_follows 77 = .ok (.iconst 1, 1) := dk_4 (dk_at dksX1_follows_3 7 rfl rfl)
theorem dX1_follows_78 : decode cX1_follows 78 = .ok (.goto 4, 3) := dk_167 0 4 (dk_at dksX1_follows_3 8 rfl rfl)
theorem dX1_follows_81 : decode cX1_follows 81 = .ok (.iconst 0, 1) := dk_3 (dk_at dksX1_follows_3 11 rfl rfl)
theorem dX1_follows_82 : decode cX1_follows 82 = .ok (.istore 8, 2) := dk_54 8 (dk_at dksX1_follows_3 12 rfl rfl)
theorem dX1_follows_84 : decode cX1_follows 84 = .ok (.iload 5, 2) := dk_21 5 (dk_at dksX1_follows_3 14 rfl rfl)
theorem dX1_follows_86 : decode cX1_follows 86 = .ok (.ifCond .ne 32, 3) := dk_154 0 32 (dk_at dksX1_follows_3 16 rfl rfl)
theorem dX1_follows_89 : decode cX1_follows 89 = .ok (.iload 8, 2) := dk_21 8 (dk_at dksX1_follows_3 19 rfl rfl)
theorem dX1_follows_91 : decode cX1_follows 91 = .ok (.ifCond .eq 31, 3) := dk_153 0 31 (dk_at dksX1_follows_3 21 rfl rfl)
theorem dX1_follows_94 : decode cX1_follows 94 = .ok (.aload_n 0, 1) := dk_42 (dk_at dksX1_follows_4 0 rfl rfl)
theorem dX1_follows_95 : decode cX1_follows 95 = .ok (.iload_n 1, 1) := dk_27 (dk_at dksX1_follows_4 1 rfl rfl)
theorem dX1_follows_96 : decode cX1_follows 96 = .ok (.iload 7, 2) := dk_21 7 (dk_at dksX1_follows_4 2 rfl rfl)
theorem dX1_follows_98 : decode cX1_follows 98 = .ok (.iconst 2, 1) := dk_5 (dk_at dksX1_follows_4 4 rfl rfl)
theorem dX1_follows_99 : decode cX1_follows 99 = .ok (.invokevirtual 261, 3) := dk_182 1 5 (dk_at dksX1_follows_4 5 rfl rfl)
theorem dX1_follows_102 : decode cX1_follows 102 = .ok (.iconst 1, 1) := dk_4 (dk_at dksX1_follows_4 8 rfl rfl)
theorem dX1_follows_103 : decode cX1_follows 103 = .ok (.if_icmp .ne 19, 3) := dk_160 0 19 (dk_at dksX1_follows_4 9 rfl rfl)
theorem dX1_follows_106 : decode cX1_follows 106 = .ok (.aload_n 0, 1) := dk_42 (dk_at dksX1_follows_4 12 rfl rfl)
theorem dX1_follows_107 : decode cX1_follows 107 = .ok (.iload_n 1, 1) := dk_27 (dk_at dksX1_follows_4 13 rfl rfl)
theorem dX1_follows_108 : decode cX1_follows 108 = .ok (.iload 7, 2) := dk_21 7 (dk_at dksX1_follows_4 14 rfl rfl)
theorem dX1_follows_110 : decode cX1_follows 110 = .ok (.iconst 1, 1) := dk_4 (dk_at dksX1_follows_4 16 rfl rfl)
theorem dX1_follows_111 : decode cX1_follows 111 = .ok (.invokevirtual 261, 3) := dk_182 1 5 (dk_at dksX1_follows_4 17 rfl rfl)
theorem dX1_follows_114 : decode cX1_follows 114 = .ok (.iload_n 3, 1) := dk_29 (dk_at dksX1_follows_4 20 rfl rfl)
theorem dX1_follows_115 : decode cX1_follows 115 = .ok (.if_icmp .gt 7, 3) := dk_163 0 7 (dk_at dksX1_follows_4 21 rfl rfl)
theorem dX1_follows_118 : decode cX1_follows 118 = .ok (.iconst 1, 1) := dk_4 (dk_at dksX1_follows_5 0 rfl rfl)
theorem dX1_follows_119 : decode cX1_follows 119 = .ok (.goto 4, 3) := dk_167 0 4 (dk_at dksX1_follows_5 1 rfl rfl)
theorem dX1_follows_122 : decode cX1_follows 122 = .ok (.iconst 0, 1) := dk_3 (dk_at dksX1_follows_5 4 rfl rfl)
theorem dX1_follows_123 : decode cX1_follows 123 = .ok (.istore 5, 2) := dk_54 5 (dk_at dksX1_follows_5 5 rfl rfl)
theorem dX1_follows_125 : decode cX1_follows 125 = .ok (.iload 6, 2) := dk_21 6 (dk_at dksX1_follows_5 7 rfl rfl)
theorem dX1_follows_127 : decode cX1_follows 127 = .ok (.ifCond .ne 31, 3) := dk_154 0 31 (dk_at dksX1_follows_5 9 rfl rfl)
theorem dX1_follows_130 : decode cX1_follows 130 = .ok (.iload 8, 2) := dk_21 8 (dk_at dksX1_follows_5 12 rfl rfl)
theorem dX1_follows_132 : decode cX1_follows 132 = .ok (.ifCond .eq 30, 3) := dk_153 0 30 (dk_at dksX1_follows_5 14 rfl rfl)
theorem dX1_follows_135 : decode cX1_follows 135 = .ok (.aload_n 0, 1) := dk_42 (dk_at dksX1_follows_5 17 rfl rfl)
theorem dX1_follows_136 : decode cX1_follows 136 = .ok (.iload_n 1, 1) := dk_27 (dk_at dksX1_follows_5 18 rfl rfl)
theorem dX1_follows_137 : decode cX1_follows 137 = .ok (.iload 7, 2) := dk_21 7 (dk_at dksX1_follows_5 19 rfl rfl)
theorem dX1_follows_139 : decode cX1_follows 139 = .ok (.iconst 2, 1) := dk_5 (dk_at dksX1_follows_5 21 rfl rfl)
theorem dX1_follows_140 : decode cX1_follows 140 = .ok (.invokevirtual 261, 3) := dk_182 1 5 (dk_at dksX1_follows_6 0 rfl rfl)
theorem dX1_follows_143 : decode cX1_follows 143 = .ok (.ifCond .ne 19, 3) := dk_154 0 19 (dk_at dksX1_follows_6 3 rfl rfl)
theorem dX1_follows_146 : decode cX1_follows 146 = .ok (.aload_n 0, 1) := dk_42 (dk_at dksX1_follows_6 6 rfl rfl)
theorem dX1_follows_147 : decode cX1_follows 147 = .ok (.iload_n 1, 1) := dk_27 (dk_at dksX1_follows_6 7 rfl rfl)
theorem dX1_follows_148 : decode cX1_follows 148 = .ok (.iload 7, 2) := dk_21 7 (dk_at dksX1_follows_6 8 rfl rfl)
theorem dX1_follows_150 : decode cX1_follows 150 = .ok (.iconst 1, 1) := dk_4 (dk_at dksX1_follows_6 10 rfl rfl)
theorem dX1_follows_151 : decode cX1_follows 151 = .ok (.invokevirtual 261, 3) := dk_182 1 5 (dk_at dksX1_follows_6 11 rfl rfl)
theorem dX1_follows_154 : decode cX1_follows 154 = .ok (.iload_n 3, 1) := dk_29 (dk_at dksX1_follows_6 14 rfl rfl)
theorem dX1_follows_155 : decode cX1_follows 155 = .ok (.if_icmp .lt 7, 3) := dk_161 0 7 (dk_at dksX1_follows_6 15 rfl rfl)
theorem dX1_follows_158 : decode cX1_follows 158 = .ok (.iconst 1, 1) := dk_4 (dk_at dksX1_follows_6 18 rfl rfl)
theorem dX1_follows_159 : decode cX1_follows 159 = .ok (.goto 4, 3) := dk_167 0 4 (dk_at dksX1_follows_6 19 rfl rfl)
theorem dX1_follows_162 : decode cX1_follows 162 = .ok (.iconst 0, 1) := dk_3 (dk_at dksX1_follows_6 22 rfl rfl)
theorem dX1_follows_163 : decode cX1_follows 163 = .ok (.istore 6, 2) := dk_54 6 (dk_at dksX1_follows_7 0 rfl rfl)
theorem dX1_follows_165 : decode cX1_follows 165 = .ok (.iinc 7 1, 3) := dk_132 7 1 (dk_at dksX1_follows_7 2 rfl rfl)
theorem dX1_follows_168 : decode cX1_follows 168 = .ok (.goto (-116), 3) := dk_167 255 140 (dk_at dksX1_follows_7 5 rfl rfl)
theorem dX1_follows_171 : decode cX1_follows 171 = .ok (.iload 5, 2) := dk_21 5 (dk_at dksX1_follows_7 8 rfl rfl)
theorem dX1_follows_173 : decode cX1_follows 173 = .ok (.ifCond .eq 7, 3) := dk_153 0 7 (dk_at dksX1_follows_7 10 rfl rfl)
theorem dX1_follows_176 : decode cX1_follows 176 = .ok (.iconst 1, 1) := dk_4 (dk_at dksX1_follows_7 13 rfl rfl)
theorem dX1_follows_177 : decode cX1_follows 177 = .ok (.goto 14, 3) := dk_167 0 14 (dk_at dksX1_follows_7 14 rfl rfl)
theorem dX1_follows_180 : decode cX1_follows 180 = .ok (.iload 6, 2) := dk_21 6 (dk_at dksX1_follows_7 17 rfl rfl)
theorem dX1_follows_182 : decode cX1_follows 182 = .ok (.ifCond .eq 7, 3) := dk_153 0 7 (dk_at dksX1_follows_7 19 rfl rfl)
theorem dX1_follows_185 : decode cX1_follows 185 = .ok (.iconst 0, 1) := dk_3 (dk_at dksX1_follows_7 22 rfl rfl)
theorem dX1_follows_186 : decode cX1_follows 186 = .ok (.goto 5, 3) := dk_167 0 5 (dk_at dksX1_follows_8 0 rfl rfl)
theorem dX1_follows_189 : decode cX1_follows 189 = .ok (.bipush (-9), 2) := dk_16 247 (dk_at dksX1_follows_8 3 rfl rfl)
theorem dX1_follows_191 : decode cX1_follows 191 = .ok (.ireturn, 1) := dk_172 (dk_at dksX1_follows_8 5 rfl rfl)
abbrev cX1_borders : ByteArray := prog_10_method_93_code
def yX1_borders : MethodName := ⟨RX1, "borders", "(II)I"⟩
def dkwX1_borders_6 : List UInt8 := [167, 0, 4, 3, 128, 54, 4, 132, 5, 1, 167, 255, 141, 21, 4, 172]
abbrev dktX1_borders_6 : List UInt8 := dkwX1_borders_6 ++ []
def dkwX1_borders_5 : List UInt8 := [167, 0, 4, 3, 54, 6, 132, 7, 1, 167, 255, 178, 21, 4, 21, 6, 153, 0, 10, 4, 21, 5, 120]
abbrev dktX1_borders_5 : List UInt8 := dkwX1_borders_5 ++ dktX1_borders_6
def dkwX1_borders_4 : List UInt8 := [3, 42, 27, 21, 7, 5, 182, 1, 5, 4, 160, 0, 7, 4, 167, 0, 4, 3, 160, 0, 7, 4]
abbrev dktX1_borders_4 : List UInt8 := dkwX1_borders_4 ++ dktX1_borders_5
def dkwX1_borders_3 : List UInt8 := [182, 1, 5, 28, 160, 0, 41, 42, 27, 21, 7, 4, 182, 1, 5, 21, 5, 161, 0, 7, 4, 167, 0, 4]
abbrev dktX1_borders_3 : List UInt8 := dkwX1_borders_3 ++ dktX1_borders_4
def dkwX1_borders_2 : List UInt8 := [21, 7, 42, 180, 0, 25, 27, 46, 6, 108, 162, 0, 71, 21, 6, 153, 0, 57, 42, 27, 21, 7, 3]
abbrev dktX1_borders_2 : List UInt8 := dkwX1_borders_2 ++ dktX1_borders_3
def dkwX1_borders_1 : List UInt8 := [153, 0, 5, 29, 172, 3, 54, 4, 4, 54, 5, 21, 5, 16, 6, 162, 0, 114, 4, 54, 6, 3, 54, 7]
abbrev dktX1_borders_1 : List UInt8 := dkwX1_borders_1 ++ dktX1_borders_2
def dkwX1_borders_0 : List UInt8 := [27, 184, 0, 78, 153, 0, 10, 28, 184, 0, 209, 154, 0, 5, 2, 172, 42, 27, 182, 1, 8, 62, 29]
abbrev dktX1_borders_0 : List UInt8 := dkwX1_borders_0 ++ dktX1_borders_1
theorem dksX1_borders_0 : cX1_borders.data.toList.drop 0 = dktX1_borders_0 := by decide +kernel
theorem dksX1_borders_1 : cX1_borders.data.toList.drop 23 = dktX1_borders_1 := dk_seg dksX1_borders_0 23 rfl rfl
theorem dksX1_borders_2 : cX1_borders.data.toList.drop 47 = dktX1_borders_2 := dk_seg dksX1_borders_1 24 rfl rfl
theorem dksX1_borders_3 : cX1_borders.data.toList.drop 70 = dktX1_borders_3 := dk_seg dksX1_borders_2 23 rfl rfl
theorem dksX1_borders_4 : cX1_borders.data.toList.drop 94 = dktX1_borders_4 := dk_seg dksX1_borders_3 24 rfl rfl
theorem dksX1_borders_5 : cX1_borders.data.toList.drop 116 = dktX1_borders_5 := dk_seg dksX1_borders_4 22 rfl rfl
theorem dksX1_borders_6 : cX1_borders.data.toList.drop 139 = dktX1_borders_6 := dk_seg dksX1_borders_5 23 rfl rfl
theorem dX1_borders_0 : decode cX1_borders 0 = .ok (.iload_n 1, 1) := dk_27 (dk_at dksX1_borders_0 0 rfl rfl)
theorem dX1_borders_1 : decode cX1_borders 1 = .ok (.invokestatic 78, 3) := dk_184 0 78 (dk_at dksX1_borders_0 1 rfl rfl)
theorem dX1_borders_4 : decode cX1_borders 4 = .ok (.ifCond .eq 10, 3) := dk_153 0 10 (dk_at dksX1_borders_0 4 rfl rfl)
theorem dX1_borders_7 : decode cX1_borders 7 = .ok (.iload_n 2, 1) := dk_28 (dk_at dksX1_borders_0 7 rfl rfl)
theorem dX1_borders_8 : decode cX1_borders 8 = .ok (.invokestatic 209, 3) := dk_184 0 209 (dk_at dksX1_borders_0 8 rfl rfl)
theorem dX1_borders_11 : decode cX1_borders 11 = .ok (.ifCond .ne 5, 3) := dk_154 0 5 (dk_at dksX1_borders_0 11 rfl rfl)
theorem dX1_borders_14 : decode cX1_borders 14 = .ok (.iconst (-1), 1) := dk_2 (dk_at dksX1_borders_0 14 rfl rfl)
theorem dX1_borders_15 : decode cX1_borders 15 = .ok (.ireturn, 1) := dk_172 (dk_at dksX1_borders_0 15 rfl rfl)
theorem dX1_borders_16 : decode cX1_borders 16 = .ok (.aload_n 0, 1) := dk_42 (dk_at dksX1_borders_0 16 rfl rfl)
theorem dX1_borders_17 : decode cX1_borders 17 = .ok (.iload_n 1, 1) := dk_27 (dk_at dksX1_borders_0 17 rfl rfl)
theorem dX1_borders_18 : decode cX1_borders 18 = .ok (.invokevirtual 264, 3) := dk_182 1 8 (dk_at dksX1_borders_0 18 rfl rfl)
theorem dX1_borders_21 : decode cX1_borders 21 = .ok (.istore_n 3, 1) := dk_62 (dk_at dksX1_borders_0 21 rfl rfl)
theorem dX1_borders_22 : decode cX1_borders 22 = .ok (.iload_n 3, 1) := dk_29 (dk_at dksX1_borders_0 22 rfl rfl)
theorem dX1_borders_23 : decode cX1_borders 23 = .ok (.ifCond .eq 5, 3) := dk_153 0 5 (dk_at dksX1_borders_1 0 rfl rfl)
theorem dX1_borders_26 : decode cX1_borders 26 = .ok (.iload_n 3, 1) := dk_29 (dk_at dksX1_borders_1 3 rfl rfl)
theorem dX1_borders_27 : decode cX1_borders 27 = .ok (.ireturn, 1) := dk_172 (dk_at dksX1_borders_1 4 rfl rfl)
theorem dX1_borders_28 : decode cX1_borders 28 = .ok (.iconst 0, 1) := dk_3 (dk_at dksX1_borders_1 5 rfl rfl)
theorem dX1_borders_29 : decode cX1_borders 29 = .ok (.istore 4, 2) := dk_54 4 (dk_at dksX1_borders_1 6 rfl rfl)
theorem dX1_borders_31 : decode cX1_borders 31 = .ok (.iconst 1, 1) := dk_4 (dk_at dksX1_borders_1 8 rfl rfl)
theorem dX1_borders_32 : decode cX1_borders 32 = .ok (.istore 5, 2) := dk_54 5 (dk_at dksX1_borders_1 9 rfl rfl)
theorem dX1_borders_34 : decode cX1_borders 34 = .ok (.iload 5, 2) := dk_21 5 (dk_at dksX1_borders_1 11 rfl rfl)
theorem dX1_borders_36 : decode cX1_borders 36 = .ok (.bipush 6, 2) := dk_16 6 (dk_at dksX1_borders_1 13 rfl rfl)
theorem dX1_borders_38 : decode cX1_borders 38 = .ok (.if_icmp .ge 114, 3) := dk_162 0 114 (dk_at dksX1_borders_1 15 rfl rfl)
theorem dX1_borders_41 : decode cX1_borders 41 = .ok (.iconst 1, 1) := dk_4 (dk_at dksX1_borders_1 18 rfl rfl)
theorem dX1_borders_42 : decode cX1_borders 42 = .ok (.istore 6, 2) := dk_54 6 (dk_at dksX1_borders_1 19 rfl rfl)
theorem dX1_borders_44 : decode cX1_borders 44 = .ok (.iconst 0, 1) := dk_3 (dk_at dksX1_borders_1 21 rfl rfl)
theorem dX1_borders_45 : decode cX1_borders 45 = .ok (.istore 7, 2) := dk_54 7 (dk_at dksX1_borders_1 22 rfl rfl)
theorem dX1_borders_47 : decode cX1_borders 47 = .ok (.iload 7, 2) := dk_21 7 (dk_at dksX1_borders_2 0 rfl rfl)
theorem dX1_borders_49 : decode cX1_borders 49 = .ok (.aload_n 0, 1) := dk_42 (dk_at dksX1_borders_2 2 rfl rfl)
theorem dX1_borders_50 : decode cX1_borders 50 = .ok (.getfield 25, 3) := dk_180 0 25 (dk_at dksX1_borders_2 3 rfl rfl)
theorem dX1_borders_53 : decode cX1_borders 53 = .ok (.iload_n 1, 1) := dk_27 (dk_at dksX1_borders_2 6 rfl rfl)
theorem dX1_borders_54 : decode cX1_borders 54 = .ok (.iaload, 1) := dk_46 (dk_at dksX1_borders_2 7 rfl rfl)
theorem dX1_borders_55 : decode cX1_borders 55 = .ok (.iconst 3, 1) := dk_6 (dk_at dksX1_borders_2 8 rfl rfl)
theorem dX1_borders_56 : decode cX1_borders 56 = .ok (.idiv, 1) := dk_108 (dk_at dksX1_borders_2 9 rfl rfl)
theorem dX1_borders_57 : decode cX1_borders 57 = .ok (.if_icmp .ge 71, 3) := dk_162 0 71 (dk_at dksX1_borders_2 10 rfl rfl)
theorem dX1_borders_60 : decode cX1_borders 60 = .ok (.iload 6, 2) := dk_21 6 (dk_at dksX1_borders_2 13 rfl rfl)
theorem dX1_borders_62 : decode cX1_borders 62 = .ok (.ifCond .eq 57, 3) := dk_153 0 57 (dk_at dksX1_borders_2 15 rfl rfl)
theorem dX1_borders_65 : decode cX1_borders 65 = .ok (.aload_n 0, 1) := dk_42 (dk_at dksX1_borders_2 18 rfl rfl)
theorem dX1_borders_66 : decode cX1_borders 66 = .ok (.iload_n 1, 1) := dk_27 (dk_at dksX1_borders_2 19 rfl rfl)
theorem dX1_borders_67 : decode cX1_borders 67 = .ok (.iload 7, 2) := dk_21 7 (dk_at dksX1_borders_2 20 rfl rfl)
theorem dX1_borders_69 : decode cX1_borders 69 = .ok (.iconst 0, 1) := dk_3 (dk_at dksX1_borders_2 22 rfl rfl)
theorem dX1_borders_70 : decode cX1_borders 70 = .ok (.invokevirtual 261, 3) := dk_182 1 5 (dk_at dksX1_borders_3 0 rfl rfl)
theorem dX1_borders_73 : decode cX1_borders 73 = .ok (.iload_n 2, 1) := dk_28 (dk_at dksX1_borders_3 3 rfl rfl)
theorem dX1_borders_74 : decode cX1_borders 74 = .ok (.if_icmp .ne 41, 3) := dk_160 0 41 (dk_at dksX1_borders_3 4 rfl rfl)
theorem dX1_borders_77 : decode cX1_borders 77 = .ok (.aload_n 0, 1) := dk_42 (dk_at dksX1_borders_3 7 rfl rfl)
theorem dX1_borders_78 : decode cX1_borders 78 = .ok (.iload_n 1, 1) := dk_27 (dk_at dksX1_borders_3 8 rfl rfl)
theorem dX1_borders_79 : decode cX1_borders 79 = .ok (.iload 7, 2) := dk_21 7 (dk_at dksX1_borders_3 9 rfl rfl)
theorem dX1_borders_81 : decode cX1_borders 81 = .ok (.iconst 1, 1) := dk_4 (dk_at dksX1_borders_3 11 rfl rfl)
theorem dX1_borders_82 : decode cX1_borders 82 = .ok (.invokevirtual 261, 3) := dk_182 1 5 (dk_at dksX1_borders_3 12 rfl rfl)
theorem dX1_borders_85 : decode cX1_borders 85 = .ok (.iload 5, 2) := dk_21 5 (dk_at dksX1_borders_3 15 rfl rfl)
theorem dX1_borders_87 : decode cX1_borders 87 = .ok (.if_icmp .lt 7, 3) := dk_161 0 7 (dk_at dksX1_borders_3 17 rfl rfl)
theorem dX1_borders_90 : decode cX1_borders 90 = .ok (.iconst 1, 1) := dk_4 (dk_at dksX1_borders_3 20 rfl rfl)
theorem dX1_borders_91 : decode cX1_borders 91 = .ok (.goto 4, 3) := dk_167 0 4 (dk_at dksX1_borders_3 21 rfl rfl)
theorem dX1_borders_94 : decode cX1_borders 94 = .ok (.iconst 0, 1) := dk_3 (dk_at dksX1_borders_4 0 rfl rfl)
theorem dX1_borders_95 : decode cX1_borders 95 = .ok (.aload_n 0, 1) := dk_42 (dk_at dksX1_borders_4 1 rfl rfl)
theorem dX1_borders_96 : decode cX1_borders 96 = .ok (.iload_n 1, 1) := dk_27 (dk_at dksX1_borders_4 2 rfl rfl)
theorem dX1_borders_97 : decode cX1_borders 97 = .ok (.iload 7, 2) := dk_21 7 (dk_at dksX1_borders_4 3 rfl rfl)
theorem dX1_borders_99 : decode cX1_borders 99 = .ok (.iconst 2, 1) := dk_5 (dk_at dksX1_borders_4 5 rfl rfl)
theorem dX1_borders_100 : decode cX1_borders 100 = .ok (.invokevirtual 261, 3) := dk_182 1 5 (dk_at dksX1_borders_4 6 rfl rfl)
theorem dX1_borders_103 : decode cX1_borders 103 = .ok (.iconst 1, 1) := dk_4 (dk_at dksX1_borders_4 9 rfl rfl)
theorem dX1_borders_104 : decode cX1_borders 104 = .ok (.if_icmp .ne 7, 3) := dk_160 0 7 (dk_at dksX1_borders_4 10 rfl rfl)
theorem dX1_borders_107 : decode cX1_borders 107 = .ok (.iconst 1, 1) := dk_4 (dk_at dksX1_borders_4 13 rfl rfl)
theorem dX1_borders_108 : decode cX1_borders 108 = .ok (.goto 4, 3) := dk_167 0 4 (dk_at dksX1_borders_4 14 rfl rfl)
theorem dX1_borders_111 : decode cX1_borders 111 = .ok (.iconst 0, 1) := dk_3 (dk_at dksX1_borders_4 17 rfl rfl)
theorem dX1_borders_112 : decode cX1_borders 112 = .ok (.if_icmp .ne 7, 3) := dk_160 0 7 (dk_at dksX1_borders_4 18 rfl rfl)
theorem dX1_borders_115 : decode cX1_borders 115 = .ok (.iconst 1, 1) := dk_4 (dk_at dksX1_borders_4 21 rfl rfl)
theorem dX1_borders_116 : decode cX1_borders 116 = .ok (.goto 4, 3) := dk_167 0 4 (dk_at dksX1_borders_5 0 rfl rfl)
theorem dX1_borders_119 : decode cX1_borders 119 = .ok (.iconst 0, 1) := dk_3 (dk_at dksX1_borders_5 3 rfl rfl)
theorem dX1_borders_120 : decode cX1_borders 120 = .ok (.istore 6, 2) := dk_54 6 (dk_at dksX1_borders_5 4 rfl rfl)
theorem dX1_borders_122 : decode cX1_borders 122 = .ok (.iinc 7 1, 3) := dk_132 7 1 (dk_at dksX1_borders_5 6 rfl rfl)
theorem dX1_borders_125 : decode cX1_borders 125 = .ok (.goto (-78), 3) := dk_167 255 178 (dk_at dksX1_borders_5 9 rfl rfl)
theorem dX1_borders_128 : decode cX1_borders 128 = .ok (.iload 4, 2) := dk_21 4 (dk_at dksX1_borders_5 12 rfl rfl)
theorem dX1_borders_130 : decode cX1_borders 130 = .ok (.iload 6, 2) := dk_21 6 (dk_at dksX1_borders_5 14 rfl rfl)
theorem dX1_borders_132 : decode cX1_borders 132 = .ok (.ifCond .eq 10, 3) := dk_153 0 10 (dk_at dksX1_borders_5 16 rfl rfl)
theorem dX1_borders_135 : decode cX1_borders 135 = .ok (.iconst 1, 1) := dk_4 (dk_at dksX1_borders_5 19 rfl rfl)
theorem dX1_borders_136 : decode cX1_borders 136 = .ok (.iload 5, 2) := dk_21 5 (dk_at dksX1_borders_5 20 rfl rfl)
theorem dX1_borders_138 : decode cX1_borders 138 = .ok (.ishl, 1) := dk_120 (dk_at dksX1_borders_5 22 rfl rfl)
theorem dX1_borders_139 : decode cX1_borders 139 = .ok (.goto 4, 3) := dk_167 0 4 (dk_at dksX1_borders_6 0 rfl rfl)
theorem dX1_borders_142 : decode cX1_borders 142 = .ok (.iconst 0, 1) := dk_3 (dk_at dksX1_borders_6 3 rfl rfl)
theorem dX1_borders_143 : decode cX1_borders 143 = .ok (.ior, 1) := dk_128 (dk_at dksX1_borders_6 4 rfl rfl)
theorem dX1_borders_144 : decode cX1_borders 144 = .ok (.istore 4, 2) := dk_54 4 (dk_at dksX1_borders_6 5 rfl rfl)
theorem dX1_borders_146 : decode cX1_borders 146 = .ok (.iinc 5 1, 3) := dk_132 5 1 (dk_at dksX1_borders_6 7 rfl rfl)
theorem dX1_borders_149 : decode cX1_borders 149 = .ok (.goto (-115), 3) := dk_167 255 141 (dk_at dksX1_borders_6 10 rfl rfl)
theorem dX1_borders_152 : decode cX1_borders 152 = .ok (.iload 4, 2) := dk_21 4 (dk_at dksX1_borders_6 13 rfl rfl)
theorem dX1_borders_154 : decode cX1_borders 154 = .ok (.ireturn, 1) := dk_172 (dk_at dksX1_borders_6 15 rfl rfl)
abbrev cX1_worth : ByteArray := prog_10_method_94_code
def yX1_worth : MethodName := ⟨RX1, "worth", "(I)I"⟩
def dkwX1_worth_4 : List UInt8 := [182, 0, 232, 42, 29, 182, 0, 232, 100, 172]
abbrev dktX1_worth_4 : List UInt8 := dkwX1_worth_4 ++ []
def dkwX1_worth_3 : List UInt8 := [16, 247, 160, 0, 8, 16, 247, 167, 0, 26, 28, 16, 247, 160, 0, 9, 17, 3, 232, 167, 0, 14, 42, 28]
abbrev dktX1_worth_3 : List UInt8 := dkwX1_worth_3 ++ dktX1_worth_4
def dkwX1_worth_2 : List UInt8 := [4, 27, 120, 130, 79, 42, 4, 182, 0, 241, 62, 42, 180, 0, 7, 4, 92, 46, 4, 27, 120, 130, 79, 29]
abbrev dktX1_worth_2 : List UInt8 := dkwX1_worth_2 ++ dktX1_worth_3
def dkwX1_worth_1 : List UInt8 := [4, 46, 27, 184, 0, 153, 154, 0, 5, 3, 172, 42, 4, 182, 0, 241, 61, 42, 180, 0, 7, 4, 92, 46]
abbrev dktX1_worth_1 : List UInt8 := dkwX1_worth_1 ++ dktX1_worth_2
def dkwX1_worth_0 : List UInt8 := [42, 27, 182, 0, 194, 154, 0, 5, 2, 172, 42, 180, 0, 147, 154, 0, 6, 16, 252, 172, 42, 180, 0, 7]
abbrev dktX1_worth_0 : List UInt8 := dkwX1_worth_0 ++ dktX1_worth_1
theorem dksX1_worth_0 : cX1_worth.data.toList.drop 0 = dktX1_worth_0 := by decide +kernel
theorem dksX1_worth_1 : cX1_worth.data.toList.drop 24 = dktX1_worth_1 := dk_seg dksX1_worth_0 24 rfl rfl
theorem dksX1_worth_2 : cX1_worth.data.toList.drop 48 = dktX1_worth_2 := dk_seg dksX1_worth_1 24 rfl rfl
theorem dksX1_worth_3 : cX1_worth.data.toList.drop 72 = dktX1_worth_3 := dk_seg dksX1_worth_2 24 rfl rfl
theorem dksX1_worth_4 : cX1_worth.data.toList.drop 96 = dktX1_worth_4 := dk_seg dksX1_worth_3 24 rfl rfl
theorem dX1_worth_0 : decode cX1_worth 0 = .ok (.aload_n 0, 1) := dk_42 (dk_at dksX1_worth_0 0 rfl rfl)
theorem dX1_worth_1 : decode cX1_worth 1 = .ok (.iload_n 1, 1) := dk_27 (dk_at dksX1_worth_0 1 rfl rfl)
theorem dX1_worth_2 : decode cX1_worth 2 = .ok (.invokevirtual 194, 3) := dk_182 0 194 (dk_at dksX1_worth_0 2 rfl rfl)
theorem dX1_worth_5 : decode cX1_worth 5 = .ok (.ifCond .ne 5, 3) := dk_154 0 5 (dk_at dksX1_worth_0 5 rfl rfl)
theorem dX1_worth_8 : decode cX1_worth 8 = .ok (.iconst (-1), 1) := dk_2 (dk_at dksX1_worth_0 8 rfl rfl)
theorem dX1_worth_9 : decode cX1_worth 9 = .ok (.ireturn, 1) := dk_172 (dk_at dksX1_worth_0 9 rfl rfl)
theorem dX1_worth_10 : decode cX1_worth 10 = .ok (.aload_n 0, 1) := dk_42 (dk_at dksX1_worth_0 10 rfl rfl)
theorem dX1_worth_11 : decode cX1_worth 11 = .ok (.getfield 147, 3) := dk_180 0 147 (dk_at dksX1_worth_0 11 rfl rfl)
theorem dX1_worth_14 : decode cX1_worth 14 = .ok (.ifCond .ne 6, 3) := dk_154 0 6 (dk_at dksX1_worth_0 14 rfl rfl)
theorem dX1_worth_17 : decode cX1_worth 17 = .ok (.bipush (-4), 2) := dk_16 252 (dk_at dksX1_worth_0 17 rfl rfl)
theorem dX1_worth_19 : decode cX1_worth 19 = .ok (.ireturn, 1) := dk_172 (dk_at dksX1_worth_0 19 rfl rfl)
theorem dX1_worth_20 : decode cX1_worth 20 = .ok (.aload_n 0, 1) := dk_42 (dk_at dksX1_worth_0 20 rfl rfl)
theorem dX1_worth_21 : decode cX1_worth 21 = .ok (.getfield 7, 3) := dk_180 0 7 (dk_at dksX1_worth_0 21 rfl rfl)
theorem dX1_worth_24 : decode cX1_worth 24 = .ok (.iconst 1, 1) := dk_4 (dk_at dksX1_worth_1 0 rfl rfl)
theorem dX1_worth_25 : decode cX1_worth 25 = .ok (.iaload, 1) := dk_46 (dk_at dksX1_worth_1 1 rfl rfl)
theorem dX1_worth_26 : decode cX1_worth 26 = .ok (.iload_n 1, 1) := dk_27 (dk_at dksX1_worth_1 2 rfl rfl)
theorem dX1_worth_27 : decode cX1_worth 27 = .ok (.invokestatic 153, 3) := dk_184 0 153 (dk_at dksX1_worth_1 3 rfl rfl)
theorem dX1_worth_30 : decode cX1_worth 30 = .ok (.ifCond .ne 5, 3) := dk_154 0 5 (dk_at dksX1_worth_1 6 rfl rfl)
theorem dX1_worth_33 : decode cX1_worth 33 = .ok (.iconst 0, 1) := dk_3 (dk_at dksX1_worth_1 9 rfl rfl)
theorem dX1_worth_34 : decode cX1_worth 34 = .ok (.ireturn, 1) := dk_172 (dk_at dksX1_worth_1 10 rfl rfl)
theorem dX1_worth_35 : decode cX1_worth 35 = .ok (.aload_n 0, 1) := dk_42 (dk_at dksX1_worth_1 11 rfl rfl)
theorem dX1_worth_36 : decode cX1_worth 36 = .ok (.iconst 1, 1) := dk_4 (dk_at dksX1_worth_1 12 rfl rfl)
theorem dX1_worth_37 : decode cX1_worth 37 = .ok (.invokevirtual 241, 3) := dk_182 0 241 (dk_at dksX1_worth_1 13 rfl rfl)
theorem dX1_worth_40 : decode cX1_worth 40 = .ok (.istore_n 2, 1) := dk_61 (dk_at dksX1_worth_1 16 rfl rfl)
theorem dX1_worth_41 : decode cX1_worth 41 = .ok (.aload_n 0, 1) := dk_42 (dk_at dksX1_worth_1 17 rfl rfl)
theorem dX1_worth_42 : decode cX1_worth 42 = .ok (.getfield 7, 3) := dk_180 0 7 (dk_at dksX1_worth_1 18 rfl rfl)
theorem dX1_worth_45 : decode cX1_worth 45 = .ok (.iconst 1, 1) := dk_4 (dk_at dksX1_worth_1 21 rfl rfl)
theorem dX1_worth_46 : decode cX1_worth 46 = .ok (.dup2, 1) := dk_92 (dk_at dksX1_worth_1 22 rfl rfl)
theorem dX1_worth_47 : decode cX1_worth 47 = .ok (.iaload, 1) := dk_46 (dk_at dksX1_worth_1 23 rfl rfl)
theorem dX1_worth_48 : decode cX1_worth 48 = .ok (.iconst 1, 1) := dk_4 (dk_at dksX1_worth_2 0 rfl rfl)
theorem dX1_worth_49 : decode cX1_worth 49 = .ok (.iload_n 1, 1) := dk_27 (dk_at dksX1_worth_2 1 rfl rfl)
theorem dX1_worth_50 : decode cX1_worth 50 = .ok (.ishl, 1) := dk_120 (dk_at dksX1_worth_2 2 rfl rfl)
theorem dX1_worth_51 : decode cX1_worth 51 = .ok (.ixor, 1) := dk_130 (dk_at dksX1_worth_2 3 rfl rfl)
theorem dX1_worth_52 : decode cX1_worth 52 = .ok (.iastore, 1) := dk_79 (dk_at dksX1_worth_2 4 rfl rfl)
theorem dX1_worth_53 : decode cX1_worth 53 = .ok (.aload_n 0, 1) := dk_42 (dk_at dksX1_worth_2 5 rfl rfl)
theorem dX1_worth_54 : decode cX1_worth 54 = .ok (.iconst 1, 1) := dk_4 (dk_at dksX1_worth_2 6 rfl rfl)
theorem dX1_worth_55 : decode cX1_worth 55 = .ok (.invokevirtual 241, 3) := dk_182 0 241 (dk_at dksX1_worth_2 7 rfl rfl)
theorem dX1_worth_58 : decode cX1_worth 58 = .ok (.istore_n 3, 1) := dk_62 (dk_at dksX1_worth_2 10 rfl rfl)
theorem dX1_worth_59 : decode cX1_worth 59 = .ok (.aload_n 0, 1) := dk_42 (dk_at dksX1_worth_2 11 rfl rfl)
theorem dX1_worth_60 : decode cX1_worth 60 = .ok (.getfield 7, 3) := dk_180 0 7 (dk_at dksX1_worth_2 12 rfl rfl)
theorem dX1_worth_63 : decode cX1_worth 63 = .ok (.iconst 1, 1) := dk_4 (dk_at dksX1_worth_2 15 rfl rfl)
theorem dX1_worth_64 : decode cX1_worth 64 = .ok (.dup2, 1) := dk_92 (dk_at dksX1_worth_2 16 rfl rfl)
theorem dX1_worth_65 : decode cX1_worth 65 = .ok (.iaload, 1) := dk_46 (dk_at dksX1_worth_2 17 rfl rfl)
theorem dX1_worth_66 : decode cX1_worth 66 = .ok (.iconst 1, 1) := dk_4 (dk_at dksX1_worth_2 18 rfl rfl)
theorem dX1_worth_67 : decode cX1_worth 67 = .ok (.iload_n 1, 1) := dk_27 (dk_at dksX1_worth_2 19 rfl rfl)
theorem dX1_worth_68 : decode cX1_worth 68 = .ok (.ishl, 1) := dk_120 (dk_at dksX1_worth_2 20 rfl rfl)
theorem dX1_worth_69 : decode cX1_worth 69 = .ok (.ixor, 1) := dk_130 (dk_at dksX1_worth_2 21 rfl rfl)
theorem dX1_worth_70 : decode cX1_worth 70 = .ok (.iastore, 1) := dk_79 (dk_at dksX1_worth_2 22 rfl rfl)
theorem dX1_worth_71 : decode cX1_worth 71 = .ok (.iload_n 3, 1) := dk_29 (dk_at dksX1_worth_2 23 rfl rfl)
theorem dX1_worth_72 : decode cX1_worth 72 = .ok (.bipush (-9), 2) := dk_16 247 (dk_at dksX1_worth_3 0 rfl rfl)
theorem dX1_worth_74 : decode cX1_worth 74 = .ok (.if_icmp .ne 8, 3) := dk_160 0 8 (dk_at dksX1_worth_3 2 rfl rfl)
theorem dX1_worth_77 : decode cX1_worth 77 = .ok (.bipush (-9), 2) := dk_16 247 (dk_at dksX1_worth_3 5 rfl rfl)
theorem dX1_worth_79 : decode cX1_worth 79 = .ok (.goto 26, 3) := dk_167 0 26 (dk_at dksX1_worth_3 7 rfl rfl)
theorem dX1_worth_82 : decode cX1_worth 82 = .ok (.iload_n 2, 1) := dk_28 (dk_at dksX1_worth_3 10 rfl rfl)
theorem dX1_worth_83 : decode cX1_worth 83 = .ok (.bipush (-9), 2) := dk_16 247 (dk_at dksX1_worth_3 11 rfl rfl)
theorem dX1_worth_85 : decode cX1_worth 85 = .ok (.if_icmp .ne 9, 3) := dk_160 0 9 (dk_at dksX1_worth_3 13 rfl rfl)
theorem dX1_worth_88 : decode cX1_worth 88 = .ok (.sipush 1000, 3) := dk_17 3 232 (dk_at dksX1_worth_3 16 rfl rfl)
theorem dX1_worth_91 : decode cX1_worth 91 = .ok (.goto 14, 3) := dk_167 0 14 (dk_at dksX1_worth_3 19 rfl rfl)
theorem dX1_worth_94 : decode cX1_worth 94 = .ok (.aload_n 0, 1) := dk_42 (dk_at dksX1_worth_3 22 rfl rfl)
theorem dX1_worth_95 : decode cX1_worth 95 = .ok (.iload_n 2, 1) := dk_28 (dk_at dksX1_worth_3 23 rfl rfl)
theorem dX1_worth_96 : decode cX1_worth 96 = .ok (.invokevirtual 232, 3) := dk_182 0 232 (dk_at dksX1_worth_4 0 rfl rfl)
theorem dX1_worth_99 : decode cX1_worth 99 = .ok (.aload_n 0, 1) := dk_42 (dk_at dksX1_worth_4 3 rfl rfl)
theorem dX1_worth_100 : decode cX1_worth 100 = .ok (.iload_n 3, 1) := dk_29 (dk_at dksX1_worth_4 4 rfl rfl)
theorem dX1_worth_101 : decode cX1_worth 101 = .ok (.invokevirtual 232, 3) := dk_182 0 232 (dk_at dksX1_worth_4 5 rfl rfl)
theorem dX1_worth_104 : decode cX1_worth 104 = .ok (.isub, 1) := dk_100 (dk_at dksX1_worth_4 8 rfl rfl)
theorem dX1_worth_105 : decode cX1_worth 105 = .ok (.ireturn, 1) := dk_172 (dk_at dksX1_worth_4 9 rfl rfl)
abbrev cX1_falls : ByteArray := prog_10_method_95_code
def yX1_falls : MethodName := ⟨RX1, "falls", "(III)I"⟩
def dkwX1_falls_6 : List UInt8 := [96, 181, 0, 67, 132, 7, 1, 167, 255, 167, 21, 6, 172]
abbrev dktX1_falls_6 : List UInt8 := dkwX1_falls_6 ++ []
def dkwX1_falls_5 : List UInt8 := [3, 96, 54, 6, 42, 89, 180, 0, 67, 21, 8, 154, 0, 12, 21, 9, 153, 0, 7, 4, 167, 0, 4, 3]
abbrev dktX1_falls_5 : List UInt8 := dkwX1_falls_5 ++ dktX1_falls_6
def dkwX1_falls_4 : List UInt8 := [180, 0, 7, 21, 4, 21, 5, 79, 21, 6, 21, 8, 153, 0, 12, 21, 9, 154, 0, 7, 4, 167, 0, 4]
abbrev dktX1_falls_4 : List UInt8 := dkwX1_falls_4 ++ dktX1_falls_5
def dkwX1_falls_3 : List UInt8 := [182, 0, 235, 54, 8, 42, 180, 0, 7, 21, 4, 29, 79, 42, 21, 7, 182, 0, 235, 54, 9, 42]
abbrev dktX1_falls_3 : List UInt8 := dkwX1_falls_3 ++ dktX1_falls_4
def dkwX1_falls_2 : List UInt8 := [3, 54, 6, 42, 3, 181, 0, 67, 3, 54, 7, 21, 7, 42, 182, 0, 150, 162, 0, 86, 42, 21, 7]
abbrev dktX1_falls_2 : List UInt8 := dkwX1_falls_2 ++ dktX1_falls_3
def dkwX1_falls_1 : List UInt8 := [154, 0, 6, 16, 252, 172, 5, 5, 27, 104, 96, 28, 96, 54, 4, 42, 180, 0, 7, 21, 4, 46, 54, 5]
abbrev dktX1_falls_1 : List UInt8 := dkwX1_falls_1 ++ dktX1_falls_2
def dkwX1_falls_0 : List UInt8 := [27, 184, 0, 209, 153, 0, 11, 28, 29, 184, 0, 218, 154, 0, 5, 2, 172, 42, 27, 28, 29, 182, 0, 221]
abbrev dktX1_falls_0 : List UInt8 := dkwX1_falls_0 ++ dktX1_falls_1
theorem dksX1_falls_0 : cX1_falls.data.toList.drop 0 = dktX1_falls_0 := by decide +kernel
theorem dksX1_falls_1 : cX1_falls.data.toList.drop 24 = dktX1_falls_1 := dk_seg dksX1_falls_0 24 rfl rfl
theorem dksX1_falls_2 : cX1_falls.data.toList.drop 48 = dktX1_falls_2 := dk_seg dksX1_falls_1 24 rfl rfl
theorem dksX1_falls_3 : cX1_falls.data.toList.drop 71 = dktX1_falls_3 := dk_seg dksX1_falls_2 23 rfl rfl
theorem dksX1_falls_4 : cX1_falls.data.toList.drop 93 = dktX1_falls_4 := dk_seg dksX1_falls_3 22 rfl rfl
theorem dksX1_falls_5 : cX1_falls.data.toList.drop 117 = dktX1_falls_5 := dk_seg dksX1_falls_4 24 rfl rfl
theorem dksX1_falls_6 : cX1_falls.data.toList.drop 141 = dktX1_falls_6 := dk_seg dksX1_falls_5 24 rfl rfl
theorem dX1_falls_0 : decode cX1_falls 0 = .ok (.iload_n 1, 1) := dk_27 (dk_at dksX1_falls_0 0 rfl rfl)
theorem dX1_falls_1 : decode cX1_falls 1 = .ok (.invokestatic 209, 3) := dk_184 0 209 (dk_at dksX1_falls_0 1 rfl rfl)
theorem dX1_falls_4 : decode cX1_falls 4 = .ok (.ifCond .eq 11, 3) := dk_153 0 11 (dk_at dksX1_falls_0 4 rfl rfl)
theorem dX1_falls_7 : decode cX1_falls 7 = .ok (.iload_n 2, 1) := dk_28 (dk_at dksX1_falls_0 7 rfl rfl)
theorem dX1_falls_8 : decode cX1_falls 8 = .ok (.iload_n 3, 1) := dk_29 (dk_at dksX1_falls_0 8 rfl rfl)
theorem dX1_falls_9 : decode cX1_falls 9 = .ok (.invokestatic 218, 3) := dk_184 0 218 (dk_at dksX1_falls_0 9 rfl rfl)
theorem dX1_falls_12 : decode cX1_falls 12 = .ok (.ifCond .ne 5, 3) := dk_154 0 5 (dk_at dksX1_falls_0 12 rfl rfl)
theorem dX1_falls_15 : decode cX1_falls 15 = .ok (.iconst (-1), 1) := dk_2 (dk_at dksX1_falls_0 15 rfl rfl)
theorem dX1_falls_16 : decode cX1_falls 16 = .ok (.ireturn, 1) := dk_172 (dk_at dksX1_falls_0 16 rfl rfl)
theorem dX1_falls_17 : decode cX1_falls 17 = .ok (.aload_n 0, 1) := dk_42 (dk_at dksX1_falls_0 17 rfl rfl)
theorem dX1_falls_18 : decode cX1_falls 18 = .ok (.iload_n 1, 1) := dk_27 (dk_at dksX1_falls_0 18 rfl rfl)
theorem dX1_falls_19 : decode cX1_falls 19 = .ok (.iload_n 2, 1) := dk_28 (dk_at dksX1_falls_0 19 rfl rfl)
theorem dX1_falls_20 : decode cX1_falls 20 = .ok (.iload_n 3, 1) := dk_29 (dk_at dksX1_falls_0 20 rfl rfl)
theorem dX1_falls_21 : decode cX1_falls 21 = .ok (.invokevirtual 221, 3) := dk_182 0 221 (dk_at dksX1_falls_0 21 rfl rfl)
theorem dX1_falls_24 : decode cX1_falls 24 = .ok (.ifCond .ne 6, 3) := dk_154 0 6 (dk_at dksX1_falls_1 0 rfl rfl)
theorem dX1_falls_27 : decode cX1_falls 27 = .ok (.bipush (-4), 2) := dk_16 252 (dk_at dksX1_falls_1 3 rfl rfl)
theorem dX1_falls_29 : decode cX1_falls 29 = .ok (.ireturn, 1) := dk_172 (dk_at dksX1_falls_1 5 rfl rfl)
theorem dX1_falls_30 : decode cX1_falls 30 = .ok (.iconst 2, 1) := dk_5 (dk_at dksX1_falls_1 6 rfl rfl)
theorem dX1_falls_31 : decode cX1_falls 31 = .ok (.iconst 2, 1) := dk_5 (dk_at dksX1_falls_1 7 rfl rfl)
theorem dX1_falls_32 : decode cX1_falls 32 = .ok (.iload_n 1, 1) := dk_27 (dk_at dksX1_falls_1 8 rfl rfl)
theorem dX1_falls_33 : decode cX1_falls 33 = .ok (.imul, 1) := dk_104 (dk_at dksX1_falls_1 9 rfl rfl)
theorem dX1_falls_34 : decode cX1_falls 34 = .ok (.iadd, 1) := dk_96 (dk_at dksX1_falls_1 10 rfl rfl)
theorem dX1_falls_35 : decode cX1_falls 35 = .ok (.iload_n 2, 1) := dk_28 (dk_at dksX1_falls_1 11 rfl rfl)
theorem dX1_falls_36 : decode cX1_falls 36 = .ok (.iadd, 1) := dk_96 (dk_at dksX1_falls_1 12 rfl rfl)
theorem dX1_falls_37 : decode cX1_falls 37 = .ok (.istore 4, 2) := dk_54 4 (dk_at dksX1_falls_1 13 rfl rfl)
theorem dX1_falls_39 : decode cX1_falls 39 = .ok (.aload_n 0, 1) := dk_42 (dk_at dksX1_falls_1 15 rfl rfl)
theorem dX1_falls_40 : decode cX1_falls 40 = .ok (.getfield 7, 3) := dk_180 0 7 (dk_at dksX1_falls_1 16 rfl rfl)
theorem dX1_falls_43 : decode cX1_falls 43 = .ok (.iload 4, 2) := dk_21 4 (dk_at dksX1_falls_1 19 rfl rfl)
theorem dX1_falls_45 : decode cX1_falls 45 = .ok (.iaload, 1) := dk_46 (dk_at dksX1_falls_1 21 rfl rfl)
theorem dX1_falls_46 : decode cX1_falls 46 = .ok (.istore 5, 2) := dk_54 5 (dk_at dksX1_falls_1 22 rfl rfl)
theorem dX1_falls_48 : decode cX1_falls 48 = .ok (.iconst 0, 1) := dk_3 (dk_at dksX1_falls_2 0 rfl rfl)
theorem dX1_falls_49 : decode cX1_falls 49 = .ok (.istore 6, 2) := dk_54 6 (dk_at dksX1_falls_2 1 rfl rfl)
theorem dX1_falls_51 : decode cX1_falls 51 = .ok (.aload_n 0, 1) := dk_42 (dk_at dksX1_falls_2 3 rfl rfl)
theorem dX1_falls_52 : decode cX1_falls 52 = .ok (.iconst 0, 1) := dk_3 (dk_at dksX1_falls_2 4 rfl rfl)
theorem dX1_falls_53 : decode cX1_falls 53 = .ok (.putfield 67, 3) := dk_181 0 67 (dk_at dksX1_falls_2 5 rfl rfl)
theorem dX1_falls_56 : decode cX1_falls 56 = .ok (.iconst 0, 1) := dk_3 (dk_at dksX1_falls_2 8 rfl rfl)
theorem dX1_falls_57 : decode cX1_falls 57 = .ok (.istore 7, 2) := dk_54 7 (dk_at dksX1_falls_2 9 rfl rfl)
theorem dX1_falls_59 : decode cX1_falls 59 = .ok (.iload 7, 2) := dk_21 7 (dk_at dksX1_falls_2 11 rfl rfl)
theorem dX1_falls_61 : decode cX1_falls 61 = .ok (.aload_n 0, 1) := dk_42 (dk_at dksX1_falls_2 13 rfl rfl)
theorem dX1_falls_62 : decode cX1_falls 62 = .ok (.invokevirtual 150, 3) := dk_182 0 150 (dk_at dksX1_falls_2 14 rfl rfl)
theorem dX1_falls_65 : decode cX1_falls 65 = .ok (.if_icmp .ge 86, 3) := dk_162 0 86 (dk_at dksX1_falls_2 17 rfl rfl)
theorem dX1_falls_68 : decode cX1_falls 68 = .ok (.aload_n 0, 1) := dk_42 (dk_at dksX1_falls_2 20 rfl rfl)
theorem dX1_falls_69 : decode cX1_falls 69 = .ok (.iload 7, 2) := dk_21 7 (dk_at dksX1_falls_2 21 rfl rfl)
theorem dX1_falls_71 : decode cX1_falls 71 = .ok (.invokevirtual 235, 3) := dk_182 0 235 (dk_at dksX1_falls_3 0 rfl rfl)
theorem dX1_falls_74 : decode cX1_falls 74 = .ok (.istore 8, 2) := dk_54 8 (dk_at dksX1_falls_3 3 rfl rfl)
theorem dX1_falls_76 : decode cX1_falls 76 = .ok (.aload_n 0, 1) := dk_42 (dk_at dksX1_falls_3 5 rfl rfl)
theorem dX1_falls_77 : decode cX1_falls 77 = .ok (.getfield 7, 3) := dk_180 0 7 (dk_at dksX1_falls_3 6 rfl rfl)
theorem dX1_falls_80 : decode cX1_falls 80 = .ok (.iload 4, 2) := dk_21 4 (dk_at dksX1_falls_3 9 rfl rfl)
theorem dX1_falls_82 : decode cX1_falls 82 = .ok (.iload_n 3, 1) := dk_29 (dk_at dksX1_falls_3 11 rfl rfl)
theorem dX1_falls_83 : decode cX1_falls 83 = .ok (.iastore, 1) := dk_79 (dk_at dksX1_falls_3 12 rfl rfl)
theorem dX1_falls_84 : decode cX1_falls 84 = .ok (.aload_n 0, 1) := dk_42 (dk_at dksX1_falls_3 13 rfl rfl)
theorem dX1_falls_85 : decode cX1_falls 85 = .ok (.iload 7, 2) := dk_21 7 (dk_at dksX1_falls_3 14 rfl rfl)
theorem dX1_falls_87 : decode cX1_falls 87 = .ok (.invokevirtual 235, 3) := dk_182 0 235 (dk_at dksX1_falls_3 16 rfl rfl)
theorem dX1_falls_90 : decode cX1_falls 90 = .ok (.istore 9, 2) := dk_54 9 (dk_at dksX1_falls_3 19 rfl rfl)
theorem dX1_falls_92 : decode cX1_falls 92 = .ok (.aload_n 0, 1) := dk_42 (dk_at dksX1_falls_3 21 rfl rfl)
theorem dX1_falls_93 : decode cX1_falls 93 = .ok (.getfield 7, 3) := dk_180 0 7 (dk_at dksX1_falls_4 0 rfl rfl)
theorem dX1_falls_96 : decode cX1_falls 96 = .ok (.iload 4, 2) := dk_21 4 (dk_at dksX1_falls_4 3 rfl rfl)
theorem dX1_falls_98 : decode cX1_falls 98 = .ok (.iload 5, 2) := dk_21 5 (dk_at dksX1_falls_4 5 rfl rfl)
theorem dX1_falls_100 : decode cX1_falls 100 = .ok (.iastore, 1) := dk_79 (dk_at dksX1_falls_4 7 rfl rfl)
theorem dX1_falls_101 : decode cX1_falls 101 = .ok (.iload 6, 2) := dk_21 6 (dk_at dksX1_falls_4 8 rfl rfl)
theorem dX1_falls_103 : decode cX1_falls 103 = .ok (.iload 8, 2) := dk_21 8 (dk_at dksX1_falls_4 10 rfl rfl)
theorem dX1_falls_105 : decode cX1_falls 105 = .ok (.ifCond .eq 12, 3) := dk_153 0 12 (dk_at dksX1_falls_4 12 rfl rfl)
theorem dX1_falls_108 : decode cX1_falls 108 = .ok (.iload 9, 2) := dk_21 9 (dk_at dksX1_falls_4 15 rfl rfl)
theorem dX1_falls_110 : decode cX1_falls 110 = .ok (.ifCond .ne 7, 3) := dk_154 0 7 (dk_at dksX1_falls_4 17 rfl rfl)
theorem dX1_falls_113 : decode cX1_falls 113 = .ok (.iconst 1, 1) := dk_4 (dk_at dksX1_falls_4 20 rfl rfl)
theorem dX1_falls_114 : decode cX1_falls 114 = .ok (.goto 4, 3) := dk_167 0 4 (dk_at dksX1_falls_4 21 rfl rfl)
theorem dX1_falls_117 : decode cX1_falls 117 = .ok (.iconst 0, 1) := dk_3 (dk_at dksX1_falls_5 0 rfl rfl)
theorem dX1_falls_118 : decode cX1_falls 118 = .ok (.iadd, 1) := dk_96 (dk_at dksX1_falls_5 1 rfl rfl)
theorem dX1_falls_119 : decode cX1_falls 119 = .ok (.istore 6, 2) := dk_54 6 (dk_at dksX1_falls_5 2 rfl rfl)
theorem dX1_falls_121 : decode cX1_falls 121 = .ok (.aload_n 0, 1) := dk_42 (dk_at dksX1_falls_5 4 rfl rfl)
theorem dX1_falls_122 : decode cX1_falls 122 = .ok (.dup, 1) := dk_89 (dk_at dksX1_falls_5 5 rfl rfl)
theorem dX1_falls_123 : decode cX1_falls 123 = .ok (.getfield 67, 3) := dk_180 0 67 (dk_at dksX1_falls_5 6 rfl rfl)
theorem dX1_falls_126 : decode cX1_falls 126 = .ok (.iload 8, 2) := dk_21 8 (dk_at dksX1_falls_5 9 rfl rfl)
theorem dX1_falls_128 : decode cX1_falls 128 = .ok (.ifCond .ne 12, 3) := dk_154 0 12 (dk_at dksX1_falls_5 11 rfl rfl)
theorem dX1_falls_131 : decode cX1_falls 131 = .ok (.iload 9, 2) := dk_21 9 (dk_at dksX1_falls_5 14 rfl rfl)
theorem dX1_falls_133 : decode cX1_falls 133 = .ok (.ifCond .eq 7, 3) := dk_153 0 7 (dk_at dksX1_falls_5 16 rfl rfl)
theorem dX1_falls_136 : decode cX1_falls 136 = .ok (.iconst 1, 1) := dk_4 (dk_at dksX1_falls_5 19 rfl rfl)
theorem dX1_falls_137 : decode cX1_falls 137 = .ok (.goto 4, 3) := dk_167 0 4 (dk_at dksX1_falls_5 20 rfl rfl)
theorem dX1_falls_140 : decode cX1_falls 140 = .ok (.iconst 0, 1) := dk_3 (dk_at dksX1_falls_5 23 rfl rfl)
theorem dX1_falls_141 : decode cX1_falls 141 = .ok (.iadd, 1) := dk_96 (dk_at dksX1_falls_6 0 rfl rfl)
theorem dX1_falls_142 : decode cX1_falls 142 = .ok (.putfield 67, 3) := dk_181 0 67 (dk_at dksX1_falls_6 1 rfl rfl)
theorem dX1_falls_145 : decode cX1_falls 145 = .ok (.iinc 7 1, 3) := dk_132 7 1 (dk_at dksX1_falls_6 4 rfl rfl)
theorem dX1_falls_148 : decode cX1_falls 148 = .ok (.goto (-89), 3) := dk_167 255 167 (dk_at dksX1_falls_6 7 rfl rfl)
theorem dX1_falls_151 : decode cX1_falls 151 = .ok (.iload 6, 2) := dk_21 6 (dk_at dksX1_falls_6 10 rfl rfl)
theorem dX1_falls_153 : decode cX1_falls 153 = .ok (.ireturn, 1) := dk_172 (dk_at dksX1_falls_6 12 rfl rfl)
abbrev cX1_kinds : ByteArray := prog_10_method_96_code
def yX1_kinds : MethodName := ⟨RX1, "kinds", "(II)I"⟩
def dkwX1_kinds_4 : List UInt8 := [54, 4, 132, 5, 1, 167, 255, 216, 21, 4, 172]
abbrev dktX1_kinds_4 : List UInt8 := dkwX1_kinds_4 ++ []
def dkwX1_kinds_3 : List UInt8 := [42, 180, 0, 19, 27, 46, 29, 182, 0, 190, 28, 160, 0, 10, 4, 21, 5, 120, 167, 0, 4, 3, 128]
abbrev dktX1_kinds_3 : List UInt8 := dkwX1_kinds_3 ++ dktX1_kinds_4
def dkwX1_kinds_2 : List UInt8 := [180, 0, 22, 27, 46, 62, 3, 54, 4, 3, 54, 5, 21, 5, 16, 6, 162, 0, 39, 21, 4, 42, 21, 5]
abbrev dktX1_kinds_2 : List UInt8 := dkwX1_kinds_2 ++ dktX1_kinds_3
def dkwX1_kinds_1 : List UInt8 := [180, 0, 22, 27, 46, 16, 247, 160, 0, 16, 42, 180, 0, 19, 27, 46, 4, 96, 7, 112, 167, 0, 9, 42]
abbrev dktX1_kinds_1 : List UInt8 := dkwX1_kinds_1 ++ dktX1_kinds_2
def dkwX1_kinds_0 : List UInt8 := [42, 27, 182, 0, 194, 153, 0, 15, 28, 133, 9, 20, 1, 17, 184, 0, 72, 154, 0, 5, 2, 172, 42]
abbrev dktX1_kinds_0 : List UInt8 := dkwX1_kinds_0 ++ dktX1_kinds_1
theorem dksX1_kinds_0 : cX1_kinds.data.toList.drop 0 = dktX1_kinds_0 := by decide +kernel
theorem dksX1_kinds_1 : cX1_kinds.data.toList.drop 23 = dktX1_kinds_1 := dk_seg dksX1_kinds_0 23 rfl rfl
theorem dksX1_kinds_2 : cX1_kinds.data.toList.drop 47 = dktX1_kinds_2 := dk_seg dksX1_kinds_1 24 rfl rfl
theorem dksX1_kinds_3 : cX1_kinds.data.toList.drop 71 = dktX1_kinds_3 := dk_seg dksX1_kinds_2 24 rfl rfl
theorem dksX1_kinds_4 : cX1_kinds.data.toList.drop 94 = dktX1_kinds_4 := dk_seg dksX1_kinds_3 23 rfl rfl
theorem dX1_kinds_0 : decode cX1_kinds 0 = .ok (.aload_n 0, 1) := dk_42 (dk_at dksX1_kinds_0 0 rfl rfl)
theorem dX1_kinds_1 : decode cX1_kinds 1 = .ok (.iload_n 1, 1) := dk_27 (dk_at dksX1_kinds_0 1 rfl rfl)
theorem dX1_kinds_2 : decode cX1_kinds 2 = .ok (.invokevirtual 194, 3) := dk_182 0 194 (dk_at dksX1_kinds_0 2 rfl rfl)
theorem dX1_kinds_5 : decode cX1_kinds 5 = .ok (.ifCond .eq 15, 3) := dk_153 0 15 (dk_at dksX1_kinds_0 5 rfl rfl)
theorem dX1_kinds_8 : decode cX1_kinds 8 = .ok (.iload_n 2, 1) := dk_28 (dk_at dksX1_kinds_0 8 rfl rfl)
theorem dX1_kinds_9 : decode cX1_kinds 9 = .ok (.i2l, 1) := dk_133 (dk_at dksX1_kinds_0 9 rfl rfl)
theorem dX1_kinds_10 : decode cX1_kinds 10 = .ok (.lconst 0, 1) := dk_9 (dk_at dksX1_kinds_0 10 rfl rfl)
theorem dX1_kinds_11 : decode cX1_kinds 11 = .ok (.ldc2_w 273, 3) := dk_20 1 17 (dk_at dksX1_kinds_0 11 rfl rfl)
theorem dX1_kinds_14 : decode cX1_kinds 14 = .ok (.invokestatic 72, 3) := dk_184 0 72 (dk_at dksX1_kinds_0 14 rfl rfl)
theorem dX1_kinds_17 : decode cX1_kinds 17 = .ok (.ifCond .ne 5, 3) := dk_154 0 5 (dk_at dksX1_kinds_0 17 rfl rfl)
theorem dX1_kinds_20 : decode cX1_kinds 20 = .ok (.iconst (-1), 1) := dk_2 (dk_at dksX1_kinds_0 20 rfl rfl)
theorem dX1_kinds_21 : decode cX1_kinds 21 = .ok (.ireturn, 1) := dk_172 (dk_at dksX1_kinds_0 21 rfl rfl)
theorem dX1_kinds_22 : decode cX1_kinds 22 = .ok (.aload_n 0, 1) := dk_42 (dk_at dksX1_kinds_0 22 rfl rfl)
theorem dX1_kinds_23 : decode cX1_kinds 23 = .ok (.getfield 22, 3) := dk_180 0 22 (dk_at dksX1_kinds_1 0 rfl rfl)
theorem dX1_kinds_26 : decode cX1_kinds 26 = .ok (.iload_n 1, 1) := dk_27 (dk_at dksX1_kinds_1 3 rfl rfl)
theorem dX1_kinds_27 : decode cX1_kinds 27 = .ok (.iaload, 1) := dk_46 (dk_at dksX1_kinds_1 4 rfl rfl)
theorem dX1_kinds_28 : decode cX1_kinds 28 = .ok (.bipush (-9), 2) := dk_16 247 (dk_at dksX1_kinds_1 5 rfl rfl)
theorem dX1_kinds_30 : decode cX1_kinds 30 = .ok (.if_icmp .ne 16, 3) := dk_160 0 16 (dk_at dksX1_kinds_1 7 rfl rfl)
theorem dX1_kinds_33 : decode cX1_kinds 33 = .ok (.aload_n 0, 1) := dk_42 (dk_at dksX1_kinds_1 10 rfl rfl)
theorem dX1_kinds_34 : decode cX1_kinds 34 = .ok (.getfield 19, 3) := dk_180 0 19 (dk_at dksX1_kinds_1 11 rfl rfl)
theorem dX1_kinds_37 : decode cX1_kinds 37 = .ok (.iload_n 1, 1) := dk_27 (dk_at dksX1_kinds_1 14 rfl rfl)
theorem dX1_kinds_38 : decode cX1_kinds 38 = .ok (.iaload, 1) := dk_46 (dk_at dksX1_kinds_1 15 rfl rfl)
theorem dX1_kinds_39 : decode cX1_kinds 39 = .ok (.iconst 1, 1) := dk_4 (dk_at dksX1_kinds_1 16 rfl rfl)
theorem dX1_kinds_40 : decode cX1_kinds 40 = .ok (.iadd, 1) := dk_96 (dk_at dksX1_kinds_1 17 rfl rfl)
theorem dX1_kinds_41 : decode cX1_kinds 41 = .ok (.iconst 4, 1) := dk_7 (dk_at dksX1_kinds_1 18 rfl rfl)
theorem dX1_kinds_42 : decode cX1_kinds 42 = .ok (.irem, 1) := dk_112 (dk_at dksX1_kinds_1 19 rfl rfl)
theorem dX1_kinds_43 : decode cX1_kinds 43 = .ok (.goto 9, 3) := dk_167 0 9 (dk_at dksX1_kinds_1 20 rfl rfl)
theorem dX1_kinds_46 : decode cX1_kinds 46 = .ok (.aload_n 0, 1) := dk_42 (dk_at dksX1_kinds_1 23 rfl rfl)
theorem dX1_kinds_47 : decode cX1_kinds 47 = .ok (.getfield 22, 3) := dk_180 0 22 (dk_at dksX1_kinds_2 0 rfl rfl)
theorem dX1_kinds_50 : decode cX1_kinds 50 = .ok (.iload_n 1, 1) := dk_27 (dk_at dksX1_kinds_2 3 rfl rfl)
theorem dX1_kinds_51 : decode cX1_kinds 51 = .ok (.iaload, 1) := dk_46 (dk_at dksX1_kinds_2 4 rfl rfl)
theorem dX1_kinds_52 : decode cX1_kinds 52 = .ok (.istore_n 3, 1) := dk_62 (dk_at dksX1_kinds_2 5 rfl rfl)
theorem dX1_kinds_53 : decode cX1_kinds 53 = .ok (.iconst 0, 1) := dk_3 (dk_at dksX1_kinds_2 6 rfl rfl)
theorem dX1_kinds_54 : decode cX1_kinds 54 = .ok (.istore 4, 2) := dk_54 4 (dk_at dksX1_kinds_2 7 rfl rfl)
theorem dX1_kinds_56 : decode cX1_kinds 56 = .ok (.iconst 0, 1) := dk_3 (dk_at dksX1_kinds_2 9 rfl rfl)
theorem dX1_kinds_57 : decode cX1_kinds 57 = .ok (.istore 5, 2) := dk_54 5 (dk_at dksX1_kinds_2 10 rfl rfl)
theorem dX1_kinds_59 : decode cX1_kinds 59 = .ok (.iload 5, 2) := dk_21 5 (dk_at dksX1_kinds_2 12 rfl rfl)
theorem dX1_kinds_61 : decode cX1_kinds 61 = .ok (.bipush 6, 2) := dk_16 6 (dk_at dksX1_kinds_2 14 rfl rfl)
theorem dX1_kinds_63 : decode cX1_kinds 63 = .ok (.if_icmp .ge 39, 3) := dk_162 0 39 (dk_at dksX1_kinds_2 16 rfl rfl)
theorem dX1_kinds_66 : decode cX1_kinds 66 = .ok (.iload 4, 2) := dk_21 4 (dk_at dksX1_kinds_2 19 rfl rfl)
theorem dX1_kinds_68 : decode cX1_kinds 68 = .ok (.aload_n 0, 1) := dk_42 (dk_at dksX1_kinds_2 21 rfl rfl)
theorem dX1_kinds_69 : decode cX1_kinds 69 = .ok (.iload 5, 2) := dk_21 5 (dk_at dksX1_kinds_2 22 rfl rfl)
theorem dX1_kinds_71 : decode cX1_kinds 71 = .ok (.aload_n 0, 1) := dk_42 (dk_at dksX1_kinds_3 0 rfl rfl)
theorem dX1_kinds_72 : decode cX1_kinds 72 = .ok (.getfield 19, 3) := dk_180 0 19 (dk_at dksX1_kinds_3 1 rfl rfl)
theorem dX1_kinds_75 : decode cX1_kinds 75 = .ok (.iload_n 1, 1) := dk_27 (dk_at dksX1_kinds_3 4 rfl rfl)
theorem dX1_kinds_76 : decode cX1_kinds 76 = .ok (.iaload, 1) := dk_46 (dk_at dksX1_kinds_3 5 rfl rfl)
theorem dX1_kinds_77 : decode cX1_kinds 77 = .ok (.iload_n 3, 1) := dk_29 (dk_at dksX1_kinds_3 6 rfl rfl)
theorem dX1_kinds_78 : decode cX1_kinds 78 = .ok (.invokevirtual 190, 3) := dk_182 0 190 (dk_at dksX1_kinds_3 7 rfl rfl)
theorem dX1_kinds_81 : decode cX1_kinds 81 = .ok (.iload_n 2, 1) := dk_28 (dk_at dksX1_kinds_3 10 rfl rfl)
theorem dX1_kinds_82 : decode cX1_kinds 82 = .ok (.if_icmp .ne 10, 3) := dk_160 0 10 (dk_at dksX1_kinds_3 11 rfl rfl)
theorem dX1_kinds_85 : decode cX1_kinds 85 = .ok (.iconst 1, 1) := dk_4 (dk_at dksX1_kinds_3 14 rfl rfl)
theorem dX1_kinds_86 : decode cX1_kinds 86 = .ok (.iload 5, 2) := dk_21 5 (dk_at dksX1_kinds_3 15 rfl rfl)
theorem dX1_kinds_88 : decode cX1_kinds 88 = .ok (.ishl, 1) := dk_120 (dk_at dksX1_kinds_3 17 rfl rfl)
theorem dX1_kinds_89 : decode cX1_kinds 89 = .ok (.goto 4, 3) := dk_167 0 4 (dk_at dksX1_kinds_3 18 rfl rfl)
theorem dX1_kinds_92 : decode cX1_kinds 92 = .ok (.iconst 0, 1) := dk_3 (dk_at dksX1_kinds_3 21 rfl rfl)
theorem dX1_kinds_93 : decode cX1_kinds 93 = .ok (.ior, 1) := dk_128 (dk_at dksX1_kinds_3 22 rfl rfl)
theorem dX1_kinds_94 : decode cX1_kinds 94 = .ok (.istore 4, 2) := dk_54 4 (dk_at dksX1_kinds_4 0 rfl rfl)
theorem dX1_kinds_96 : decode cX1_kinds 96 = .ok (.iinc 5 1, 3) := dk_132 5 1 (dk_at dksX1_kinds_4 2 rfl rfl)
theorem dX1_kinds_99 : decode cX1_kinds 99 = .ok (.goto (-40), 3) := dk_167 255 216 (dk_at dksX1_kinds_4 5 rfl rfl)
theorem dX1_kinds_102 : decode cX1_kinds 102 = .ok (.iload 4, 2) := dk_21 4 (dk_at dksX1_kinds_4 8 rfl rfl)
theorem dX1_kinds_104 : decode cX1_kinds 104 = .ok (.ireturn, 1) := dk_172 (dk_at dksX1_kinds_4 10 rfl rfl)
abbrev cX1_judged : ByteArray := prog_10_method_99_code
def yX1_judged : MethodName := ⟨RX1, "judged", "(II)I"⟩
def dkwX1_judged_9 : List UInt8 := [21, 4, 79, 42, 180, 0, 7, 29, 4, 96, 21, 5, 79, 21, 6, 172]
abbrev dktX1_judged_9 : List UInt8 := dkwX1_judged_9 ++ []
def dkwX1_judged_8 : List UInt8 := [167, 0, 4, 3, 96, 54, 6, 132, 8, 1, 167, 255, 176, 132, 7, 1, 167, 255, 158, 42, 180, 0, 7, 29]
abbrev dktX1_judged_8 : List UInt8 := dkwX1_judged_8 ++ dktX1_judged_9
def dkwX1_judged_7 : List UInt8 := [104, 21, 8, 96, 167, 0, 7, 42, 180, 0, 67, 181, 0, 67, 21, 6, 21, 9, 153, 0, 7, 4]
abbrev dktX1_judged_7 : List UInt8 := dkwX1_judged_7 ++ dktX1_judged_8
def dkwX1_judged_6 : List UInt8 := [79, 42, 27, 28, 182, 1, 22, 54, 9, 42, 21, 9, 153, 0, 19, 21, 6, 154, 0, 14, 16, 10, 21, 7]
abbrev dktX1_judged_6 : List UInt8 := dkwX1_judged_6 ++ dktX1_judged_7
def dkwX1_judged_5 : List UInt8 := [21, 8, 16, 6, 162, 0, 79, 42, 180, 0, 7, 29, 21, 7, 79, 42, 180, 0, 7, 29, 4, 96, 21, 8]
abbrev dktX1_judged_5 : List UInt8 := dkwX1_judged_5 ++ dktX1_judged_6
def dkwX1_judged_4 : List UInt8 := [54, 6, 42, 16, 247, 181, 0, 67, 3, 54, 7, 21, 7, 8, 162, 0, 98, 21, 7, 4, 96, 54, 8]
abbrev dktX1_judged_4 : List UInt8 := dkwX1_judged_4 ++ dktX1_judged_5
def dkwX1_judged_3 : List UInt8 := [27, 46, 104, 96, 62, 42, 180, 0, 7, 29, 46, 54, 4, 42, 180, 0, 7, 29, 4, 96, 46, 54, 5, 3]
abbrev dktX1_judged_3 : List UInt8 := dkwX1_judged_3 ++ dktX1_judged_4
def dkwX1_judged_2 : List UInt8 := [182, 0, 82, 172, 42, 28, 182, 1, 19, 154, 0, 9, 42, 6, 182, 0, 82, 172, 5, 5, 42, 180, 0, 19]
abbrev dktX1_judged_2 : List UInt8 := dkwX1_judged_2 ++ dktX1_judged_3
def dkwX1_judged_1 : List UInt8 := [156, 0, 9, 42, 4, 182, 0, 82, 172, 42, 180, 0, 25, 28, 46, 5, 112, 153, 0, 9, 42, 8]
abbrev dktX1_judged_1 : List UInt8 := dkwX1_judged_1 ++ dktX1_judged_2
def dkwX1_judged_0 : List UInt8 := [42, 27, 182, 0, 194, 153, 0, 10, 28, 184, 0, 78, 154, 0, 5, 2, 172, 42, 180, 0, 25, 28, 46]
abbrev dktX1_judged_0 : List UInt8 := dkwX1_judged_0 ++ dktX1_judged_1
theorem dksX1_judged_0 : cX1_judged.data.toList.drop 0 = dktX1_judged_0 := by decide +kernel
theorem dksX1_judged_1 : cX1_judged.data.toList.drop 23 = dktX1_judged_1 := dk_seg dksX1_judged_0 23 rfl rfl
theorem dksX1_judged_2 : cX1_judged.data.toList.drop 45 = dktX1_judged_2 := dk_seg dksX1_judged_1 22 rfl rfl
theorem dksX1_judged_3 : cX1_judged.data.toList.drop 69 = dktX1_judged_3 := dk_seg dksX1_judged_2 24 rfl rfl
theorem dksX1_judged_4 : cX1_judged.data.toList.drop 93 = dktX1_judged_4 := dk_seg dksX1_judged_3 24 rfl rfl
theorem dksX1_judged_5 : cX1_judged.data.toList.drop 116 = dktX1_judged_5 := dk_seg dksX1_judged_4 23 rfl rfl
theorem dksX1_judged_6 : cX1_judged.data.toList.drop 140 = dktX1_judged_6 := dk_seg dksX1_judged_5 24 rfl rfl
theorem dksX1_judged_7 : cX1_judged.data.toList.drop 164 = dktX1_judged_7 := dk_seg dksX1_judged_6 24 rfl rfl
theorem dksX1_judged_8 : cX1_judged.data.toList.drop 186 = dktX1_judged_8 := dk_seg dksX1_judged_7 22 rfl rfl
theorem dksX1_judged_9 : cX1_judged.data.toList.drop 210 = dktX1_judged_9 := dk_seg dksX1_judged_8 24 rfl rfl
theorem dX1_judged_0 : decode cX1_judged 0 = .ok (.aload_n 0, 1) := dk_42 (dk_at dksX1_judged_0 0 rfl rfl)
theorem dX1_judged_1 : decode cX1_judged 1 = .ok (.iload_n 1, 1) := dk_27 (dk_at dksX1_judged_0 1 rfl rfl)
theorem dX1_judged_2 : decode cX1_judged 2 = .ok (.invokevirtual 194, 3) := dk_182 0 194 (dk_at dksX1_judged_0 2 rfl rfl)
theorem dX1_judged_5 : decode cX1_judged 5 = .ok (.ifCond .eq 10, 3) := dk_153 0 10 (dk_at dksX1_judged_0 5 rfl rfl)
theorem dX1_judged_8 : decode cX1_judged 8 = .ok (.iload_n 2, 1) := dk_28 (dk_at dksX1_judged_0 8 rfl rfl)
theorem dX1_judged_9 : decode cX1_judged 9 = .ok (.invokestatic 78, 3) := dk_184 0 78 (dk_at dksX1_judged_0 9 rfl rfl)
theorem dX1_judged_12 : decode cX1_judged 12 = .ok (.ifCond .ne 5, 3) := dk_154 0 5 (dk_at dksX1_judged_0 12 rfl rfl)
theorem dX1_judged_15 : decode cX1_judged 15 = .ok (.iconst (-1), 1) := dk_2 (dk_at dksX1_judged_0 15 rfl rfl)
theorem dX1_judged_16 : decode cX1_judged 16 = .ok (.ireturn, 1) := dk_172 (dk_at dksX1_judged_0 16 rfl rfl)
theorem dX1_judged_17 : decode cX1_judged 17 = .ok (.aload_n 0, 1) := dk_42 (dk_at dksX1_judged_0 17 rfl rfl)
theorem dX1_judged_18 : decode cX1_judged 18 = .ok (.getfield 25, 3) := dk_180 0 25 (dk_at dksX1_judged_0 18 rfl rfl)
theorem dX1_judged_21 : decode cX1_judged 21 = .ok (.iload_n 2, 1) := dk_28 (dk_at dksX1_judged_0 21 rfl rfl)
theorem dX1_judged_22 : decode cX1_judged 22 = .ok (.iaload, 1) := dk_46 (dk_at dksX1_judged_0 22 rfl rfl)
theorem dX1_judged_23 : decode cX1_judged 23 = .ok (.ifCond .ge 9, 3) := dk_156 0 9 (dk_at dksX1_judged_1 0 rfl rfl)
theorem dX1_judged_26 : decode cX1_judged 26 = .ok (.aload_n 0, 1) := dk_42 (dk_at dksX1_judged_1 3 rfl rfl)
theorem dX1_judged_27 : decode cX1_judged 27 = .ok (.iconst 1, 1) := dk_4 (dk_at dksX1_judged_1 4 rfl rfl)
theorem dX1_judged_28 : decode cX1_judged 28 = .ok (.invokevirtual 82, 3) := dk_182 0 82 (dk_at dksX1_judged_1 5 rfl rfl)
theorem dX1_judged_31 : decode cX1_judged 31 = .ok (.ireturn, 1) := dk_172 (dk_at dksX1_judged_1 8 rfl rfl)
theorem dX1_judged_32 : decode cX1_judged 32 = .ok (.aload_n 0, 1) := dk_42 (dk_at dksX1_judged_1 9 rfl rfl)
theorem dX1_judged_33 : decode cX1_judged 33 = .ok (.getfield 25, 3) := dk_180 0 25 (dk_at dksX1_judged_1 10 rfl rfl)
theorem dX1_judged_36 : decode cX1_judged 36 = .ok (.iload_n 2, 1) := dk_28 (dk_at dksX1_judged_1 13 rfl rfl)
theorem dX1_judged_37 : decode cX1_judged 37 = .ok (.iaload, 1) := dk_46 (dk_at dksX1_judged_1 14 rfl rfl)
theorem dX1_judged_38 : decode cX1_judged 38 = .ok (.iconst 2, 1) := dk_5 (dk_at dksX1_judged_1 15 rfl rfl)
theorem dX1_judged_39 : decode cX1_judged 39 = .ok (.irem, 1) := dk_112 (dk_at dksX1_judged_1 16 rfl rfl)
theorem dX1_judged_40 : decode cX1_judged 40 = .ok (.ifCond .eq 9, 3) := dk_153 0 9 (dk_at dksX1_judged_1 17 rfl rfl)
theorem dX1_judged_43 : decode cX1_judged 43 = .ok (.aload_n 0, 1) := dk_42 (dk_at dksX1_judged_1 20 rfl rfl)
theorem dX1_judged_44 : decode cX1_judged 44 = .ok (.iconst 5, 1) := dk_8 (dk_at dksX1_judged_1 21 rfl rfl)
theorem dX1_judged_45 : decode cX1_judged 45 = .ok (.invokevirtual 82, 3) := dk_182 0 82 (dk_at dksX1_judged_2 0 rfl rfl)
theorem dX1_judged_48 : decode cX1_judged 48 = .ok (.ireturn, 1) := dk_172 (dk_at dksX1_judged_2 3 rfl rfl)
theorem dX1_judged_49 : decode cX1_judged 49 = .ok (.aload_n 0, 1) := dk_42 (dk_at dksX1_judged_2 4 rfl rfl)
theorem dX1_judged_50 : decode cX1_judged 50 = .ok (.iload_n 2, 1) := dk_28 (dk_at dksX1_judged_2 5 rfl rfl)
theorem dX1_judged_51 : decode cX1_judged 51 = .ok (.invokevirtual 275, 3) := dk_182 1 19 (dk_at dksX1_judged_2 6 rfl rfl)
theorem dX1_judged_54 : decode cX1_judged 54 = .ok (.ifCond .ne 9, 3) := dk_154 0 9 (dk_at dksX1_judged_2 9 rfl rfl)
theorem dX1_judged_57 : decode cX1_judged 57 = .ok (.aload_n 0, 1) := dk_42 (dk_at dksX1_judged_2 12 rfl rfl)
theorem dX1_judged_58 : decode cX1_judged 58 = .ok (.iconst 3, 1) := dk_6 (dk_at dksX1_judged_2 13 rfl rfl)
theorem dX1_judged_59 : decode cX1_judged 59 = .ok (.invokevirtual 82, 3) := dk_182 0 82 (dk_at dksX1_judged_2 14 rfl rfl)
theorem dX1_judged_62 : decode cX1_judged 62 = .ok (.ireturn, 1) := dk_172 (dk_at dksX1_judged_2 17 rfl rfl)
theorem dX1_judged_63 : decode cX1_judged 63 = .ok (.iconst 2, 1) := dk_5 (dk_at dksX1_judged_2 18 rfl rfl)
theorem dX1_judged_64 : decode cX1_judged 64 = .ok (.iconst 2, 1) := dk_5 (dk_at dksX1_judged_2 19 rfl rfl)
theorem dX1_judged_65 : decode cX1_judged 65 = .ok (.aload_n 0, 1) := dk_42 (dk_at dksX1_judged_2 20 rfl rfl)
theorem dX1_judged_66 : decode cX1_judged 66 = .ok (.getfield 19, 3) := dk_180 0 19 (dk_at dksX1_judged_2 21 rfl rfl)
theorem dX1_judged_69 : decode cX1_judged 69 = .ok (.iload_n 1, 1) := dk_27 (dk_at dksX1_judged_3 0 rfl rfl)
theorem dX1_judged_70 : decode cX1_judged 70 = .ok (.iaload, 1) := dk_46 (dk_at dksX1_judged_3 1 rfl rfl)
theorem dX1_judged_71 : decode cX1_judged 71 = .ok (.imul, 1) := dk_104 (dk_at dksX1_judged_3 2 rfl rfl)
theorem dX1_judged_72 : decode cX1_judged 72 = .ok (.iadd, 1) := dk_96 (dk_at dksX1_judged_3 3 rfl rfl)
theorem dX1_judged_73 : decode cX1_judged 73 = .ok (.istore_n 3, 1) := dk_62 (dk_at dksX1_judged_3 4 rfl rfl)
theorem dX1_judged_74 : decode cX1_judged 74 = .ok (.aload_n 0, 1) := dk_42 (dk_at dksX1_judged_3 5 rfl rfl)
theorem dX1_judged_75 : decode cX1_judged 75 = .ok (.getfield 7, 3) := dk_180 0 7 (dk_at dksX1_judged_3 6 rfl rfl)
theorem dX1_judged_78 : decode cX1_judged 78 = .ok (.iload_n 3, 1) := dk_29 (dk_at dksX1_judged_3 9 rfl rfl)
theorem dX1_judged_79 : decode cX1_judged 79 = .ok (.iaload, 1) := dk_46 (dk_at dksX1_judged_3 10 rfl rfl)
theorem dX1_judged_80 : decode cX1_judged 80 = .ok (.istore 4, 2) := dk_54 4 (dk_at dksX1_judged_3 11 rfl rfl)
theorem dX1_judged_82 : decode cX1_judged 82 = .ok (.aload_n 0, 1) := dk_42 (dk_at dksX1_judged_3 13 rfl rfl)
theorem dX1_judged_83 : decode cX1_judged 83 = .ok (.getfield 7, 3) := dk_180 0 7 (dk_at dksX1_judged_3 14 rfl rfl)
theorem dX1_judged_86 : decode cX1_judged 86 = .ok (.iload_n 3, 1) := dk_29 (dk_at dksX1_judged_3 17 rfl rfl)
theorem dX1_judged_87 : decode cX1_judged 87 = .ok (.iconst 1, 1) := dk_4 (dk_at dksX1_judged_3 18 rfl rfl)
theorem dX1_judged_88 : decode cX1_judged 88 = .ok (.iadd, 1) := dk_96 (dk_at dksX1_judged_3 19 rfl rfl)
theorem dX1_judged_89 : decode cX1_judged 89 = .ok (.iaload, 1) := dk_46 (dk_at dksX1_judged_3 20 rfl rfl)
theorem dX1_judged_90 : decode cX1_judged 90 = .ok (.istore 5, 2) := dk_54 5 (dk_at dksX1_judged_3 21 rfl rfl)
theorem dX1_judged_92 : decode cX1_judged 92 = .ok (.iconst 0, 1) := dk_3 (dk_at dksX1_judged_3 23 rfl rfl)
theorem dX1_judged_93 : decode cX1_judged 93 = .ok (.istore 6, 2) := dk_54 6 (dk_at dksX1_judged_4 0 rfl rfl)
theorem dX1_judged_95 : decode cX1_judged 95 = .ok (.aload_n 0, 1) := dk_42 (dk_at dksX1_judged_4 2 rfl rfl)
theorem dX1_judged_96 : decode cX1_judged 96 = .ok (.bipush (-9), 2) := dk_16 247 (dk_at dksX1_judged_4 3 rfl rfl)
theorem dX1_judged_98 : decode cX1_judged 98 = .ok (.putfield 67, 3) := dk_181 0 67 (dk_at dksX1_judged_4 5 rfl rfl)
theorem dX1_judged_101 : decode cX1_judged 101 = .ok (.iconst 0, 1) := dk_3 (dk_at dksX1_judged_4 8 rfl rfl)
theorem dX1_judged_102 : decode cX1_judged 102 = .ok (.istore 7, 2) := dk_54 7 (dk_at dksX1_judged_4 9 rfl rfl)
theorem dX1_judged_104 : decode cX1_judged 104 = .ok (.iload 7, 2) := dk_21 7 (dk_at dksX1_judged_4 11 rfl rfl)
theorem dX1_judged_106 : decode cX1_judged 106 = .ok (.iconst 5, 1) := dk_8 (dk_at dksX1_judged_4 13 rfl rfl)
theorem dX1_judged_107 : decode cX1_judged 107 = .ok (.if_icmp .ge 98, 3) := dk_162 0 98 (dk_at dksX1_judged_4 14 rfl rfl)
theorem dX1_judged_110 : decode cX1_judged 110 = .ok (.iload 7, 2) := dk_21 7 (dk_at dksX1_judged_4 17 rfl rfl)
theorem dX1_judged_112 : decode cX1_judged 112 = .ok (.iconst 1, 1) := dk_4 (dk_at dksX1_judged_4 19 rfl rfl)
theorem dX1_judged_113 : decode cX1_judged 113 = .ok (.iadd, 1) := dk_96 (dk_at dksX1_judged_4 20 rfl rfl)
theorem dX1_judged_114 : decode cX1_judged 114 = .ok (.istore 8, 2) := dk_54 8 (dk_at dksX1_judged_4 21 rfl rfl)
theorem dX1_judged_116 : decode cX1_judged 116 = .ok (.iload 8, 2) := dk_21 8 (dk_at dksX1_judged_5 0 rfl rfl)
theorem dX1_judged_118 : decode cX1_judged 118 = .ok (.bipush 6, 2) := dk_16 6 (dk_at dksX1_judged_5 2 rfl rfl)
theorem dX1_judged_120 : decode cX1_judged 120 = .ok (.if_icmp .ge 79, 3) := dk_162 0 79 (dk_at dksX1_judged_5 4 rfl rfl)
theorem dX1_judged_123 : decode cX1_judged 123 = .ok (.aload_n 0, 1) := dk_42 (dk_at dksX1_judged_5 7 rfl rfl)
theorem dX1_judged_124 : decode cX1_judged 124 = .ok (.getfield 7, 3) := dk_180 0 7 (dk_at dksX1_judged_5 8 rfl rfl)
theorem dX1_judged_127 : decode cX1_judged 127 = .ok (.iload_n 3, 1) := dk_29 (dk_at dksX1_judged_5 11 rfl rfl)
theorem dX1_judged_128 : decode cX1_judged 128 = .ok (.iload 7, 2) := dk_21 7 (dk_at dksX1_judged_5 12 rfl rfl)
theorem dX1_judged_130 : decode cX1_judged 130 = .ok (.iastore, 1) := dk_79 (dk_at dksX1_judged_5 14 rfl rfl)
theorem dX1_judged_131 : decode cX1_judged 131 = .ok (.aload_n 0, 1) := dk_42 (dk_at dksX1_judged_5 15 rfl rfl)
theorem dX1_judged_132 : decode cX1_judged 132 = .ok (.getfield 7, 3) := dk_180 0 7 (dk_at dksX1_judged_5 16 rfl rfl)
theorem dX1_judged_135 : decode cX1_judged 135 = .ok (.iload_n 3, 1) := dk_29 (dk_at dksX1_judged_5 19 rfl rfl)
theorem dX1_judged_136 : decode cX1_judged 136 = .ok (.iconst 1, 1) := dk_4 (dk_at dksX1_judged_5 20 rfl rfl)
theorem dX1_judged_137 : decode cX1_judged 137 = .ok (.iadd, 1) := dk_96 (dk_at dksX1_judged_5 21 rfl rfl)
theorem dX1_judged_138 : decode cX1_judged 138 = .ok (.iload 8, 2) := dk_21 8 (dk_at dksX1_judged_5 22 rfl rfl)
theorem dX1_judged_140 : decode cX1_judged 140 = .ok (.iastore, 1) := dk_79 (dk_at dksX1_judged_6 0 rfl rfl)
theorem dX1_judged_141 : decode cX1_judged 141 = .ok (.aload_n 0, 1) := dk_42 (dk_at dksX1_judged_6 1 rfl rfl)
theorem dX1_judged_142 : decode cX1_judged 142 = .ok (.iload_n 1, 1) := dk_27 (dk_at dksX1_judged_6 2 rfl rfl)
theorem dX1_judged_143 : decode cX1_judged 143 = .ok (.iload_n 2, 1) := dk_28 (dk_at dksX1_judged_6 3 rfl rfl)
theorem dX1_judged_144 : decode cX1_judged 144 = .ok (.invokevirtual 278, 3) := dk_182 1 22 (dk_at dksX1_judged_6 4 rfl rfl)
theorem dX1_judged_147 : decode cX1_judged 147 = .ok (.istore 9, 2) := dk_54 9 (dk_at dksX1_judged_6 7 rfl rfl)
theorem dX1_judged_149 : decode cX1_judged 149 = .ok (.aload_n 0, 1) := dk_42 (dk_at dksX1_judged_6 9 rfl rfl)
theorem dX1_judged_150 : decode cX1_judged 150 = .ok (.iload 9, 2) := dk_21 9 (dk_at dksX1_judged_6 10 rfl rfl)
theorem dX1_judged_152 : decode cX1_judged 152 = .ok (.ifCond .eq 19, 3) := dk_153 0 19 (dk_at dksX1_judged_6 12 rfl rfl)
theorem dX1_judged_155 : decode cX1_judged 155 = .ok (.iload 6, 2) := dk_21 6 (dk_at dksX1_judged_6 15 rfl rfl)
theorem dX1_judged_157 : decode cX1_judged 157 = .ok (.ifCond .ne 14, 3) := dk_154 0 14 (dk_at dksX1_judged_6 17 rfl rfl)
theorem dX1_judged_160 : decode cX1_judged 160 = .ok (.bipush 10, 2) := dk_16 10 (dk_at dksX1_judged_6 20 rfl rfl)
theorem dX1_judged_162 : decode cX1_judged 162 = .ok (.iload 7, 2) := dk_21 7 (dk_at dksX1_judged_6 22 rfl rfl)
theorem dX1_judged_164 : decode cX1_judged 164 = .ok (.imul, 1) := dk_104 (dk_at dksX1_judged_7 0 rfl rfl)
theorem dX1_judged_165 : decode cX1_judged 165 = .ok (.iload 8, 2) := dk_21 8 (dk_at dksX1_judged_7 1 rfl rfl)
theorem dX1_judged_167 : decode cX1_judged 167 = .ok (.iadd, 1) := dk_96 (dk_at dksX1_judged_7 3 rfl rfl)
theorem dX1_judged_168 : decode cX1_judged 168 = .ok (.goto 7, 3) := dk_167 0 7 (dk_at dksX1_judged_7 4 rfl rfl)
theorem dX1_judged_171 : decode cX1_judged 171 = .ok (.aload_n 0, 1) := dk_42 (dk_at dksX1_judged_7 7 rfl rfl)
theorem dX1_judged_172 : decode cX1_judged 172 = .ok (.getfield 67, 3) := dk_180 0 67 (dk_at dksX1_judged_7 8 rfl rfl)
theorem dX1_judged_175 : decode cX1_judged 175 = .ok (.putfield 67, 3) := dk_181 0 67 (dk_at dksX1_judged_7 11 rfl rfl)
theorem dX1_judged_178 : decode cX1_judged 178 = .ok (.iload 6, 2) := dk_21 6 (dk_at dksX1_judged_7 14 rfl rfl)
theorem dX1_judged_180 : decode cX1_judged 180 = .ok (.iload 9, 2) := dk_21 9 (dk_at dksX1_judged_7 16 rfl rfl)
theorem dX1_judged_182 : decode cX1_judged 182 = .ok (.ifCond .eq 7, 3) := dk_153 0 7 (dk_at dksX1_judged_7 18 rfl rfl)
theorem dX1_judged_185 : decode cX1_judged 185 = .ok (.iconst 1, 1) := dk_4 (dk_at dksX1_judged_7 21 rfl rfl)
theorem dX1_judged_186 : decode cX1_judged 186 = .ok (.goto 4, 3) := dk_167 0 4 (dk_at dksX1_judged_8 0 rfl rfl)
theorem dX1_judged_189 : decode cX1_judged 189 = .ok (.iconst 0, 1) := dk_3 (dk_at dksX1_judged_8 3 rfl rfl)
theorem dX1_judged_190 : decode cX1_judged 190 = .ok (.iadd, 1) := dk_96 (dk_at dksX1_judged_8 4 rfl rfl)
theorem dX1_judged_191 : decode cX1_judged 191 = .ok (.istore 6, 2) := dk_54 6 (dk_at dksX1_judged_8 5 rfl rfl)
theorem dX1_judged_193 : decode cX1_judged 193 = .ok (.iinc 8 1, 3) := dk_132 8 1 (dk_at dksX1_judged_8 7 rfl rfl)
theorem dX1_judged_196 : decode cX1_judged 196 = .ok (.goto (-80), 3) := dk_167 255 176 (dk_at dksX1_judged_8 10 rfl rfl)
theorem dX1_judged_199 : decode cX1_judged 199 = .ok (.iinc 7 1, 3) := dk_132 7 1 (dk_at dksX1_judged_8 13 rfl rfl)
theorem dX1_judged_202 : decode cX1_judged 202 = .ok (.goto (-98), 3) := dk_167 255 158 (dk_at dksX1_judged_8 16 rfl rfl)
theorem dX1_judged_205 : decode cX1_judged 205 = .ok (.aload_n 0, 1) := dk_42 (dk_at dksX1_judged_8 19 rfl rfl)
theorem dX1_judged_206 : decode cX1_judged 206 = .ok (.getfield 7, 3) := dk_180 0 7 (dk_at dksX1_judged_8 20 rfl rfl)
theorem dX1_judged_209 : decode cX1_judged 209 = .ok (.iload_n 3, 1) := dk_29 (dk_at dksX1_judged_8 23 rfl rfl)
theorem dX1_judged_210 : decode cX1_judged 210 = .ok (.iload 4, 2) := dk_21 4 (dk_at dksX1_judged_9 0 rfl rfl)
theorem dX1_judged_212 : decode cX1_judged 212 = .ok (.iastore, 1) := dk_79 (dk_at dksX1_judged_9 2 rfl rfl)
theorem dX1_judged_213 : decode cX1_judged 213 = .ok (.aload_n 0, 1) := dk_42 (dk_at dksX1_judged_9 3 rfl rfl)
theorem dX1_judged_214 : decode cX1_judged 214 = .ok (.getfield 7, 3) := dk_180 0 7 (dk_at dksX1_judged_9 4 rfl rfl)
theorem dX1_judged_217 : decode cX1_judged 217 = .ok (.iload_n 3, 1) := dk_29 (dk_at dksX1_judged_9 7 rfl rfl)
theorem dX1_judged_218 : decode cX1_judged 218 = .ok (.iconst 1, 1) := dk_4 (dk_at dksX1_judged_9 8 rfl rfl)
theorem dX1_judged_219 : decode cX1_judged 219 = .ok (.iadd, 1) := dk_96 (dk_at dksX1_judged_9 9 rfl rfl)
theorem dX1_judged_220 : decode cX1_judged 220 = .ok (.iload 5, 2) := dk_21 5 (dk_at dksX1_judged_9 10 rfl rfl)
theorem dX1_judged_222 : decode cX1_judged 222 = .ok (.iastore, 1) := dk_79 (dk_at dksX1_judged_9 12 rfl rfl)
theorem dX1_judged_223 : decode cX1_judged 223 = .ok (.iload 6, 2) := dk_21 6 (dk_at dksX1_judged_9 13 rfl rfl)
theorem dX1_judged_225 : decode cX1_judged 225 = .ok (.ireturn, 1) := dk_172 (dk_at dksX1_judged_9 15 rfl rfl)
abbrev cX1_areJudged : ByteArray := prog_10_method_97_code
def yX1_areJudged : MethodName := ⟨RX1, "areJudged", "(I)Z"⟩
def dkwX1_areJudged_3 : List UInt8 := [172]
abbrev dktX1_areJudged_3 : List UInt8 := dkwX1_areJudged_3 ++ []
def dkwX1_areJudged_2 : List UInt8 := [96, 46, 133, 9, 10, 184, 0, 72, 153, 0, 7, 4, 167, 0, 4, 3, 61, 132, 3, 2, 167, 255, 193, 28]
abbrev dktX1_areJudged_2 : List UInt8 := dkwX1_areJudged_2 ++ dktX1_areJudged_3
def dkwX1_areJudged_1 : List UInt8 := [16, 40, 27, 104, 29, 96, 46, 182, 0, 229, 153, 0, 29, 42, 180, 0, 28, 16, 40, 27, 104, 29, 96, 4]
abbrev dktX1_areJudged_1 : List UInt8 := dkwX1_areJudged_1 ++ dktX1_areJudged_2
def dkwX1_areJudged_0 : List UInt8 := [4, 61, 3, 62, 29, 42, 180, 0, 25, 27, 46, 162, 0, 59, 28, 153, 0, 47, 42, 42, 180, 0, 28]
abbrev dktX1_areJudged_0 : List UInt8 := dkwX1_areJudged_0 ++ dktX1_areJudged_1
theorem dksX1_areJudged_0 : cX1_areJudged.data.toList.drop 0 = dktX1_areJudged_0 := by decide +kernel
theorem dksX1_areJudged_1 : cX1_areJudged.data.toList.drop 23 = dktX1_areJudged_1 := dk_seg dksX1_areJudged_0 23 rfl rfl
theorem dksX1_areJudged_2 : cX1_areJudged.data.toList.drop 47 = dktX1_areJudged_2 := dk_seg dksX1_areJudged_1 24 rfl rfl
theorem dksX1_areJudged_3 : cX1_areJudged.data.toList.drop 71 = dktX1_areJudged_3 := dk_seg dksX1_areJudged_2 24 rfl rfl
theorem dX1_areJudged_0 : decode cX1_areJudged 0 = .ok (.iconst 1, 1) := dk_4 (dk_at dksX1_areJudged_0 0 rfl rfl)
theorem dX1_areJudged_1 : decode cX1_areJudged 1 = .ok (.istore_n 2, 1) := dk_61 (dk_at dksX1_areJudged_0 1 rfl rfl)
theorem dX1_areJudged_2 : decode cX1_areJudged 2 = .ok (.iconst 0, 1) := dk_3 (dk_at dksX1_areJudged_0 2 rfl rfl)
theorem dX1_areJudged_3 : decode cX1_areJudged 3 = .ok (.istore_n 3, 1) := dk_62 (dk_at dksX1_areJudged_0 3 rfl rfl)
theorem dX1_areJudged_4 : decode cX1_areJudged 4 = .ok (.iload_n 3, 1) := dk_29 (dk_at dksX1_areJudged_0 4 rfl rfl)
theorem dX1_areJudged_5 : decode cX1_areJudged 5 = .ok (.aload_n 0, 1) := dk_42 (dk_at dksX1_areJudged_0 5 rfl rfl)
theorem dX1_areJudged_6 : decode cX1_areJudged 6 = .ok (.getfield 25, 3) := dk_180 0 25 (dk_at dksX1_areJudged_0 6 rfl rfl)
theorem dX1_areJudged_9 : decode cX1_areJudged 9 = .ok (.iload_n 1, 1) := dk_27 (dk_at dksX1_areJudged_0 9 rfl rfl)
theorem dX1_areJudged_10 : decode cX1_areJudged 10 = .ok (.iaload, 1) := dk_46 (dk_at dksX1_areJudged_0 10 rfl rfl)
theorem dX1_areJudged_11 : decode cX1_areJudged 11 = .ok (.if_icmp .ge 59, 3) := dk_162 0 59 (dk_at dksX1_areJudged_0 11 rfl rfl)
theorem dX1_areJudged_14 : decode cX1_areJudged 14 = .ok (.iload_n 2, 1) := dk_28 (dk_at dksX1_areJudged_0 14 rfl rfl)
theorem dX1_areJudged_15 : decode cX1_areJudged 15 = .ok (.ifCond .eq 47, 3) := dk_153 0 47 (dk_at dksX1_areJudged_0 15 rfl rfl)
theorem dX1_areJudged_18 : decode cX1_areJudged 18 = .ok (.aload_n 0, 1) := dk_42 (dk_at dksX1_areJudged_0 18 rfl rfl)
theorem dX1_areJudged_19 : decode cX1_areJudged 19 = .ok (.aload_n 0, 1) := dk_42 (dk_at dksX1_areJudged_0 19 rfl rfl)
theorem dX1_areJudged_20 : decode cX1_areJudged 20 = .ok (.getfield 28, 3) := dk_180 0 28 (dk_at dksX1_areJudged_0 20 rfl rfl)
theorem dX1_areJudged_23 : decode cX1_areJudged 23 = .ok (.bipush 40, 2) := dk_16 40 (dk_at dksX1_areJudged_1 0 rfl rfl)
theorem dX1_areJudged_25 : decode cX1_areJudged 25 = .ok (.iload_n 1, 1) := dk_27 (dk_at dksX1_areJudged_1 2 rfl rfl)
theorem dX1_areJudged_26 : decode cX1_areJudged 26 = .ok (.imul, 1) := dk_104 (dk_at dksX1_areJudged_1 3 rfl rfl)
theorem dX1_areJudged_27 : decode cX1_areJudged 27 = .ok (.iload_n 3, 1) := dk_29 (dk_at dksX1_areJudged_1 4 rfl rfl)
theorem dX1_areJudged_28 : decode cX1_areJudged 28 = .ok (.iadd, 1) := dk_96 (dk_at dksX1_areJudged_1 5 rfl rfl)
theorem dX1_areJudged_29 : decode cX1_areJudged 29 = .ok (.iaload, 1) := dk_46 (dk_at dksX1_areJudged_1 6 rfl rfl)
theorem dX1_areJudged_30 : decode cX1_areJudged 30 = .ok (.invokevirtual 229, 3) := dk_182 0 229 (dk_at dksX1_areJudged_1 7 rfl rfl)
theorem dX1_areJudged_33 : decode cX1_areJudged 33 = .ok (.ifCond .eq 29, 3) := dk_153 0 29 (dk_at dksX1_areJudged_1 10 rfl rfl)
theorem dX1_areJudged_36 : decode cX1_areJudged 36 = .ok (.aload_n 0, 1) := dk_42 (dk_at dksX1_areJudged_1 13 rfl rfl)
theorem dX1_areJudged_37 : decode cX1_areJudged 37 = .ok (.getfield 28, 3) := dk_180 0 28 (dk_at dksX1_areJudged_1 14 rfl rfl)
theorem dX1_areJudged_40 : decode cX1_areJudged 40 = .ok (.bipush 40, 2) := dk_16 40 (dk_at dksX1_areJudged_1 17 rfl rfl)
theorem dX1_areJudged_42 : decode cX1_areJudged 42 = .ok (.iload_n 1, 1) := dk_27 (dk_at dksX1_areJudged_1 19 rfl rfl)
theorem dX1_areJudged_43 : decode cX1_areJudged 43 = .ok (.imul, 1) := dk_104 (dk_at dksX1_areJudged_1 20 rfl rfl)
theorem dX1_areJudged_44 : decode cX1_areJudged 44 = .ok (.iload_n 3, 1) := dk_29 (dk_at dksX1_areJudged_1 21 rfl rfl)
theorem dX1_areJudged_45 : decode cX1_areJudged 45 = .ok (.iadd, 1) := dk_96 (dk_at dksX1_areJudged_1 22 rfl rfl)
theorem dX1_areJudged_46 : decode cX1_areJudged 46 = .ok (.iconst 1, 1) := dk_4 (dk_at dksX1_areJudged_1 23 rfl rfl)
theorem dX1_areJudged_47 : decode cX1_areJudged 47 = .ok (.iadd, 1) := dk_96 (dk_at dksX1_areJudged_2 0 rfl rfl)
theorem dX1_areJudged_48 : decode cX1_areJudged 48 = .ok (.iaload, 1) := dk_46 (dk_at dksX1_areJudged_2 1 rfl rfl)
theorem dX1_areJudged_49 : decode cX1_areJudged 49 = .ok (.i2l, 1) := dk_133 (dk_at dksX1_areJudged_2 2 rfl rfl)
theorem dX1_areJudged_50 : decode cX1_areJudged 50 = .ok (.lconst 0, 1) := dk_9 (dk_at dksX1_areJudged_2 3 rfl rfl)
theorem dX1_areJudged_51 : decode cX1_areJudged 51 = .ok (.lconst 1, 1) := dk_10 (dk_at dksX1_areJudged_2 4 rfl rfl)
theorem dX1_areJudged_52 : decode cX1_areJudged 52 = .ok (.invokestatic 72, 3) := dk_184 0 72 (dk_at dksX1_areJudged_2 5 rfl rfl)
theorem dX1_areJudged_55 : decode cX1_areJudged 55 = .ok (.ifCond .eq 7, 3) := dk_153 0 7 (dk_at dksX1_areJudged_2 8 rfl rfl)
theorem dX1_areJudged_58 : decode cX1_areJudged 58 = .ok (.iconst 1, 1) := dk_4 (dk_at dksX1_areJudged_2 11 rfl rfl)
theorem dX1_areJudged_59 : decode cX1_areJudged 59 = .ok (.goto 4, 3) := dk_167 0 4 (dk_at dksX1_areJudged_2 12 rfl rfl)
theorem dX1_areJudged_62 : decode cX1_areJudged 62 = .ok (.iconst 0, 1) := dk_3 (dk_at dksX1_areJudged_2 15 rfl rfl)
theorem dX1_areJudged_63 : decode cX1_areJudged 63 = .ok (.istore_n 2, 1) := dk_61 (dk_at dksX1_areJudged_2 16 rfl rfl)
theorem dX1_areJudged_64 : decode cX1_areJudged 64 = .ok (.iinc 3 2, 3) := dk_132 3 2 (dk_at dksX1_areJudged_2 17 rfl rfl)
theorem dX1_areJudged_67 : decode cX1_areJudged 67 = .ok (.goto (-63), 3) := dk_167 255 193 (dk_at dksX1_areJudged_2 20 rfl rfl)
theorem dX1_areJudged_70 : decode cX1_areJudged 70 = .ok (.iload_n 2, 1) := dk_28 (dk_at dksX1_areJudged_2 23 rfl rfl)
theorem dX1_areJudged_71 : decode cX1_areJudged 71 = .ok (.ireturn, 1) := dk_172 (dk_at dksX1_areJudged_3 0 rfl rfl)
abbrev cX1_isJudged : ByteArray := prog_10_method_98_code
def yX1_isJudged : MethodName := ⟨RX1, "isJudged", "(II)Z"⟩
def dkwX1_isJudged_3 : List UInt8 := [132, 4, 2, 167, 255, 189, 29, 172]
abbrev dktX1_isJudged_3 : List UInt8 := dkwX1_isJudged_3 ++ []
def dkwX1_isJudged_2 : List UInt8 := [96, 4, 96, 46, 4, 160, 0, 7, 4, 167, 0, 4, 3, 160, 0, 7, 4, 167, 0, 4, 3, 62]
abbrev dktX1_isJudged_2 : List UInt8 := dkwX1_isJudged_2 ++ dktX1_isJudged_3
def dkwX1_isJudged_1 : List UInt8 := [180, 0, 28, 16, 40, 28, 104, 21, 4, 96, 46, 182, 0, 182, 42, 180, 0, 28, 16, 40, 28, 104, 21, 4]
abbrev dktX1_isJudged_1 : List UInt8 := dkwX1_isJudged_1 ++ dktX1_isJudged_2
def dkwX1_isJudged_0 : List UInt8 := [4, 62, 3, 54, 4, 21, 4, 42, 180, 0, 25, 28, 46, 162, 0, 62, 29, 153, 0, 50, 42, 27, 42]
abbrev dktX1_isJudged_0 : List UInt8 := dkwX1_isJudged_0 ++ dktX1_isJudged_1
theorem dksX1_isJudged_0 : cX1_isJudged.data.toList.drop 0 = dktX1_isJudged_0 := by decide +kernel
theorem dksX1_isJudged_1 : cX1_isJudged.data.toList.drop 23 = dktX1_isJudged_1 := dk_seg dksX1_isJudged_0 23 rfl rfl
theorem dksX1_isJudged_2 : cX1_isJudged.data.toList.drop 47 = dktX1_isJudged_2 := dk_seg dksX1_isJudged_1 24 rfl rfl
theorem dksX1_isJudged_3 : cX1_isJudged.data.toList.drop 69 = dktX1_isJudged_3 := dk_seg dksX1_isJudged_2 22 rfl rfl
theorem dX1_isJudged_0 : decode cX1_isJudged 0 = .ok (.iconst 1, 1) := dk_4 (dk_at dksX1_isJudged_0 0 rfl rfl)
theorem dX1_isJudged_1 : decode cX1_isJudged 1 = .ok (.istore_n 3, 1) := dk_62 (dk_at dksX1_isJudged_0 1 rfl rfl)
theorem dX1_isJudged_2 : decode cX1_isJudged 2 = .ok (.iconst 0, 1) := dk_3 (dk_at dksX1_isJudged_0 2 rfl rfl)
theorem dX1_isJudged_3 : decode cX1_isJudged 3 = .ok (.istore 4, 2) := dk_54 4 (dk_at dksX1_isJudged_0 3 rfl rfl)
theorem dX1_isJudged_5 : decode cX1_isJudged 5 = .ok (.iload 4, 2) := dk_21 4 (dk_at dksX1_isJudged_0 5 rfl rfl)
theorem dX1_isJudged_7 : decode cX1_isJudged 7 = .ok (.aload_n 0, 1) := dk_42 (dk_at dksX1_isJudged_0 7 rfl rfl)
theorem dX1_isJudged_8 : decode cX1_isJudged 8 = .ok (.getfield 25, 3) := dk_180 0 25 (dk_at dksX1_isJudged_0 8 rfl rfl)
theorem dX1_isJudged_11 : decode cX1_isJudged 11 = .ok (.iload_n 2, 1) := dk_28 (dk_at dksX1_isJudged_0 11 rfl rfl)
theorem dX1_isJudged_12 : decode cX1_isJudged 12 = .ok (.iaload, 1) := dk_46 (dk_at dksX1_isJudged_0 12 rfl rfl)
theorem dX1_isJudged_13 : decode cX1_isJudged 13 = .ok (.if_icmp .ge 62, 3) := dk_162 0 62 (dk_at dksX1_isJudged_0 13 rfl rfl)
theorem dX1_isJudged_16 : decode cX1_isJudged 16 = .ok (.iload_n 3, 1) := dk_29 (dk_at dksX1_isJudged_0 16 rfl rfl)
theorem dX1_isJudged_17 : decode cX1_isJudged 17 = .ok (.ifCond .eq 50, 3) := dk_153 0 50 (dk_at dksX1_isJudged_0 17 rfl rfl)
theorem dX1_isJudged_20 : decode cX1_isJudged 20 = .ok (.aload_n 0, 1) := dk_42 (dk_at dksX1_isJudged_0 20 rfl rfl)
theorem dX1_isJudged_21 : decode cX1_isJudged 21 = .ok (.iload_n 1, 1) := dk_27 (dk_at dksX1_isJudged_0 21 rfl rfl)
theorem dX1_isJudged_22 : decode cX1_isJudged 22 = .ok (.aload_n 0, 1) := dk_42 (dk_at dksX1_isJudged_0 22 rfl rfl)
theorem dX1_isJudged_23 : decode cX1_isJudged 23 = .ok (.getfield 28, 3) := dk_180 0 28 (dk_at dksX1_isJudged_1 0 rfl rfl)
theorem dX1_isJudged_26 : decode cX1_isJudged 26 = .ok (.bipush 40, 2) := dk_16 40 (dk_at dksX1_isJudged_1 3 rfl rfl)
theorem dX1_isJudged_28 : decode cX1_isJudged 28 = .ok (.iload_n 2, 1) := dk_28 (dk_at dksX1_isJudged_1 5 rfl rfl)
theorem dX1_isJudged_29 : decode cX1_isJudged 29 = .ok (.imul, 1) := dk_104 (dk_at dksX1_isJudged_1 6 rfl rfl)
theorem dX1_isJudged_30 : decode cX1_isJudged 30 = .ok (.iload 4, 2) := dk_21 4 (dk_at dksX1_isJudged_1 7 rfl rfl)
theorem dX1_isJudged_32 : decode cX1_isJudged 32 = .ok (.iadd, 1) := dk_96 (dk_at dksX1_isJudged_1 9 rfl rfl)
theorem dX1_isJudged_33 : decode cX1_isJudged 33 = .ok (.iaload, 1) := dk_46 (dk_at dksX1_isJudged_1 10 rfl rfl)
theorem dX1_isJudged_34 : decode cX1_isJudged 34 = .ok (.invokevirtual 182, 3) := dk_182 0 182 (dk_at dksX1_isJudged_1 11 rfl rfl)
theorem dX1_isJudged_37 : decode cX1_isJudged 37 = .ok (.aload_n 0, 1) := dk_42 (dk_at dksX1_isJudged_1 14 rfl rfl)
theorem dX1_isJudged_38 : decode cX1_isJudged 38 = .ok (.getfield 28, 3) := dk_180 0 28 (dk_at dksX1_isJudged_1 15 rfl rfl)
theorem dX1_isJudged_41 : decode cX1_isJudged 41 = .ok (.bipush 40, 2) := dk_16 40 (dk_at dksX1_isJudged_1 18 rfl rfl)
theorem dX1_isJudged_43 : decode cX1_isJudged 43 = .ok (.iload_n 2, 1) := dk_28 (dk_at dksX1_isJudged_1 20 rfl rfl)
theorem dX1_isJudged_44 : decode cX1_isJudged 44 = .ok (.imul, 1) := dk_104 (dk_at dksX1_isJudged_1 21 rfl rfl)
theorem dX1_isJudged_45 : decode cX1_isJudged 45 = .ok (.iload 4, 2) := dk_21 4 (dk_at dksX1_isJudged_1 22 rfl rfl)
theorem dX1_isJudged_47 : decode cX1_isJudged 47 = .ok (.iadd, 1) := dk_96 (dk_at dksX1_isJudged_2 0 rfl rfl)
theorem dX1_isJudged_48 : decode cX1_isJudged 48 = .ok (.iconst 1, 1) := dk_4 (dk_at dksX1_isJudged_2 1 rfl rfl)
theorem dX1_isJudged_49 : decode cX1_isJudged 49 = .ok (.iadd, 1) := dk_96 (dk_at dksX1_isJudged_2 2 rfl rfl)
theorem dX1_isJudged_50 : decode cX1_isJudged 50 = .ok (.iaload, 1) := dk_46 (dk_at dksX1_isJudged_2 3 rfl rfl)
theorem dX1_isJudged_51 : decode cX1_isJudged 51 = .ok (.iconst 1, 1) := dk_4 (dk_at dksX1_isJudged_2 4 rfl rfl)
theorem dX1_isJudged_52 : decode cX1_isJudged 52 = .ok (.if_icmp .ne 7, 3) := dk_160 0 7 (dk_at dksX1_isJudged_2 5 rfl rfl)
theorem dX1_isJudged_55 : decode cX1_isJudged 55 = .ok (.iconst 1, 1) := dk_4 (dk_at dksX1_isJudged_2 8 rfl rfl)
theorem dX1_isJudged_56 : decode cX1_isJudged 56 = .ok (.goto 4, 3) := dk_167 0 4 (dk_at dksX1_isJudged_2 9 rfl rfl)
theorem dX1_isJudged_59 : decode cX1_isJudged 59 = .ok (.iconst 0, 1) := dk_3 (dk_at dksX1_isJudged_2 12 rfl rfl)
theorem dX1_isJudged_60 : decode cX1_isJudged 60 = .ok (.if_icmp .ne 7, 3) := dk_160 0 7 (dk_at dksX1_isJudged_2 13 rfl rfl)
theorem dX1_isJudged_63 : decode cX1_isJudged 63 = .ok (.iconst 1, 1) := dk_4 (dk_at dksX1_isJudged_2 16 rfl rfl)
theorem dX1_isJudged_64 : decode cX1_isJudged 64 = .ok (.goto 4, 3) := dk_167 0 4 (dk_at dksX1_isJudged_2 17 rfl rfl)
theorem dX1_isJudged_67 : decode cX1_isJudged 67 = .ok (.iconst 0, 1) := dk_3 (dk_at dksX1_isJudged_2 20 rfl rfl)
theorem dX1_isJudged_68 : decode cX1_isJudged 68 = .ok (.istore_n 3, 1) := dk_62 (dk_at dksX1_isJudged_2 21 rfl rfl)
theorem dX1_isJudged_69 : decode cX1_isJudged 69 = .ok (.iinc 4 2, 3) := dk_132 4 2 (dk_at dksX1_isJudged_3 0 rfl rfl)
theorem dX1_isJudged_72 : decode cX1_isJudged 72 = .ok (.goto (-67), 3) := dk_167 255 189 (dk_at dksX1_isJudged_3 3 rfl rfl)
theorem dX1_isJudged_75 : decode cX1_isJudged 75 = .ok (.iload_n 3, 1) := dk_29 (dk_at dksX1_isJudged_3 6 rfl rfl)
theorem dX1_isJudged_76 : decode cX1_isJudged 76 = .ok (.ireturn, 1) := dk_172 (dk_at dksX1_isJudged_3 7 rfl rfl)
abbrev cX1_odds : ByteArray := prog_10_method_101_code
def yX1_odds : MethodName := ⟨RX1, "odds", "(II)I"⟩
def dkwX1_odds_3 : List UInt8 := [167, 255, 218, 42, 33, 22, 5, 182, 1, 30, 172]
abbrev dktX1_odds_3 : List UInt8 := dkwX1_odds_3 ++ []
def dkwX1_odds_2 : List UInt8 := [184, 0, 215, 162, 0, 22, 33, 28, 133, 105, 66, 22, 5, 20, 1, 28, 105, 55, 5, 132, 7, 1]
abbrev dktX1_odds_2 : List UInt8 := dkwX1_odds_2 ++ dktX1_odds_3
def dkwX1_odds_1 : List UInt8 := [10, 55, 5, 3, 54, 7, 21, 7, 42, 180, 0, 7, 4, 46, 42, 27, 182, 0, 185, 2, 130, 126]
abbrev dktX1_odds_1 : List UInt8 := dkwX1_odds_1 ++ dktX1_odds_2
def dkwX1_odds_0 : List UInt8 := [42, 27, 182, 0, 229, 153, 0, 15, 28, 133, 9, 20, 1, 28, 184, 0, 72, 154, 0, 5, 2, 172, 10, 66]
abbrev dktX1_odds_0 : List UInt8 := dkwX1_odds_0 ++ dktX1_odds_1
theorem dksX1_odds_0 : cX1_odds.data.toList.drop 0 = dktX1_odds_0 := by decide +kernel
theorem dksX1_odds_1 : cX1_odds.data.toList.drop 24 = dktX1_odds_1 := dk_seg dksX1_odds_0 24 rfl rfl
theorem dksX1_odds_2 : cX1_odds.data.toList.drop 46 = dktX1_odds_2 := dk_seg dksX1_odds_1 22 rfl rfl
theorem dksX1_odds_3 : cX1_odds.data.toList.drop 68 = dktX1_odds_3 := dk_seg dksX1_odds_2 22 rfl rfl
theorem dX1_odds_0 : decode cX1_odds 0 = .ok (.aload_n 0, 1) := dk_42 (dk_at dksX1_odds_0 0 rfl rfl)
theorem dX1_odds_1 : decode cX1_odds 1 = .ok (.iload_n 1, 1) := dk_27 (dk_at dksX1_odds_0 1 rfl rfl)
theorem dX1_odds_2 : decode cX1_odds 2 = .ok (.invokevirtual 229, 3) := dk_182 0 229 (dk_at dksX1_odds_0 2 rfl rfl)
theorem dX1_odds_5 : decode cX1_odds 5 = .ok (.ifCond .eq 15, 3) := dk_153 0 15 (dk_at dksX1_odds_0 5 rfl rfl)
theorem dX1_odds_8 : decode cX1_odds 8 = .ok (.iload_n 2, 1) := dk_28 (dk_at dksX1_odds_0 8 rfl rfl)
theorem dX1_odds_9 : decode cX1_odds 9 = .ok (.i2l, 1) := dk_133 (dk_at dksX1_odds_0 9 rfl rfl)
theorem dX1_odds_10 : decode cX1_odds 10 = .ok (.lconst 0, 1) := dk_9 (dk_at dksX1_odds_0 10 rfl rfl)
theorem dX1_odds_11 : decode cX1_odds 11 = .ok (.ldc2_w 284, 3) := dk_20 1 28 (dk_at dksX1_odds_0 11 rfl rfl)
theorem dX1_odds_14 : decode cX1_odds 14 = .ok (.invokestatic 72, 3) := dk_184 0 72 (dk_at dksX1_odds_0 14 rfl rfl)
theorem dX1_odds_17 : decode cX1_odds 17 = .ok (.ifCond .ne 5, 3) := dk_154 0 5 (dk_at dksX1_odds_0 17 rfl rfl)
theorem dX1_odds_20 : decode cX1_odds 20 = .ok (.iconst (-1), 1) := dk_2 (dk_at dksX1_odds_0 20 rfl rfl)
theorem dX1_odds_21 : decode cX1_odds 21 = .ok (.ireturn, 1) := dk_172 (dk_at dksX1_odds_0 21 rfl rfl)
theorem dX1_odds_22 : decode cX1_odds 22 = .ok (.lconst 1, 1) := dk_10 (dk_at dksX1_odds_0 22 rfl rfl)
theorem dX1_odds_23 : decode cX1_odds 23 = .ok (.lstore_n 3, 1) := dk_66 (dk_at dksX1_odds_0 23 rfl rfl)
theorem dX1_odds_24 : decode cX1_odds 24 = .ok (.lconst 1, 1) := dk_10 (dk_at dksX1_odds_1 0 rfl rfl)
theorem dX1_odds_25 : decode cX1_odds 25 = .ok (.lstore 5, 2) := dk_55 5 (dk_at dksX1_odds_1 1 rfl rfl)
theorem dX1_odds_27 : decode cX1_odds 27 = .ok (.iconst 0, 1) := dk_3 (dk_at dksX1_odds_1 3 rfl rfl)
theorem dX1_odds_28 : decode cX1_odds 28 = .ok (.istore 7, 2) := dk_54 7 (dk_at dksX1_odds_1 4 rfl rfl)
theorem dX1_odds_30 : decode cX1_odds 30 = .ok (.iload 7, 2) := dk_21 7 (dk_at dksX1_odds_1 6 rfl rfl)
theorem dX1_odds_32 : decode cX1_odds 32 = .ok (.aload_n 0, 1) := dk_42 (dk_at dksX1_odds_1 8 rfl rfl)
theorem dX1_odds_33 : decode cX1_odds 33 = .ok (.getfield 7, 3) := dk_180 0 7 (dk_at dksX1_odds_1 9 rfl rfl)
theorem dX1_odds_36 : decode cX1_odds 36 = .ok (.iconst 1, 1) := dk_4 (dk_at dksX1_odds_1 12 rfl rfl)
theorem dX1_odds_37 : decode cX1_odds 37 = .ok (.iaload, 1) := dk_46 (dk_at dksX1_odds_1 13 rfl rfl)
theorem dX1_odds_38 : decode cX1_odds 38 = .ok (.aload_n 0, 1) := dk_42 (dk_at dksX1_odds_1 14 rfl rfl)
theorem dX1_odds_39 : decode cX1_odds 39 = .ok (.iload_n 1, 1) := dk_27 (dk_at dksX1_odds_1 15 rfl rfl)
theorem dX1_odds_40 : decode cX1_odds 40 = .ok (.invokevirtual 185, 3) := dk_182 0 185 (dk_at dksX1_odds_1 16 rfl rfl)
theorem dX1_odds_43 : decode cX1_odds 43 = .ok (.iconst (-1), 1) := dk_2 (dk_at dksX1_odds_1 19 rfl rfl)
theorem dX1_odds_44 : decode cX1_odds 44 = .ok (.ixor, 1) := dk_130 (dk_at dksX1_odds_1 20 rfl rfl)
theorem dX1_odds_45 : decode cX1_odds 45 = .ok (.iand, 1) := dk_126 (dk_at dksX1_odds_1 21 rfl rfl)
theorem dX1_odds_46 : decode cX1_odds 46 = .ok (.invokestatic 215, 3) := dk_184 0 215 (dk_at dksX1_odds_2 0 rfl rfl)
theorem dX1_odds_49 : decode cX1_odds 49 = .ok (.if_icmp .ge 22, 3) := dk_162 0 22 (dk_at dksX1_odds_2 3 rfl rfl)
theorem dX1_odds_52 : decode cX1_odds 52 = .ok (.lload_n 3, 1) := dk_33 (dk_at dksX1_odds_2 6 rfl rfl)
theorem dX1_odds_53 : decode cX1_odds 53 = .ok (.iload_n 2, 1) := dk_28 (dk_at dksX1_odds_2 7 rfl rfl)
theorem dX1_odds_54 : decode cX1_odds 54 = .ok (.i2l, 1) := dk_133 (dk_at dksX1_odds_2 8 rfl rfl)
theorem dX1_odds_55 : decode cX1_odds 55 = .ok (.lmul, 1) := dk_105 (dk_at dksX1_odds_2 9 rfl rfl)
theorem dX1_odds_56 : decode cX1_odds 56 = .ok (.lstore_n 3, 1) := dk_66 (dk_at dksX1_odds_2 10 rfl rfl)
theorem dX1_odds_57 : decode cX1_odds 57 = .ok (.lload 5, 2) := dk_22 5 (dk_at dksX1_odds_2 11 rfl rfl)
theorem dX1_odds_59 : decode cX1_odds 59 = .ok (.ldc2_w 284, 3) := dk_20 1 28 (dk_at dksX1_odds_2 13 rfl rfl)
theorem dX1_odds_62 : decode cX1_odds 62 = .ok (.lmul, 1) := dk_105 (dk_at dksX1_odds_2 16 rfl rfl)
theorem dX1_odds_63 : decode cX1_odds 63 = .ok (.lstore 5, 2) := dk_55 5 (dk_at dksX1_odds_2 17 rfl rfl)
theorem dX1_odds_65 : decode cX1_odds 65 = .ok (.iinc 7 1, 3) := dk_132 7 1 (dk_at dksX1_odds_2 19 rfl rfl)
theorem dX1_odds_68 : decode cX1_odds 68 = .ok (.goto (-38), 3) := dk_167 255 218 (dk_at dksX1_odds_3 0 rfl rfl)
theorem dX1_odds_71 : decode cX1_odds 71 = .ok (.aload_n 0, 1) := dk_42 (dk_at dksX1_odds_3 3 rfl rfl)
theorem dX1_odds_72 : decode cX1_odds 72 = .ok (.lload_n 3, 1) := dk_33 (dk_at dksX1_odds_3 4 rfl rfl)
theorem dX1_odds_73 : decode cX1_odds 73 = .ok (.lload 5, 2) := dk_22 5 (dk_at dksX1_odds_3 5 rfl rfl)
theorem dX1_odds_75 : decode cX1_odds 75 = .ok (.invokevirtual 286, 3) := dk_182 1 30 (dk_at dksX1_odds_3 7 rfl rfl)
theorem dX1_odds_78 : decode cX1_odds 78 = .ok (.ireturn, 1) := dk_172 (dk_at dksX1_odds_3 10 rfl rfl)
abbrev cX1_tellParts : ByteArray := prog_10_method_100_code
def yX1_tellParts : MethodName := ⟨RX1, "tellParts", "(JJ)I"⟩
def dkwX1_tellParts_2 : List UInt8 := [172]
abbrev dktX1_tellParts_2 : List UInt8 := dkwX1_tellParts_2 ++ []
def dkwX1_tellParts_1 : List UInt8 := [22, 9, 55, 7, 167, 255, 234, 42, 31, 22, 5, 109, 181, 1, 25, 42, 33, 22, 5, 109, 181, 0, 37, 4]
abbrev dktX1_tellParts_1 : List UInt8 := dkwX1_tellParts_1 ++ dktX1_tellParts_2
def dkwX1_tellParts_0 : List UInt8 := [31, 55, 5, 33, 55, 7, 22, 7, 9, 148, 153, 0, 21, 22, 5, 22, 7, 113, 55, 9, 22, 7, 55, 5]
abbrev dktX1_tellParts_0 : List UInt8 := dkwX1_tellParts_0 ++ dktX1_tellParts_1
theorem dksX1_tellParts_0 : cX1_tellParts.data.toList.drop 0 = dktX1_tellParts_0 := by decide +kernel
theorem dksX1_tellParts_1 : cX1_tellParts.data.toList.drop 24 = dktX1_tellParts_1 := dk_seg dksX1_tellParts_0 24 rfl rfl
theorem dksX1_tellParts_2 : cX1_tellParts.data.toList.drop 48 = dktX1_tellParts_2 := dk_seg dksX1_tellParts_1 24 rfl rfl
theorem dX1_tellParts_0 : decode cX1_tellParts 0 = .ok (.lload_n 1, 1) := dk_31 (dk_at dksX1_tellParts_0 0 rfl rfl)
theorem dX1_tellParts_1 : decode cX1_tellParts 1 = .ok (.lstore 5, 2) := dk_55 5 (dk_at dksX1_tellParts_0 1 rfl rfl)
theorem dX1_tellParts_3 : decode cX1_tellParts 3 = .ok (.lload_n 3, 1) := dk_33 (dk_at dksX1_tellParts_0 3 rfl rfl)
theorem dX1_tellParts_4 : decode cX1_tellParts 4 = .ok (.lstore 7, 2) := dk_55 7 (dk_at dksX1_tellParts_0 4 rfl rfl)
theorem dX1_tellParts_6 : decode cX1_tellParts 6 = .ok (.lload 7, 2) := dk_22 7 (dk_at dksX1_tellParts_0 6 rfl rfl)
theorem dX1_tellParts_8 : decode cX1_tellParts 8 = .ok (.lconst 0, 1) := dk_9 (dk_at dksX1_tellParts_0 8 rfl rfl)
theorem dX1_tellParts_9 : decode cX1_tellParts 9 = .ok (.lcmp, 1) := dk_148 (dk_at dksX1_tellParts_0 9 rfl rfl)
theorem dX1_tellParts_10 : decode cX1_tellParts 10 = .ok (.ifCond .eq 21, 3) := dk_153 0 21 (dk_at dksX1_tellParts_0 10 rfl rfl)
theorem dX1_tellParts_13 : decode cX1_tellParts 13 = .ok (.lload 5, 2) := dk_22 5 (dk_at dksX1_tellParts_0 13 rfl rfl)
theorem dX1_tellParts_15 : decode cX1_tellParts 15 = .ok (.lload 7, 2) := dk_22 7 (dk_at dksX1_tellParts_0 15 rfl rfl)
theorem dX1_tellParts_17 : decode cX1_tellParts 17 = .ok (.lrem, 1) := dk_113 (dk_at dksX1_tellParts_0 17 rfl rfl)
theorem dX1_tellParts_18 : decode cX1_tellParts 18 = .ok (.lstore 9, 2) := dk_55 9 (dk_at dksX1_tellParts_0 18 rfl rfl)
theorem dX1_tellParts_20 : decode cX1_tellParts 20 = .ok (.lload 7, 2) := dk_22 7 (dk_at dksX1_tellParts_0 20 rfl rfl)
theorem dX1_tellParts_22 : decode cX1_tellParts 22 = .ok (.lstore 5, 2) := dk_55 5 (dk_at dksX1_tellParts_0 22 rfl rfl)
theorem dX1_tellParts_24 : decode cX1_tellParts 24 = .ok (.lload 9, 2) := dk_22 9 (dk_at dksX1_tellParts_1 0 rfl rfl)
theorem dX1_tellParts_26 : decode cX1_tellParts 26 = .ok (.lstore 7, 2) := dk_55 7 (dk_at dksX1_tellParts_1 2 rfl rfl)
theorem dX1_tellParts_28 : decode cX1_tellParts 28 = .ok (.goto (-22), 3) := dk_167 255 234 (dk_at dksX1_tellParts_1 4 rfl rfl)
theorem dX1_tellParts_31 : decode cX1_tellParts 31 = .ok (.aload_n 0, 1) := dk_42 (dk_at dksX1_tellParts_1 7 rfl rfl)
theorem dX1_tellParts_32 : decode cX1_tellParts 32 = .ok (.lload_n 1, 1) := dk_31 (dk_at dksX1_tellParts_1 8 rfl rfl)
theorem dX1_tellParts_33 : decode cX1_tellParts 33 = .ok (.lload 5, 2) := dk_22 5 (dk_at dksX1_tellParts_1 9 rfl rfl)
theorem dX1_tellParts_35 : decode cX1_tellParts 35 = .ok (.ldiv, 1) := dk_109 (dk_at dksX1_tellParts_1 11 rfl rfl)
theorem dX1_tellParts_36 : decode cX1_tellParts 36 = .ok (.putfield 281, 3) := dk_181 1 25 (dk_at dksX1_tellParts_1 12 rfl rfl)
theorem dX1_tellParts_39 : decode cX1_tellParts 39 = .ok (.aload_n 0, 1) := dk_42 (dk_at dksX1_tellParts_1 15 rfl rfl)
theorem dX1_tellParts_40 : decode cX1_tellParts 40 = .ok (.lload_n 3, 1) := dk_33 (dk_at dksX1_tellParts_1 16 rfl rfl)
theorem dX1_tellParts_41 : decode cX1_tellParts 41 = .ok (.lload 5, 2) := dk_22 5 (dk_at dksX1_tellParts_1 17 rfl rfl)
theorem dX1_tellParts_43 : decode cX1_tellParts 43 = .ok (.ldiv, 1) := dk_109 (dk_at dksX1_tellParts_1 19 rfl rfl)
theorem dX1_tellParts_44 : decode cX1_tellParts 44 = .ok (.putfield 37, 3) := dk_181 0 37 (dk_at dksX1_tellParts_1 20 rfl rfl)
theorem dX1_tellParts_47 : decode cX1_tellParts 47 = .ok (.iconst 1, 1) := dk_4 (dk_at dksX1_tellParts_1 23 rfl rfl)
theorem dX1_tellParts_48 : decode cX1_tellParts 48 = .ok (.ireturn, 1) := dk_172 (dk_at dksX1_tellParts_2 0 rfl rfl)
abbrev cX1_luck : ByteArray := prog_10_method_102_code
def yX1_luck : MethodName := ⟨RX1, "luck", "()I"⟩
def dkwX1_luck_1 : List UInt8 := [182, 1, 30, 172]
abbrev dktX1_luck_1 : List UInt8 := dkwX1_luck_1 ++ []
def dkwX1_luck_0 : List UInt8 := [42, 180, 0, 147, 154, 0, 8, 16, 252, 167, 0, 17, 42, 42, 182, 0, 238, 133, 42, 182, 0, 150, 133]
abbrev dktX1_luck_0 : List UInt8 := dkwX1_luck_0 ++ dktX1_luck_1
theorem dksX1_luck_0 : cX1_luck.data.toList.drop 0 = dktX1_luck_0 := by decide +kernel
theorem dksX1_luck_1 : cX1_luck.data.toList.drop 23 = dktX1_luck_1 := dk_seg dksX1_luck_0 23 rfl rfl
theorem dX1_luck_0 : decode cX1_luck 0 = .ok (.aload_n 0, 1) := dk_42 (dk_at dksX1_luck_0 0 rfl rfl)
theorem dX1_luck_1 : decode cX1_luck 1 = .ok (.getfield 147, 3) := dk_180 0 147 (dk_at dksX1_luck_0 1 rfl rfl)
theorem dX1_luck_4 : decode cX1_luck 4 = .ok (.ifCond .ne 8, 3) := dk_154 0 8 (dk_at dksX1_luck_0 4 rfl rfl)
theorem dX1_luck_7 : decode cX1_luck 7 = .ok (.bipush (-4), 2) := dk_16 252 (dk_at dksX1_luck_0 7 rfl rfl)
theorem dX1_luck_9 : decode cX1_luck 9 = .ok (.goto 17, 3) := dk_167 0 17 (dk_at dksX1_luck_0 9 rfl rfl)
theorem dX1_luck_12 : decode cX1_luck 12 = .ok (.aload_n 0, 1) := dk_42 (dk_at dksX1_luck_0 12 rfl rfl)
theorem dX1_luck_13 : decode cX1_luck 13 = .ok (.aload_n 0, 1) := dk_42 (dk_at dksX1_luck_0 13 rfl rfl)
theorem dX1_luck_14 : decode cX1_luck 14 = .ok (.invokevirtual 238, 3) := dk_182 0 238 (dk_at dksX1_luck_0 14 rfl rfl)
theorem dX1_luck_17 : decode cX1_luck 17 = .ok (.i2l, 1) := dk_133 (dk_at dksX1_luck_0 17 rfl rfl)
theorem dX1_luck_18 : decode cX1_luck 18 = .ok (.aload_n 0, 1) := dk_42 (dk_at dksX1_luck_0 18 rfl rfl)
theorem dX1_luck_19 : decode cX1_luck 19 = .ok (.invokevirtual 150, 3) := dk_182 0 150 (dk_at dksX1_luck_0 19 rfl rfl)
theorem dX1_luck_22 : decode cX1_luck 22 = .ok (.i2l, 1) := dk_133 (dk_at dksX1_luck_0 22 rfl rfl)
theorem dX1_luck_23 : decode cX1_luck 23 = .ok (.invokevirtual 286, 3) := dk_182 1 30 (dk_at dksX1_luck_1 0 rfl rfl)
theorem dX1_luck_26 : decode cX1_luck 26 = .ok (.ireturn, 1) := dk_172 (dk_at dksX1_luck_1 3 rfl rfl)
abbrev cX1_lots : ByteArray := prog_10_method_103_code
def yX1_lots : MethodName := ⟨RX1, "lots", "(II)I"⟩
def dkwX1_lots_4 : List UInt8 := [167, 255, 208, 21, 5, 172]
abbrev dktX1_lots_4 : List UInt8 := dkwX1_lots_4 ++ []
def dkwX1_lots_3 : List UInt8 := [182, 0, 150, 133, 113, 136, 182, 0, 235, 153, 0, 7, 4, 167, 0, 4, 3, 96, 54, 5, 132, 6, 1]
abbrev dktX1_lots_3 : List UInt8 := dkwX1_lots_3 ++ dktX1_lots_4
def dkwX1_lots_2 : List UInt8 := [162, 0, 48, 33, 20, 1, 38, 105, 20, 1, 40, 113, 66, 21, 5, 42, 33, 20, 1, 42, 109, 42]
abbrev dktX1_lots_2 : List UInt8 := dkwX1_lots_2 ++ dktX1_lots_3
def dkwX1_lots_1 : List UInt8 := [2, 172, 42, 180, 0, 147, 154, 0, 6, 16, 252, 172, 28, 133, 66, 3, 54, 5, 3, 54, 6, 21, 6, 27]
abbrev dktX1_lots_1 : List UInt8 := dkwX1_lots_1 ++ dktX1_lots_2
def dkwX1_lots_0 : List UInt8 := [27, 133, 10, 20, 1, 34, 184, 0, 72, 153, 0, 15, 28, 133, 10, 20, 1, 36, 184, 0, 72, 154, 0, 5]
abbrev dktX1_lots_0 : List UInt8 := dkwX1_lots_0 ++ dktX1_lots_1
theorem dksX1_lots_0 : cX1_lots.data.toList.drop 0 = dktX1_lots_0 := by decide +kernel
theorem dksX1_lots_1 : cX1_lots.data.toList.drop 24 = dktX1_lots_1 := dk_seg dksX1_lots_0 24 rfl rfl
theorem dksX1_lots_2 : cX1_lots.data.toList.drop 48 = dktX1_lots_2 := dk_seg dksX1_lots_1 24 rfl rfl
theorem dksX1_lots_3 : cX1_lots.data.toList.drop 70 = dktX1_lots_3 := dk_seg dksX1_lots_2 22 rfl rfl
theorem dksX1_lots_4 : cX1_lots.data.toList.drop 93 = dktX1_lots_4 := dk_seg dksX1_lots_3 23 rfl rfl
theorem dX1_lots_0 : decode cX1_lots 0 = .ok (.iload_n 1, 1) := dk_27 (dk_at dksX1_lots_0 0 rfl rfl)
theorem dX1_lots_1 : decode cX1_lots 1 = .ok (.i2l, 1) := dk_133 (dk_at dksX1_lots_0 1 rfl rfl)
theorem dX1_lots_2 : decode cX1_lots 2 = .ok (.lconst 1, 1) := dk_10 (dk_at dksX1_lots_0 2 rfl rfl)
theorem dX1_lots_3 : decode cX1_lots 3 = .ok (.ldc2_w 290, 3) := dk_20 1 34 (dk_at dksX1_lots_0 3 rfl rfl)
theorem dX1_lots_6 : decode cX1_lots 6 = .ok (.invokestatic 72, 3) := dk_184 0 72 (dk_at dksX1_lots_0 6 rfl rfl)
theorem dX1_lots_9 : decode cX1_lots 9 = .ok (.ifCond .eq 15, 3) := dk_153 0 15 (dk_at dksX1_lots_0 9 rfl rfl)
theorem dX1_lots_12 : decode cX1_lots 12 = .ok (.iload_n 2, 1) := dk_28 (dk_at dksX1_lots_0 12 rfl rfl)
theorem dX1_lots_13 : decode cX1_lots 13 = .ok (.i2l, 1) := dk_133 (dk_at dksX1_lots_0 13 rfl rfl)
theorem dX1_lots_14 : decode cX1_lots 14 = .ok (.lconst 1, 1) := dk_10 (dk_at dksX1_lots_0 14 rfl rfl)
theorem dX1_lots_15 : decode cX1_lots 15 = .ok (.ldc2_w 292, 3) := dk_20 1 36 (dk_at dksX1_lots_0 15 rfl rfl)
theorem dX1_lots_18 : decode cX1_lots 18 = .ok (.invokestatic 72, 3) := dk_184 0 72 (dk_at dksX1_lots_0 18 rfl rfl)
theorem dX1_lots_21 : decode cX1_lots 21 = .ok (.ifCond .ne 5, 3) := dk_154 0 5 (dk_at dksX1_lots_0 21 rfl rfl)
theorem dX1_lots_24 : decode cX1_lots 24 = .ok (.iconst (-1), 1) := dk_2 (dk_at dksX1_lots_1 0 rfl rfl)
theorem dX1_lots_25 : decode cX1_lots 25 = .ok (.ireturn, 1) := dk_172 (dk_at dksX1_lots_1 1 rfl rfl)
theorem dX1_lots_26 : decode cX1_lots 26 = .ok (.aload_n 0, 1) := dk_42 (dk_at dksX1_lots_1 2 rfl rfl)
theorem dX1_lots_27 : decode cX1_lots 27 = .ok (.getfield 147, 3) := dk_180 0 147 (dk_at dksX1_lots_1 3 rfl rfl)
theorem dX1_lots_30 : decode cX1_lots 30 = .ok (.ifCond .ne 6, 3) := dk_154 0 6 (dk_at dksX1_lots_1 6 rfl rfl)
theorem dX1_lots_33 : decode cX1_lots 33 = .ok (.bipush (-4), 2) := dk_16 252 (dk_at dksX1_lots_1 9 rfl rfl)
theorem dX1_lots_35 : decode cX1_lots 35 = .ok (.ireturn, 1) := dk_172 (dk_at dksX1_lots_1 11 rfl rfl)
theorem dX1_lots_36 : decode cX1_lots 36 = .ok (.iload_n 2, 1) := dk_28 (dk_at dksX1_lots_1 12 rfl rfl)
theorem dX1_lots_37 : decode cX1_lots 37 = .ok (.i2l, 1) := dk_133 (dk_at dksX1_lots_1 13 rfl rfl)
theorem dX1_lots_38 : decode cX1_lots 38 = .ok (.lstore_n 3, 1) := dk_66 (dk_at dksX1_lots_1 14 rfl rfl)
theorem dX1_lots_39 : decode cX1_lots 39 = .ok (.iconst 0, 1) := dk_3 (dk_at dksX1_lots_1 15 rfl rfl)
theorem dX1_lots_40 : decode cX1_lots 40 = .ok (.istore 5, 2) := dk_54 5 (dk_at dksX1_lots_1 16 rfl rfl)
theorem dX1_lots_42 : decode cX1_lots 42 = .ok (.iconst 0, 1) := dk_3 (dk_at dksX1_lots_1 18 rfl rfl)
theorem dX1_lots_43 : decode cX1_lots 43 = .ok (.istore 6, 2) := dk_54 6 (dk_at dksX1_lots_1 19 rfl rfl)
theorem dX1_lots_45 : decode cX1_lots 45 = .ok (.iload 6, 2) := dk_21 6 (dk_at dksX1_lots_1 21 rfl rfl)
theorem dX1_lots_47 : decode cX1_lots 47 = .ok (.iload_n 1, 1) := dk_27 (dk_at dksX1_lots_1 23 rfl rfl)
theorem dX1_lots_48 : decode cX1_lots 48 = .ok (.if_icmp .ge 48, 3) := dk_162 0 48 (dk_at dksX1_lots_2 0 rfl rfl)
theorem dX1_lots_51 : decode cX1_lots 51 = .ok (.lload_n 3, 1) := dk_33 (dk_at dksX1_lots_2 3 rfl rfl)
theorem dX1_lots_52 : decode cX1_lots 52 = .ok (.ldc2_w 294, 3) := dk_20 1 38 (dk_at dksX1_lots_2 4 rfl rfl)
theorem dX1_lots_55 : decode cX1_lots 55 = .ok (.lmul, 1) := dk_105 (dk_at dksX1_lots_2 7 rfl rfl)
theorem dX1_lots_56 : decode cX1_lots 56 = .ok (.ldc2_w 296, 3) := dk_20 1 40 (dk_at dksX1_lots_2 8 rfl rfl)
theorem dX1_lots_59 : decode cX1_lots 59 = .ok (.lrem, 1) := dk_113 (dk_at dksX1_lots_2 11 rfl rfl)
theorem dX1_lots_60 : decode cX1_lots 60 = .ok (.lstore_n 3, 1) := dk_66 (dk_at dksX1_lots_2 12 rfl rfl)
theorem dX1_lots_61 : decode cX1_lots 61 = .ok (.iload 5, 2) := dk_21 5 (dk_at dksX1_lots_2 13 rfl rfl)
theorem dX1_lots_63 : decode cX1_lots 63 = .ok (.aload_n 0, 1) := dk_42 (dk_at dksX1_lots_2 15 rfl rfl)
theorem dX1_lots_64 : decode cX1_lots 64 = .ok (.lload_n 3, 1) := dk_33 (dk_at dksX1_lots_2 16 rfl rfl)
theorem dX1_lots_65 : decode cX1_lots 65 = .ok (.ldc2_w 298, 3) := dk_20 1 42 (dk_at dksX1_lots_2 17 rfl rfl)
theorem dX1_lots_68 : decode cX1_lots 68 = .ok (.ldiv, 1) := dk_109 (dk_at dksX1_lots_2 20 rfl rfl)
theorem dX1_lots_69 : decode cX1_lots 69 = .ok (.aload_n 0, 1) := dk_42 (dk_at dksX1_lots_2 21 rfl rfl)
theorem dX1_lots_70 : decode cX1_lots 70 = .ok (.invokevirtual 150, 3) := dk_182 0 150 (dk_at dksX1_lots_3 0 rfl rfl)
theorem dX1_lots_73 : decode cX1_lots 73 = .ok (.i2l, 1) := dk_133 (dk_at dksX1_lots_3 3 rfl rfl)
theorem dX1_lots_74 : decode cX1_lots 74 = .ok (.lrem, 1) := dk_113 (dk_at dksX1_lots_3 4 rfl rfl)
theorem dX1_lots_75 : decode cX1_lots 75 = .ok (.l2i, 1) := dk_136 (dk_at dksX1_lots_3 5 rfl rfl)
theorem dX1_lots_76 : decode cX1_lots 76 = .ok (.invokevirtual 235, 3) := dk_182 0 235 (dk_at dksX1_lots_3 6 rfl rfl)
theorem dX1_lots_79 : decode cX1_lots 79 = .ok (.ifCond .eq 7, 3) := dk_153 0 7 (dk_at dksX1_lots_3 9 rfl rfl)
theorem dX1_lots_82 : decode cX1_lots 82 = .ok (.iconst 1, 1) := dk_4 (dk_at dksX1_lots_3 12 rfl rfl)
theorem dX1_lots_83 : decode cX1_lots 83 = .ok (.goto 4, 3) := dk_167 0 4 (dk_at dksX1_lots_3 13 rfl rfl)
theorem dX1_lots_86 : decode cX1_lots 86 = .ok (.iconst 0, 1) := dk_3 (dk_at dksX1_lots_3 16 rfl rfl)
theorem dX1_lots_87 : decode cX1_lots 87 = .ok (.iadd, 1) := dk_96 (dk_at dksX1_lots_3 17 rfl rfl)
theorem dX1_lots_88 : decode cX1_lots 88 = .ok (.istore 5, 2) := dk_54 5 (dk_at dksX1_lots_3 18 rfl rfl)
theorem dX1_lots_90 : decode cX1_lots 90 = .ok (.iinc 6 1, 3) := dk_132 6 1 (dk_at dksX1_lots_3 20 rfl rfl)
theorem dX1_lots_93 : decode cX1_lots 93 = .ok (.goto (-48), 3) := dk_167 255 208 (dk_at dksX1_lots_4 0 rfl rfl)
theorem dX1_lots_96 : decode cX1_lots 96 = .ok (.iload 5, 2) := dk_21 5 (dk_at dksX1_lots_4 3 rfl rfl)
theorem dX1_lots_98 : decode cX1_lots 98 = .ok (.ireturn, 1) := dk_172 (dk_at dksX1_lots_4 5 rfl rfl)
abbrev cX1_asked : ByteArray := prog_10_method_104_code
def yX1_asked : MethodName := ⟨RX1, "asked", "()I"⟩
theorem dX1_asked_0 : decode cX1_asked 0 = .ok (.aload_n 0, 1) := by decide +kernel
theorem dX1_asked_1 : decode cX1_asked 1 = .ok (.getfield 67, 3) := by decide +kernel
theorem dX1_asked_4 : decode cX1_asked 4 = .ok (.ireturn, 1) := by decide +kernel
abbrev cX1_upper : ByteArray := prog_10_method_105_code
def yX1_upper : MethodName := ⟨RX1, "upper", "()J"⟩
theorem dX1_upper_0 : decode cX1_upper 0 = .ok (.aload_n 0, 1) := by decide +kernel
theorem dX1_upper_1 : decode cX1_upper 1 = .ok (.getfield 281, 3) := by decide +kernel
theorem dX1_upper_4 : decode cX1_upper 4 = .ok (.lreturn, 1) := by decide +kernel
abbrev cX1_lower : ByteArray := prog_10_method_106_code
def yX1_lower : MethodName := ⟨RX1, "lower", "()J"⟩
theorem dX1_lower_0 : decode cX1_lower 0 = .ok (.aload_n 0, 1) := by decide +kernel
theorem dX1_lower_1 : decode cX1_lower 1 = .ok (.getfield 37, 3) := by decide +kernel
theorem dX1_lower_4 : decode cX1_lower 4 = .ok (.lreturn, 1) := by decide +kernel
abbrev cX1_count : ByteArray := prog_10_method_110_code
def yX1_count : MethodName := ⟨RX1, "count", "(I)I"⟩
def dkwX1_count_0 : List UInt8 := [27, 133, 9, 20, 1, 50, 184, 0, 72, 153, 0, 11, 42, 27, 182, 1, 52, 167, 0, 4, 2, 172]
abbrev dktX1_count_0 : List UInt8 := dkwX1_count_0 ++ []
theorem dksX1_count_0 : cX1_count.data.toList.drop 0 = dktX1_count_0 := by decide +kernel
theorem dX1_count_0 : decode cX1_count 0 = .ok (.iload_n 1, 1) := dk_27 (dk_at dksX1_count_0 0 rfl rfl)
theorem dX1_count_1 : decode cX1_count 1 = .ok (.i2l, 1) := dk_133 (dk_at dksX1_count_0 1 rfl rfl)
theorem dX1_count_2 : decode cX1_count 2 = .ok (.lconst 0, 1) := dk_9 (dk_at dksX1_count_0 2 rfl rfl)
theorem dX1_count_3 : decode cX1_count 3 = .ok (.ldc2_w 306, 3) := dk_20 1 50 (dk_at dksX1_count_0 3 rfl rfl)
theorem dX1_count_6 : decode cX1_count 6 = .ok (.invokestatic 72, 3) := dk_184 0 72 (dk_at dksX1_count_0 6 rfl rfl)
theorem dX1_count_9 : decode cX1_count 9 = .ok (.ifCond .eq 11, 3) := dk_153 0 11 (dk_at dksX1_count_0 9 rfl rfl)
theorem dX1_count_12 : decode cX1_count 12 = .ok (.aload_n 0, 1) := dk_42 (dk_at dksX1_count_0 12 rfl rfl)
theorem dX1_count_13 : decode cX1_count 13 = .ok (.iload_n 1, 1) := dk_27 (dk_at dksX1_count_0 13 rfl rfl)
theorem dX1_count_14 : decode cX1_count 14 = .ok (.invokevirtual 308, 3) := dk_182 1 52 (dk_at dksX1_count_0 14 rfl rfl)
theorem dX1_count_17 : decode cX1_count 17 = .ok (.goto 4, 3) := dk_167 0 4 (dk_at dksX1_count_0 17 rfl rfl)
theorem dX1_count_20 : decode cX1_count 20 = .ok (.iconst (-1), 1) := dk_2 (dk_at dksX1_count_0 20 rfl rfl)
theorem dX1_count_21 : decode cX1_count 21 = .ok (.ireturn, 1) := dk_172 (dk_at dksX1_count_0 21 rfl rfl)
abbrev cX1_countOf : ByteArray := prog_10_method_109_code
def yX1_countOf : MethodName := ⟨RX1, "countOf", "(I)I"⟩
def dkwX1_countOf_3 : List UInt8 := [3, 46, 172, 42, 4, 182, 1, 44, 172, 42, 5, 182, 1, 44, 172, 42, 27, 182, 1, 47, 172]
abbrev dktX1_countOf_3 : List UInt8 := dkwX1_countOf_3 ++ []
def dkwX1_countOf_2 : List UInt8 := [42, 180, 0, 147, 172, 42, 180, 0, 60, 172, 42, 180, 0, 7, 4, 46, 184, 0, 215, 172, 42, 180, 0, 7]
abbrev dktX1_countOf_2 : List UInt8 := dkwX1_countOf_2 ++ dktX1_countOf_3
def dkwX1_countOf_1 : List UInt8 := [170, 0, 0, 0, 0, 0, 78, 0, 0, 0, 0, 0, 0, 0, 5, 0, 0, 0, 39, 0, 0, 0, 44, 0, 0, 0, 49, 0, 0, 0, 59, 0, 0, 0, 66, 0, 0, 0, 72]
abbrev dktX1_countOf_1 : List UInt8 := dkwX1_countOf_1 ++ dktX1_countOf_2
def dkwX1_countOf_0 : List UInt8 := [27]
abbrev dktX1_countOf_0 : List UInt8 := dkwX1_countOf_0 ++ dktX1_countOf_1
theorem dksX1_countOf_0 : cX1_countOf.data.toList.drop 0 = dktX1_countOf_0 := by decide +kernel
theorem dksX1_countOf_1 : cX1_countOf.data.toList.drop 1 = dktX1_countOf_1 := dk_seg dksX1_countOf_0 1 rfl rfl
theorem dksX1_countOf_2 : cX1_countOf.data.toList.drop 40 = dktX1_countOf_2 := dk_seg dksX1_countOf_1 39 rfl rfl
theorem dksX1_countOf_3 : cX1_countOf.data.toList.drop 64 = dktX1_countOf_3 := dk_seg dksX1_countOf_2 24 rfl rfl
theorem dX1_countOf_0 : decode cX1_countOf 0 = .ok (.iload_n 1, 1) := dk_27 (dk_at dksX1_countOf_0 0 rfl rfl)
theorem dX1_countOf_1 : decode cX1_countOf 1 = .ok (.tableswitch 78 0 5 #[39, 44, 49, 59, 66, 72], 39) := by decide +kernel
theorem dX1_countOf_40 : decode cX1_countOf 40 = .ok (.aload_n 0, 1) := dk_42 (dk_at dksX1_countOf_2 0 rfl rfl)
theorem dX1_countOf_41 : decode cX1_countOf 41 = .ok (.getfield 147, 3) := dk_180 0 147 (dk_at dksX1_countOf_2 1 rfl rfl)
theorem dX1_countOf_44 : decode cX1_countOf 44 = .ok (.ireturn, 1) := dk_172 (dk_at dksX1_countOf_2 4 rfl rfl)
theorem dX1_countOf_45 : decode cX1_countOf 45 = .ok (.aload_n 0, 1) := dk_42 (dk_at dksX1_countOf_2 5 rfl rfl)
theorem dX1_countOf_46 : decode cX1_countOf 46 = .ok (.getfield 60, 3) := dk_180 0 60 (dk_at dksX1_countOf_2 6 rfl rfl)
theorem dX1_countOf_49 : decode cX1_countOf 49 = .ok (.ireturn, 1) := dk_172 (dk_at dksX1_countOf_2 9 rfl rfl)
theorem dX1_countOf_50 : decode cX1_countOf 50 = .ok (.aload_n 0, 1) := dk_42 (dk_at dksX1_countOf_2 10 rfl rfl)
theorem dX1_countOf_51 : decode cX1_countOf 51 = .ok (.getfield 7, 3) := dk_180 0 7 (dk_at dksX1_countOf_2 11 rfl rfl)
theorem dX1_countOf_54 : decode cX1_countOf 54 = .ok (.iconst 1, 1) := dk_4 (dk_at dksX1_countOf_2 14 rfl rfl)
theorem dX1_countOf_55 : decode cX1_countOf 55 = .ok (.iaload, 1) := dk_46 (dk_at dksX1_countOf_2 15 rfl rfl)
theorem dX1_countOf_56 : decode cX1_countOf 56 = .ok (.invokestatic 215, 3) := dk_184 0 215 (dk_at dksX1_countOf_2 16 rfl rfl)
theorem dX1_countOf_59 : decode cX1_countOf 59 = .ok (.ireturn, 1) := dk_172 (dk_at dksX1_countOf_2 19 rfl rfl)
theorem dX1_countOf_60 : decode cX1_countOf 60 = .ok (.aload_n 0, 1) := dk_42 (dk_at dksX1_countOf_2 20 rfl rfl)
theorem dX1_countOf_61 : decode cX1_countOf 61 = .ok (.getfield 7, 3) := dk_180 0 7 (dk_at dksX1_countOf_2 21 rfl rfl)
theorem dX1_countOf_64 : decode cX1_countOf 64 = .ok (.iconst 0, 1) := dk_3 (dk_at dksX1_countOf_3 0 rfl rfl)
theorem dX1_countOf_65 : decode cX1_countOf 65 = .ok (.iaload, 1) := dk_46 (dk_at dksX1_countOf_3 1 rfl rfl)
theorem dX1_countOf_66 : decode cX1_countOf 66 = .ok (.ireturn, 1) := dk_172 (dk_at dksX1_countOf_3 2 rfl rfl)
theorem dX1_countOf_67 : decode cX1_countOf 67 = .ok (.aload_n 0, 1) := dk_42 (dk_at dksX1_countOf_3 3 rfl rfl)
theorem dX1_countOf_68 : decode cX1_countOf 68 = .ok (.iconst 1, 1) := dk_4 (dk_at dksX1_countOf_3 4 rfl rfl)
theorem dX1_countOf_69 : decode cX1_countOf 69 = .ok (.invokevirtual 300, 3) := dk_182 1 44 (dk_at dksX1_countOf_3 5 rfl rfl)
theorem dX1_countOf_72 : decode cX1_countOf 72 = .ok (.ireturn, 1) := dk_172 (dk_at dksX1_countOf_3 8 rfl rfl)
theorem dX1_countOf_73 : decode cX1_countOf 73 = .ok (.aload_n 0, 1) := dk_42 (dk_at dksX1_countOf_3 9 rfl rfl)
theorem dX1_countOf_74 : decode cX1_countOf 74 = .ok (.iconst 2, 1) := dk_5 (dk_at dksX1_countOf_3 10 rfl rfl)
theorem dX1_countOf_75 : decode cX1_countOf 75 = .ok (.invokevirtual 300, 3) := dk_182 1 44 (dk_at dksX1_countOf_3 11 rfl rfl)
theorem dX1_countOf_78 : decode cX1_countOf 78 = .ok (.ireturn, 1) := dk_172 (dk_at dksX1_countOf_3 14 rfl rfl)
theorem dX1_countOf_79 : decode cX1_countOf 79 = .ok (.aload_n 0, 1) := dk_42 (dk_at dksX1_countOf_3 15 rfl rfl)
theorem dX1_countOf_80 : decode cX1_countOf 80 = .ok (.iload_n 1, 1) := dk_27 (dk_at dksX1_countOf_3 16 rfl rfl)
theorem dX1_countOf_81 : decode cX1_countOf 81 = .ok (.invokevirtual 303, 3) := dk_182 1 47 (dk_at dksX1_countOf_3 17 rfl rfl)
theorem dX1_countOf_84 : decode cX1_countOf 84 = .ok (.ireturn, 1) := dk_172 (dk_at dksX1_countOf_3 20 rfl rfl)
abbrev cX1_kindMany : ByteArray := prog_10_method_107_code
def yX1_kindMany : MethodName := ⟨RX1, "kindMany", "(I)I"⟩
def dkwX1_kindMany_1 : List UInt8 := [167, 0, 4, 3, 96, 61, 132, 3, 1, 167, 255, 228, 28, 172]
abbrev dktX1_kindMany_1 : List UInt8 := dkwX1_kindMany_1 ++ []
def dkwX1_kindMany_0 : List UInt8 := [3, 61, 3, 62, 29, 42, 180, 0, 60, 162, 0, 26, 28, 42, 29, 27, 182, 0, 200, 153, 0, 7, 4]
abbrev dktX1_kindMany_0 : List UInt8 := dkwX1_kindMany_0 ++ dktX1_kindMany_1
theorem dksX1_kindMany_0 : cX1_kindMany.data.toList.drop 0 = dktX1_kindMany_0 := by decide +kernel
theorem dksX1_kindMany_1 : cX1_kindMany.data.toList.drop 23 = dktX1_kindMany_1 := dk_seg dksX1_kindMany_0 23 rfl rfl
theorem dX1_kindMany_0 : decode cX1_kindMany 0 = .ok (.iconst 0, 1) := dk_3 (dk_at dksX1_kindMany_0 0 rfl rfl)
theorem dX1_kindMany_1 : decode cX1_kindMany 1 = .ok (.istore_n 2, 1) := dk_61 (dk_at dksX1_kindMany_0 1 rfl rfl)
theorem dX1_kindMany_2 : decode cX1_kindMany 2 = .ok (.iconst 0, 1) := dk_3 (dk_at dksX1_kindMany_0 2 rfl rfl)
theorem dX1_kindMany_3 : decode cX1_kindMany 3 = .ok (.istore_n 3, 1) := dk_62 (dk_at dksX1_kindMany_0 3 rfl rfl)
theorem dX1_kindMany_4 : decode cX1_kindMany 4 = .ok (.iload_n 3, 1) := dk_29 (dk_at dksX1_kindMany_0 4 rfl rfl)
theorem dX1_kindMany_5 : decode cX1_kindMany 5 = .ok (.aload_n 0, 1) := dk_42 (dk_at dksX1_kindMany_0 5 rfl rfl)
theorem dX1_kindMany_6 : decode cX1_kindMany 6 = .ok (.getfield 60, 3) := dk_180 0 60 (dk_at dksX1_kindMany_0 6 rfl rfl)
theorem dX1_kindMany_9 : decode cX1_kindMany 9 = .ok (.if_icmp .ge 26, 3) := dk_162 0 26 (dk_at dksX1_kindMany_0 9 rfl rfl)
theorem dX1_kindMany_12 : decode cX1_kindMany 12 = .ok (.iload_n 2, 1) := dk_28 (dk_at dksX1_kindMany_0 12 rfl rfl)
theorem dX1_kindMany_13 : decode cX1_kindMany 13 = .ok (.aload_n 0, 1) := dk_42 (dk_at dksX1_kindMany_0 13 rfl rfl)
theorem dX1_kindMany_14 : decode cX1_kindMany 14 = .ok (.iload_n 3, 1) := dk_29 (dk_at dksX1_kindMany_0 14 rfl rfl)
theorem dX1_kindMany_15 : decode cX1_kindMany 15 = .ok (.iload_n 1, 1) := dk_27 (dk_at dksX1_kindMany_0 15 rfl rfl)
theorem dX1_kindMany_16 : decode cX1_kindMany 16 = .ok (.invokevirtual 200, 3) := dk_182 0 200 (dk_at dksX1_kindMany_0 16 rfl rfl)
theorem dX1_kindMany_19 : decode cX1_kindMany 19 = .ok (.ifCond .eq 7, 3) := dk_153 0 7 (dk_at dksX1_kindMany_0 19 rfl rfl)
theorem dX1_kindMany_22 : decode cX1_kindMany 22 = .ok (.iconst 1, 1) := dk_4 (dk_at dksX1_kindMany_0 22 rfl rfl)
theorem dX1_kindMany_23 : decode cX1_kindMany 23 = .ok (.goto 4, 3) := dk_167 0 4 (dk_at dksX1_kindMany_1 0 rfl rfl)
theorem dX1_kindMany_26 : decode cX1_kindMany 26 = .ok (.iconst 0, 1) := dk_3 (dk_at dksX1_kindMany_1 3 rfl rfl)
theorem dX1_kindMany_27 : decode cX1_kindMany 27 = .ok (.iadd, 1) := dk_96 (dk_at dksX1_kindMany_1 4 rfl rfl)
theorem dX1_kindMany_28 : decode cX1_kindMany 28 = .ok (.istore_n 2, 1) := dk_61 (dk_at dksX1_kindMany_1 5 rfl rfl)
theorem dX1_kindMany_29 : decode cX1_kindMany 29 = .ok (.iinc 3 1, 3) := dk_132 3 1 (dk_at dksX1_kindMany_1 6 rfl rfl)
theorem dX1_kindMany_32 : decode cX1_kindMany 32 = .ok (.goto (-28), 3) := dk_167 255 228 (dk_at dksX1_kindMany_1 9 rfl rfl)
theorem dX1_kindMany_35 : decode cX1_kindMany 35 = .ok (.iload_n 2, 1) := dk_28 (dk_at dksX1_kindMany_1 12 rfl rfl)
theorem dX1_kindMany_36 : decode cX1_kindMany 36 = .ok (.ireturn, 1) := dk_172 (dk_at dksX1_kindMany_1 13 rfl rfl)
abbrev cX1_thereOf : ByteArray := prog_10_method_108_code
def yX1_thereOf : MethodName := ⟨RX1, "thereOf", "(I)I"⟩
def dkwX1_thereOf_4 : List UInt8 := [132, 3, 1, 167, 255, 166, 28, 172]
abbrev dktX1_thereOf_4 : List UInt8 := dkwX1_thereOf_4 ++ []
def dkwX1_thereOf_3 : List UInt8 := [180, 0, 7, 17, 1, 114, 4, 29, 96, 104, 3, 96, 46, 155, 0, 7, 4, 167, 0, 4, 3, 96, 61]
abbrev dktX1_thereOf_3 : List UInt8 := dkwX1_thereOf_3 ++ dktX1_thereOf_4
def dkwX1_thereOf_2 : List UInt8 := [180, 0, 31, 29, 46, 155, 0, 7, 4, 167, 0, 34, 3, 167, 0, 30, 29, 6, 162, 0, 24, 42]
abbrev dktX1_thereOf_2 : List UInt8 := dkwX1_thereOf_2 ++ dktX1_thereOf_3
def dkwX1_thereOf_1 : List UInt8 := [156, 0, 7, 3, 167, 0, 62, 4, 167, 0, 58, 27, 16, 7, 160, 0, 25, 29, 7, 162, 0, 16, 42]
abbrev dktX1_thereOf_1 : List UInt8 := dkwX1_thereOf_1 ++ dktX1_thereOf_2
def dkwX1_thereOf_0 : List UInt8 := [3, 61, 3, 62, 29, 16, 6, 162, 0, 90, 28, 27, 16, 6, 160, 0, 20, 42, 180, 0, 25, 29, 46]
abbrev dktX1_thereOf_0 : List UInt8 := dkwX1_thereOf_0 ++ dktX1_thereOf_1
theorem dksX1_thereOf_0 : cX1_thereOf.data.toList.drop 0 = dktX1_thereOf_0 := by decide +kernel
theorem dksX1_thereOf_1 : cX1_thereOf.data.toList.drop 23 = dktX1_thereOf_1 := dk_seg dksX1_thereOf_0 23 rfl rfl
theorem dksX1_thereOf_2 : cX1_thereOf.data.toList.drop 46 = dktX1_thereOf_2 := dk_seg dksX1_thereOf_1 23 rfl rfl
theorem dksX1_thereOf_3 : cX1_thereOf.data.toList.drop 68 = dktX1_thereOf_3 := dk_seg dksX1_thereOf_2 22 rfl rfl
theorem dksX1_thereOf_4 : cX1_thereOf.data.toList.drop 91 = dktX1_thereOf_4 := dk_seg dksX1_thereOf_3 23 rfl rfl
theorem dX1_thereOf_0 : decode cX1_thereOf 0 = .ok (.iconst 0, 1) := dk_3 (dk_at dksX1_thereOf_0 0 rfl rfl)
theorem dX1_thereOf_1 : decode cX1_thereOf 1 = .ok (.istore_n 2, 1) := dk_61 (dk_at dksX1_thereOf_0 1 rfl rfl)
theorem dX1_thereOf_2 : decode cX1_thereOf 2 = .ok (.iconst 0, 1) := dk_3 (dk_at dksX1_thereOf_0 2 rfl rfl)
theorem dX1_thereOf_3 : decode cX1_thereOf 3 = .ok (.istore_n 3, 1) := dk_62 (dk_at dksX1_thereOf_0 3 rfl rfl)
theorem dX1_thereOf_4 : decode cX1_thereOf 4 = .ok (.iload_n 3, 1) := dk_29 (dk_at dksX1_thereOf_0 4 rfl rfl)
theorem dX1_thereOf_5 : decode cX1_thereOf 5 = .ok (.bipush 6, 2) := dk_16 6 (dk_at dksX1_thereOf_0 5 rfl rfl)
theorem dX1_thereOf_7 : decode cX1_thereOf 7 = .ok (.if_icmp .ge 90, 3) := dk_162 0 90 (dk_at dksX1_thereOf_0 7 rfl rfl)
theorem dX1_thereOf_10 : decode cX1_thereOf 10 = .ok (.iload_n 2, 1) := dk_28 (dk_at dksX1_thereOf_0 10 rfl rfl)
theorem dX1_thereOf_11 : decode cX1_thereOf 11 = .ok (.iload_n 1, 1) := dk_27 (dk_at dksX1_thereOf_0 11 rfl rfl)
theorem dX1_thereOf_12 : decode cX1_thereOf 12 = .ok (.bipush 6, 2) := dk_16 6 (dk_at dksX1_thereOf_0 12 rfl rfl)
theorem dX1_thereOf_14 : decode cX1_thereOf 14 = .ok (.if_icmp .ne 20, 3) := dk_160 0 20 (dk_at dksX1_thereOf_0 14 rfl rfl)
theorem dX1_thereOf_17 : decode cX1_thereOf 17 = .ok (.aload_n 0, 1) := dk_42 (dk_at dksX1_thereOf_0 17 rfl rfl)
theorem dX1_thereOf_18 : decode cX1_thereOf 18 = .ok (.getfield 25, 3) := dk_180 0 25 (dk_at dksX1_thereOf_0 18 rfl rfl)
theorem dX1_thereOf_21 : decode cX1_thereOf 21 = .ok (.iload_n 3, 1) := dk_29 (dk_at dksX1_thereOf_0 21 rfl rfl)
theorem dX1_thereOf_22 : decode cX1_thereOf 22 = .ok (.iaload, 1) := dk_46 (dk_at dksX1_thereOf_0 22 rfl rfl)
theorem dX1_thereOf_23 : decode cX1_thereOf 23 = .ok (.ifCond .ge 7, 3) := dk_156 0 7 (dk_at dksX1_thereOf_1 0 rfl rfl)
theorem dX1_thereOf_26 : decode cX1_thereOf 26 = .ok (.iconst 0, 1) := dk_3 (dk_at dksX1_thereOf_1 3 rfl rfl)
theorem dX1_thereOf_27 : decode cX1_thereOf 27 = .ok (.goto 62, 3) := dk_167 0 62 (dk_at dksX1_thereOf_1 4 rfl rfl)
theorem dX1_thereOf_30 : decode cX1_thereOf 30 = .ok (.iconst 1, 1) := dk_4 (dk_at dksX1_thereOf_1 7 rfl rfl)
theorem dX1_thereOf_31 : decode cX1_thereOf 31 = .ok (.goto 58, 3) := dk_167 0 58 (dk_at dksX1_thereOf_1 8 rfl rfl)
theorem dX1_thereOf_34 : decode cX1_thereOf 34 = .ok (.iload_n 1, 1) := dk_27 (dk_at dksX1_thereOf_1 11 rfl rfl)
theorem dX1_thereOf_35 : decode cX1_thereOf 35 = .ok (.bipush 7, 2) := dk_16 7 (dk_at dksX1_thereOf_1 12 rfl rfl)
theorem dX1_thereOf_37 : decode cX1_thereOf 37 = .ok (.if_icmp .ne 25, 3) := dk_160 0 25 (dk_at dksX1_thereOf_1 14 rfl rfl)
theorem dX1_thereOf_40 : decode cX1_thereOf 40 = .ok (.iload_n 3, 1) := dk_29 (dk_at dksX1_thereOf_1 17 rfl rfl)
theorem dX1_thereOf_41 : decode cX1_thereOf 41 = .ok (.iconst 4, 1) := dk_7 (dk_at dksX1_thereOf_1 18 rfl rfl)
theorem dX1_thereOf_42 : decode cX1_thereOf 42 = .ok (.if_icmp .ge 16, 3) := dk_162 0 16 (dk_at dksX1_thereOf_1 19 rfl rfl)
theorem dX1_thereOf_45 : decode cX1_thereOf 45 = .ok (.aload_n 0, 1) := dk_42 (dk_at dksX1_thereOf_1 22 rfl rfl)
theorem dX1_thereOf_46 : decode cX1_thereOf 46 = .ok (.getfield 31, 3) := dk_180 0 31 (dk_at dksX1_thereOf_2 0 rfl rfl)
theorem dX1_thereOf_49 : decode cX1_thereOf 49 = .ok (.iload_n 3, 1) := dk_29 (dk_at dksX1_thereOf_2 3 rfl rfl)
theorem dX1_thereOf_50 : decode cX1_thereOf 50 = .ok (.iaload, 1) := dk_46 (dk_at dksX1_thereOf_2 4 rfl rfl)
theorem dX1_thereOf_51 : decode cX1_thereOf 51 = .ok (.ifCond .lt 7, 3) := dk_155 0 7 (dk_at dksX1_thereOf_2 5 rfl rfl)
theorem dX1_thereOf_54 : decode cX1_thereOf 54 = .ok (.iconst 1, 1) := dk_4 (dk_at dksX1_thereOf_2 8 rfl rfl)
theorem dX1_thereOf_55 : decode cX1_thereOf 55 = .ok (.goto 34, 3) := dk_167 0 34 (dk_at dksX1_thereOf_2 9 rfl rfl)
theorem dX1_thereOf_58 : decode cX1_thereOf 58 = .ok (.iconst 0, 1) := dk_3 (dk_at dksX1_thereOf_2 12 rfl rfl)
theorem dX1_thereOf_59 : decode cX1_thereOf 59 = .ok (.goto 30, 3) := dk_167 0 30 (dk_at dksX1_thereOf_2 13 rfl rfl)
theorem dX1_thereOf_62 : decode cX1_thereOf 62 = .ok (.iload_n 3, 1) := dk_29 (dk_at dksX1_thereOf_2 16 rfl rfl)
theorem dX1_thereOf_63 : decode cX1_thereOf 63 = .ok (.iconst 3, 1) := dk_6 (dk_at dksX1_thereOf_2 17 rfl rfl)
theorem dX1_thereOf_64 : decode cX1_thereOf 64 = .ok (.if_icmp .ge 24, 3) := dk_162 0 24 (dk_at dksX1_thereOf_2 18 rfl rfl)
theorem dX1_thereOf_67 : decode cX1_thereOf 67 = .ok (.aload_n 0, 1) := dk_42 (dk_at dksX1_thereOf_2 21 rfl rfl)
theorem dX1_thereOf_68 : decode cX1_thereOf 68 = .ok (.getfield 7, 3) := dk_180 0 7 (dk_at dksX1_thereOf_3 0 rfl rfl)
theorem dX1_thereOf_71 : decode cX1_thereOf 71 = .ok (.sipush 370, 3) := dk_17 1 114 (dk_at dksX1_thereOf_3 3 rfl rfl)
theorem dX1_thereOf_74 : decode cX1_thereOf 74 = .ok (.iconst 1, 1) := dk_4 (dk_at dksX1_thereOf_3 6 rfl rfl)
theorem dX1_thereOf_75 : decode cX1_thereOf 75 = .ok (.iload_n 3, 1) := dk_29 (dk_at dksX1_thereOf_3 7 rfl rfl)
theorem dX1_thereOf_76 : decode cX1_thereOf 76 = .ok (.iadd, 1) := dk_96 (dk_at dksX1_thereOf_3 8 rfl rfl)
theorem dX1_thereOf_77 : decode cX1_thereOf 77 = .ok (.imul, 1) := dk_104 (dk_at dksX1_thereOf_3 9 rfl rfl)
theorem dX1_thereOf_78 : decode cX1_thereOf 78 = .ok (.iconst 0, 1) := dk_3 (dk_at dksX1_thereOf_3 10 rfl rfl)
theorem dX1_thereOf_79 : decode cX1_thereOf 79 = .ok (.iadd, 1) := dk_96 (dk_at dksX1_thereOf_3 11 rfl rfl)
theorem dX1_thereOf_80 : decode cX1_thereOf 80 = .ok (.iaload, 1) := dk_46 (dk_at dksX1_thereOf_3 12 rfl rfl)
theorem dX1_thereOf_81 : decode cX1_thereOf 81 = .ok (.ifCond .lt 7, 3) := dk_155 0 7 (dk_at dksX1_thereOf_3 13 rfl rfl)
theorem dX1_thereOf_84 : decode cX1_thereOf 84 = .ok (.iconst 1, 1) := dk_4 (dk_at dksX1_thereOf_3 16 rfl rfl)
theorem dX1_thereOf_85 : decode cX1_thereOf 85 = .ok (.goto 4, 3) := dk_167 0 4 (dk_at dksX1_thereOf_3 17 rfl rfl)
theorem dX1_thereOf_88 : decode cX1_thereOf 88 = .ok (.iconst 0, 1) := dk_3 (dk_at dksX1_thereOf_3 20 rfl rfl)
theorem dX1_thereOf_89 : decode cX1_thereOf 89 = .ok (.iadd, 1) := dk_96 (dk_at dksX1_thereOf_3 21 rfl rfl)
theorem dX1_thereOf_90 : decode cX1_thereOf 90 = .ok (.istore_n 2, 1) := dk_61 (dk_at dksX1_thereOf_3 22 rfl rfl)
theorem dX1_thereOf_91 : decode cX1_thereOf 91 = .ok (.iinc 3 1, 3) := dk_132 3 1 (dk_at dksX1_thereOf_4 0 rfl rfl)
theorem dX1_thereOf_94 : decode cX1_thereOf 94 = .ok (.goto (-90), 3) := dk_167 255 166 (dk_at dksX1_thereOf_4 3 rfl rfl)
theorem dX1_thereOf_97 : decode cX1_thereOf 97 = .ok (.iload_n 2, 1) := dk_28 (dk_at dksX1_thereOf_4 6 rfl rfl)
theorem dX1_thereOf_98 : decode cX1_thereOf 98 = .ok (.ireturn, 1) := dk_172 (dk_at dksX1_thereOf_4 7 rfl rfl)
abbrev cX1_finding : ByteArray := prog_10_method_111_code
def yX1_finding : MethodName := ⟨RX1, "finding", "()I"⟩
theorem dX1_finding_0 : decode cX1_finding 0 = .ok (.aload_n 0, 1) := by decide +kernel
theorem dX1_finding_1 : decode cX1_finding 1 = .ok (.getfield 64, 3) := by decide +kernel
theorem dX1_finding_4 : decode cX1_finding 4 = .ok (.ireturn, 1) := by decide +kernel
abbrev cX1_findings : ByteArray := prog_10_method_112_code
def yX1_findings : MethodName := ⟨RX1, "findings", "(I)I"⟩
def dkwX1_findings_0 : List UInt8 := [27, 133, 10, 20, 0, 70, 184, 0, 72, 153, 0, 12, 42, 180, 0, 41, 27, 46, 167, 0, 4, 2, 172]
abbrev dktX1_findings_0 : List UInt8 := dkwX1_findings_0 ++ []
theorem dksX1_findings_0 : cX1_findings.data.toList.drop 0 = dktX1_findings_0 := by decide +kernel
theorem dX1_findings_0 : decode cX1_findings 0 = .ok (.iload_n 1, 1) := dk_27 (dk_at dksX1_findings_0 0 rfl rfl)
theorem dX1_findings_1 : decode cX1_findings 1 = .ok (.i2l, 1) := dk_133 (dk_at dksX1_findings_0 1 rfl rfl)
theorem dX1_findings_2 : decode cX1_findings 2 = .ok (.lconst 1, 1) := dk_10 (dk_at dksX1_findings_0 2 rfl rfl)
theorem dX1_findings_3 : decode cX1_findings 3 = .ok (.ldc2_w 70, 3) := dk_20 0 70 (dk_at dksX1_findings_0 3 rfl rfl)
theorem dX1_findings_6 : decode cX1_findings 6 = .ok (.invokestatic 72, 3) := dk_184 0 72 (dk_at dksX1_findings_0 6 rfl rfl)
theorem dX1_findings_9 : decode cX1_findings 9 = .ok (.ifCond .eq 12, 3) := dk_153 0 12 (dk_at dksX1_findings_0 9 rfl rfl)
theorem dX1_findings_12 : decode cX1_findings 12 = .ok (.aload_n 0, 1) := dk_42 (dk_at dksX1_findings_0 12 rfl rfl)
theorem dX1_findings_13 : decode cX1_findings 13 = .ok (.getfield 41, 3) := dk_180 0 41 (dk_at dksX1_findings_0 13 rfl rfl)
theorem dX1_findings_16 : decode cX1_findings 16 = .ok (.iload_n 1, 1) := dk_27 (dk_at dksX1_findings_0 16 rfl rfl)
theorem dX1_findings_17 : decode cX1_findings 17 = .ok (.iaload, 1) := dk_46 (dk_at dksX1_findings_0 17 rfl rfl)
theorem dX1_findings_18 : decode cX1_findings 18 = .ok (.goto 4, 3) := dk_167 0 4 (dk_at dksX1_findings_0 18 rfl rfl)
theorem dX1_findings_21 : decode cX1_findings 21 = .ok (.iconst (-1), 1) := dk_2 (dk_at dksX1_findings_0 21 rfl rfl)
theorem dX1_findings_22 : decode cX1_findings 22 = .ok (.ireturn, 1) := dk_172 (dk_at dksX1_findings_0 22 rfl rfl)
abbrev cX1_digest : ByteArray := prog_10_method_113_code
def yX1_digest : MethodName := ⟨RX1, "digest", "()J"⟩
def dkwX1_digest_12 : List UInt8 := [132, 4, 1, 167, 255, 222, 132, 3, 1, 167, 255, 194, 31, 173]
abbrev dktX1_digest_12 : List UInt8 := dkwX1_digest_12 ++ []
def dkwX1_digest_11 : List UInt8 := [46, 162, 0, 29, 20, 1, 57, 31, 105, 42, 180, 0, 34, 16, 80, 29, 104, 21, 4, 96, 46, 133, 97, 64]
abbrev dktX1_digest_11 : List UInt8 := dkwX1_digest_11 ++ dktX1_digest_12
def dkwX1_digest_10 : List UInt8 := [20, 1, 57, 31, 105, 42, 180, 0, 31, 29, 46, 133, 97, 64, 3, 54, 4, 21, 4, 42, 180, 0, 31, 29]
abbrev dktX1_digest_10 : List UInt8 := dkwX1_digest_10 ++ dktX1_digest_11
def dkwX1_digest_9 : List UInt8 := [96, 46, 133, 97, 64, 132, 4, 1, 167, 255, 222, 132, 3, 1, 167, 255, 193, 3, 62, 29, 7, 162, 0, 63]
abbrev dktX1_digest_9 : List UInt8 := dkwX1_digest_9 ++ dktX1_digest_10
def dkwX1_digest_8 : List UInt8 := [42, 180, 0, 25, 29, 46, 162, 0, 29, 20, 1, 57, 31, 105, 42, 180, 0, 28, 16, 40, 29, 104, 21, 4]
abbrev dktX1_digest_8 : List UInt8 := dkwX1_digest_8 ++ dktX1_digest_9
def dkwX1_digest_7 : List UInt8 := [16, 6, 162, 0, 63, 20, 1, 57, 31, 105, 42, 180, 0, 25, 29, 46, 133, 97, 64, 3, 54, 4, 21, 4]
abbrev dktX1_digest_7 : List UInt8 := dkwX1_digest_7 ++ dktX1_digest_8
def dkwX1_digest_6 : List UInt8 := [42, 180, 0, 7, 17, 1, 114, 29, 104, 3, 96, 46, 133, 97, 64, 132, 3, 1, 167, 255, 228, 3, 62, 29]
abbrev dktX1_digest_6 : List UInt8 := dkwX1_digest_6 ++ dktX1_digest_7
def dkwX1_digest_5 : List UInt8 := [182, 0, 197, 133, 97, 64, 132, 3, 1, 167, 255, 225, 4, 62, 29, 7, 162, 0, 29, 20, 1, 57, 31, 105]
abbrev dktX1_digest_5 : List UInt8 := dkwX1_digest_5 ++ dktX1_digest_6
def dkwX1_digest_4 : List UInt8 := [62, 29, 8, 42, 180, 0, 60, 104, 162, 0, 27, 20, 1, 57, 31, 105, 42, 29, 8, 108, 29, 8, 112]
abbrev dktX1_digest_4 : List UInt8 := dkwX1_digest_4 ++ dktX1_digest_5
def dkwX1_digest_3 : List UInt8 := [162, 0, 23, 20, 1, 57, 31, 105, 42, 180, 0, 13, 29, 46, 133, 97, 64, 132, 3, 1, 167, 255, 229, 3]
abbrev dktX1_digest_3 : List UInt8 := dkwX1_digest_3 ++ dktX1_digest_4
def dkwX1_digest_2 : List UInt8 := [5, 29, 96, 46, 133, 97, 64, 132, 3, 1, 167, 255, 231, 3, 62, 29, 8, 42, 180, 0, 147, 104]
abbrev dktX1_digest_2 : List UInt8 := dkwX1_digest_2 ++ dktX1_digest_3
def dkwX1_digest_1 : List UInt8 := [64, 132, 3, 1, 167, 255, 234, 3, 62, 29, 16, 8, 162, 0, 25, 20, 1, 57, 31, 105, 42, 180, 0, 7]
abbrev dktX1_digest_1 : List UInt8 := dkwX1_digest_1 ++ dktX1_digest_2
def dkwX1_digest_0 : List UInt8 := [20, 1, 55, 64, 3, 62, 29, 16, 9, 162, 0, 22, 20, 1, 57, 31, 105, 42, 29, 182, 1, 52, 133, 97]
abbrev dktX1_digest_0 : List UInt8 := dkwX1_digest_0 ++ dktX1_digest_1
theorem dksX1_digest_0 : cX1_digest.data.toList.drop 0 = dktX1_digest_0 := by decide +kernel
theorem dksX1_digest_1 : cX1_digest.data.toList.drop 24 = dktX1_digest_1 := dk_seg dksX1_digest_0 24 rfl rfl
theorem dksX1_digest_2 : cX1_digest.data.toList.drop 48 = dktX1_digest_2 := dk_seg dksX1_digest_1 24 rfl rfl
theorem dksX1_digest_3 : cX1_digest.data.toList.drop 70 = dktX1_digest_3 := dk_seg dksX1_digest_2 22 rfl rfl
theorem dksX1_digest_4 : cX1_digest.data.toList.drop 94 = dktX1_digest_4 := dk_seg dksX1_digest_3 24 rfl rfl
theorem dksX1_digest_5 : cX1_digest.data.toList.drop 117 = dktX1_digest_5 := dk_seg dksX1_digest_4 23 rfl rfl
theorem dksX1_digest_6 : cX1_digest.data.toList.drop 141 = dktX1_digest_6 := dk_seg dksX1_digest_5 24 rfl rfl
theorem dksX1_digest_7 : cX1_digest.data.toList.drop 165 = dktX1_digest_7 := dk_seg dksX1_digest_6 24 rfl rfl
theorem dksX1_digest_8 : cX1_digest.data.toList.drop 189 = dktX1_digest_8 := dk_seg dksX1_digest_7 24 rfl rfl
theorem dksX1_digest_9 : cX1_digest.data.toList.drop 213 = dktX1_digest_9 := dk_seg dksX1_digest_8 24 rfl rfl
theorem dksX1_digest_10 : cX1_digest.data.toList.drop 237 = dktX1_digest_10 := dk_seg dksX1_digest_9 24 rfl rfl
theorem dksX1_digest_11 : cX1_digest.data.toList.drop 261 = dktX1_digest_11 := dk_seg dksX1_digest_10 24 rfl rfl
theorem dksX1_digest_12 : cX1_digest.data.toList.drop 285 = dktX1_digest_12 := dk_seg dksX1_digest_11 24 rfl rfl
theorem dX1_digest_0 : decode cX1_digest 0 = .ok (.ldc2_w 311, 3) := dk_20 1 55 (dk_at dksX1_digest_0 0 rfl rfl)
theorem dX1_digest_3 : decode cX1_digest 3 = .ok (.lstore_n 1, 1) := dk_64 (dk_at dksX1_digest_0 3 rfl rfl)
theorem dX1_digest_4 : decode cX1_digest 4 = .ok (.iconst 0, 1) := dk_3 (dk_at dksX1_digest_0 4 rfl rfl)
theorem dX1_digest_5 : decode cX1_digest 5 = .ok (.istore_n 3, 1) := dk_62 (dk_at dksX1_digest_0 5 rfl rfl)
theorem dX1_digest_6 : decode cX1_digest 6 = .ok (.iload_n 3, 1) := dk_29 (dk_at dksX1_digest_0 6 rfl rfl)
theorem dX1_digest_7 : decode cX1_digest 7 = .ok (.bipush 9, 2) := dk_16 9 (dk_at dksX1_digest_0 7 rfl rfl)
theorem dX1_digest_9 : decode cX1_digest 9 = .ok (.if_icmp .ge 22, 3) := dk_162 0 22 (dk_at dksX1_digest_0 9 rfl rfl)
theorem dX1_digest_12 : decode cX1_digest 12 = .ok (.ldc2_w 313, 3) := dk_20 1 57 (dk_at dksX1_digest_0 12 rfl rfl)
theorem dX1_digest_15 : decode cX1_digest 15 = .ok (.lload_n 1, 1) := dk_31 (dk_at dksX1_digest_0 15 rfl rfl)
theorem dX1_digest_16 : decode cX1_digest 16 = .ok (.lmul, 1) := dk_105 (dk_at dksX1_digest_0 16 rfl rfl)
theorem dX1_digest_17 : decode cX1_digest 17 = .ok (.aload_n 0, 1) := dk_42 (dk_at dksX1_digest_0 17 rfl rfl)
theorem dX1_digest_18 : decode cX1_digest 18 = .ok (.iload_n 3, 1) := dk_29 (dk_at dksX1_digest_0 18 rfl rfl)
theorem dX1_digest_19 : decode cX1_digest 19 = .ok (.invokevirtual 308, 3) := dk_182 1 52 (dk_at dksX1_digest_0 19 rfl rfl)
theorem dX1_digest_22 : decode cX1_digest 22 = .ok (.i2l, 1) := dk_133 (dk_at dksX1_digest_0 22 rfl rfl)
theorem dX1_digest_23 : decode cX1_digest 23 = .ok (.ladd, 1) := dk_97 (dk_at dksX1_digest_0 23 rfl rfl)
theorem dX1_digest_24 : decode cX1_digest 24 = .ok (.lstore_n 1, 1) := dk_64 (dk_at dksX1_digest_1 0 rfl rfl)
theorem dX1_digest_25 : decode cX1_digest 25 = .ok (.iinc 3 1, 3) := dk_132 3 1 (dk_at dksX1_digest_1 1 rfl rfl)
theorem dX1_digest_28 : decode cX1_digest 28 = .ok (.goto (-22), 3) := dk_167 255 234 (dk_at dksX1_digest_1 4 rfl rfl)
theorem dX1_digest_31 : decode cX1_digest 31 = .ok (.iconst 0, 1) := dk_3 (dk_at dksX1_digest_1 7 rfl rfl)
theorem dX1_digest_32 : decode cX1_digest 32 = .ok (.istore_n 3, 1) := dk_62 (dk_at dksX1_digest_1 8 rfl rfl)
theorem dX1_digest_33 : decode cX1_digest 33 = .ok (.iload_n 3, 1) := dk_29 (dk_at dksX1_digest_1 9 rfl rfl)
theorem dX1_digest_34 : decode cX1_digest 34 = .ok (.bipush 8, 2) := dk_16 8 (dk_at dksX1_digest_1 10 rfl rfl)
theorem dX1_digest_36 : decode cX1_digest 36 = .ok (.if_icmp .ge 25, 3) := dk_162 0 25 (dk_at dksX1_digest_1 12 rfl rfl)
theorem dX1_digest_39 : decode cX1_digest 39 = .ok (.ldc2_w 313, 3) := dk_20 1 57 (dk_at dksX1_digest_1 15 rfl rfl)
theorem dX1_digest_42 : decode cX1_digest 42 = .ok (.lload_n 1, 1) := dk_31 (dk_at dksX1_digest_1 18 rfl rfl)
theorem dX1_digest_43 : decode cX1_digest 43 = .ok (.lmul, 1) := dk_105 (dk_at dksX1_digest_1 19 rfl rfl)
theorem dX1_digest_44 : decode cX1_digest 44 = .ok (.aload_n 0, 1) := dk_42 (dk_at dksX1_digest_1 20 rfl rfl)
theorem dX1_digest_45 : decode cX1_digest 45 = .ok (.getfield 7, 3) := dk_180 0 7 (dk_at dksX1_digest_1 21 rfl rfl)
theorem dX1_digest_48 : decode cX1_digest 48 = .ok (.iconst 2, 1) := dk_5 (dk_at dksX1_digest_2 0 rfl rfl)
theorem dX1_digest_49 : decode cX1_digest 49 = .ok (.iload_n 3, 1) := dk_29 (dk_at dksX1_digest_2 1 rfl rfl)
theorem dX1_digest_50 : decode cX1_digest 50 = .ok (.iadd, 1) := dk_96 (dk_at dksX1_digest_2 2 rfl rfl)
theorem dX1_digest_51 : decode cX1_digest 51 = .ok (.iaload, 1) := dk_46 (dk_at dksX1_digest_2 3 rfl rfl)
theorem dX1_digest_52 : decode cX1_digest 52 = .ok (.i2l, 1) := dk_133 (dk_at dksX1_digest_2 4 rfl rfl)
theorem dX1_digest_53 : decode cX1_digest 53 = .ok (.ladd, 1) := dk_97 (dk_at dksX1_digest_2 5 rfl rfl)
theorem dX1_digest_54 : decode cX1_digest 54 = .ok (.lstore_n 1, 1) := dk_64 (dk_at dksX1_digest_2 6 rfl rfl)
theorem dX1_digest_55 : decode cX1_digest 55 = .ok (.iinc 3 1, 3) := dk_132 3 1 (dk_at dksX1_digest_2 7 rfl rfl)
theorem dX1_digest_58 : decode cX1_digest 58 = .ok (.goto (-25), 3) := dk_167 255 231 (dk_at dksX1_digest_2 10 rfl rfl)
theorem dX1_digest_61 : decode cX1_digest 61 = .ok (.iconst 0, 1) := dk_3 (dk_at dksX1_digest_2 13 rfl rfl)
theorem dX1_digest_62 : decode cX1_digest 62 = .ok (.istore_n 3, 1) := dk_62 (dk_at dksX1_digest_2 14 rfl rfl)
theorem dX1_digest_63 : decode cX1_digest 63 = .ok (.iload_n 3, 1) := dk_29 (dk_at dksX1_digest_2 15 rfl rfl)
theorem dX1_digest_64 : decode cX1_digest 64 = .ok (.iconst 5, 1) := dk_8 (dk_at dksX1_digest_2 16 rfl rfl)
theorem dX1_digest_65 : decode cX1_digest 65 = .ok (.aload_n 0, 1) := dk_42 (dk_at dksX1_digest_2 17 rfl rfl)
theorem dX1_digest_66 : decode cX1_digest 66 = .ok (.getfield 147, 3) := dk_180 0 147 (dk_at dksX1_digest_2 18 rfl rfl)
theorem dX1_digest_69 : decode cX1_digest 69 = .ok (.imul, 1) := dk_104 (dk_at dksX1_digest_2 21 rfl rfl)
theorem dX1_digest_70 : decode cX1_digest 70 = .ok (.if_icmp .ge 23, 3) := dk_162 0 23 (dk_at dksX1_digest_3 0 rfl rfl)
theorem dX1_digest_73 : decode cX1_digest 73 = .ok (.ldc2_w 313, 3) := dk_20 1 57 (dk_at dksX1_digest_3 3 rfl rfl)
theorem dX1_digest_76 : decode cX1_digest 76 = .ok (.lload_n 1, 1) := dk_31 (dk_at dksX1_digest_3 6 rfl rfl)
theorem dX1_digest_77 : decode cX1_digest 77 = .ok (.lmul, 1) := dk_105 (dk_at dksX1_digest_3 7 rfl rfl)
theorem dX1_digest_78 : decode cX1_digest 78 = .ok (.aload_n 0, 1) := dk_42 (dk_at dksX1_digest_3 8 rfl rfl)
theorem dX1_digest_79 : decode cX1_digest 79 = .ok (.getfield 13, 3) := dk_180 0 13 (dk_at dksX1_digest_3 9 rfl rfl)
theorem dX1_digest_82 : decode cX1_digest 82 = .ok (.iload_n 3, 1) := dk_29 (dk_at dksX1_digest_3 12 rfl rfl)
theorem dX1_digest_83 : decode cX1_digest 83 = .ok (.iaload, 1) := dk_46 (dk_at dksX1_digest_3 13 rfl rfl)
theorem dX1_digest_84 : decode cX1_digest 84 = .ok (.i2l, 1) := dk_133 (dk_at dksX1_digest_3 14 rfl rfl)
theorem dX1_digest_85 : decode cX1_digest 85 = .ok (.ladd, 1) := dk_97 (dk_at dksX1_digest_3 15 rfl rfl)
theorem dX1_digest_86 : decode cX1_digest 86 = .ok (.lstore_n 1, 1) := dk_64 (dk_at dksX1_digest_3 16 rfl rfl)
theorem dX1_digest_87 : decode cX1_digest 87 = .ok (.iinc 3 1, 3) := dk_132 3 1 (dk_at dksX1_digest_3 17 rfl rfl)
theorem dX1_digest_90 : decode cX1_digest 90 = .ok (.goto (-27), 3) := dk_167 255 229 (dk_at dksX1_digest_3 20 rfl rfl)
theorem dX1_digest_93 : decode cX1_digest 93 = .ok (.iconst 0, 1) := dk_3 (dk_at dksX1_digest_3 23 rfl rfl)
theorem dX1_digest_94 : decode cX1_digest 94 = .ok (.istore_n 3, 1) := dk_62 (dk_at dksX1_digest_4 0 rfl rfl)
theorem dX1_digest_95 : decode cX1_digest 95 = .ok (.iload_n 3, 1) := dk_29 (dk_at dksX1_digest_4 1 rfl rfl)
theorem dX1_digest_96 : decode cX1_digest 96 = .ok (.iconst 5, 1) := dk_8 (dk_at dksX1_digest_4 2 rfl rfl)
theorem dX1_digest_97 : decode cX1_digest 97 = .ok (.aload_n 0, 1) := dk_42 (dk_at dksX1_digest_4 3 rfl rfl)
theorem dX1_digest_98 : decode cX1_digest 98 = .ok (.getfield 60, 3) := dk_180 0 60 (dk_at dksX1_digest_4 4 rfl rfl)
theorem dX1_digest_101 : decode cX1_digest 101 = .ok (.imul, 1) := dk_104 (dk_at dksX1_digest_4 7 rfl rfl)
theorem dX1_digest_102 : decode cX1_digest 102 = .ok (.if_icmp .ge 27, 3) := dk_162 0 27 (dk_at dksX1_digest_4 8 rfl rfl)
theorem dX1_digest_105 : decode cX1_digest 105 = .ok (.ldc2_w 313, 3) := dk_20 1 57 (dk_at dksX1_digest_4 11 rfl rfl)
theorem dX1_digest_108 : decode cX1_digest 108 = .ok (.lload_n 1, 1) := dk_31 (dk_at dksX1_digest_4 14 rfl rfl)
theorem dX1_digest_109 : decode cX1_digest 109 = .ok (.lmul, 1) := dk_105 (dk_at dksX1_digest_4 15 rfl rfl)
theorem dX1_digest_110 : decode cX1_digest 110 = .ok (.aload_n 0, 1) := dk_42 (dk_at dksX1_digest_4 16 rfl rfl)
theorem dX1_digest_111 : decode cX1_digest 111 = .ok (.iload_n 3, 1) := dk_29 (dk_at dksX1_digest_4 17 rfl rfl)
theorem dX1_digest_112 : decode cX1_digest 112 = .ok (.iconst 5, 1) := dk_8 (dk_at dksX1_digest_4 18 rfl rfl)
theorem dX1_digest_113 : decode cX1_digest 113 = .ok (.idiv, 1) := dk_108 (dk_at dksX1_digest_4 19 rfl rfl)
theorem dX1_digest_114 : decode cX1_digest 114 = .ok (.iload_n 3, 1) := dk_29 (dk_at dksX1_digest_4 20 rfl rfl)
theorem dX1_digest_115 : decode cX1_digest 115 = .ok (.iconst 5, 1) := dk_8 (dk_at dksX1_digest_4 21 rfl rfl)
theorem dX1_digest_116 : decode cX1_digest 116 = .ok (.irem, 1) := dk_112 (dk_at dksX1_digest_4 22 rfl rfl)
theorem dX1_digest_117 : decode cX1_digest 117 = .ok (.invokevirtual 197, 3) := dk_182 0 197 (dk_at dksX1_digest_5 0 rfl rfl)
theorem dX1_digest_120 : decode cX1_digest 120 = .ok (.i2l, 1) := dk_133 (dk_at dksX1_digest_5 3 rfl rfl)
theorem dX1_digest_121 : decode cX1_digest 121 = .ok (.ladd, 1) := dk_97 (dk_at dksX1_digest_5 4 rfl rfl)
theorem dX1_digest_122 : decode cX1_digest 122 = .ok (.lstore_n 1, 1) := dk_64 (dk_at dksX1_digest_5 5 rfl rfl)
theorem dX1_digest_123 : decode cX1_digest 123 = .ok (.iinc 3 1, 3) := dk_132 3 1 (dk_at dksX1_digest_5 6 rfl rfl)
theorem dX1_digest_126 : decode cX1_digest 126 = .ok (.goto (-31), 3) := dk_167 255 225 (dk_at dksX1_digest_5 9 rfl rfl)
theorem dX1_digest_129 : decode cX1_digest 129 = .ok (.iconst 1, 1) := dk_4 (dk_at dksX1_digest_5 12 rfl rfl)
theorem dX1_digest_130 : decode cX1_digest 130 = .ok (.istore_n 3, 1) := dk_62 (dk_at dksX1_digest_5 13 rfl rfl)
theorem dX1_digest_131 : decode cX1_digest 131 = .ok (.iload_n 3, 1) := dk_29 (dk_at dksX1_digest_5 14 rfl rfl)
theorem dX1_digest_132 : decode cX1_digest 132 = .ok (.iconst 4, 1) := dk_7 (dk_at dksX1_digest_5 15 rfl rfl)
theorem dX1_digest_133 : decode cX1_digest 133 = .ok (.if_icmp .ge 29, 3) := dk_162 0 29 (dk_at dksX1_digest_5 16 rfl rfl)
theorem dX1_digest_136 : decode cX1_digest 136 = .ok (.ldc2_w 313, 3) := dk_20 1 57 (dk_at dksX1_digest_5 19 rfl rfl)
theorem dX1_digest_139 : decode cX1_digest 139 = .ok (.lload_n 1, 1) := dk_31 (dk_at dksX1_digest_5 22 rfl rfl)
theorem dX1_digest_140 : decode cX1_digest 140 = .ok (.lmul, 1) := dk_105 (dk_at dksX1_digest_5 23 rfl rfl)
theorem dX1_digest_141 : decode cX1_digest 141 = .ok (.aload_n 0, 1) := dk_42 (dk_at dksX1_digest_6 0 rfl rfl)
theorem dX1_digest_142 : decode cX1_digest 142 = .ok (.getfield 7, 3) := dk_180 0 7 (dk_at dksX1_digest_6 1 rfl rfl)
theorem dX1_digest_145 : decode cX1_digest 145 = .ok (.sipush 370, 3) := dk_17 1 114 (dk_at dksX1_digest_6 4 rfl rfl)
theorem dX1_digest_148 : decode cX1_digest 148 = .ok (.iload_n 3, 1) := dk_29 (dk_at dksX1_digest_6 7 rfl rfl)
theorem dX1_digest_149 : decode cX1_digest 149 = .ok (.imul, 1) := dk_104 (dk_at dksX1_digest_6 8 rfl rfl)
theorem dX1_digest_150 : decode cX1_digest 150 = .ok (.iconst 0, 1) := dk_3 (dk_at dksX1_digest_6 9 rfl rfl)
theorem dX1_digest_151 : decode cX1_digest 151 = .ok (.iadd, 1) := dk_96 (dk_at dksX1_digest_6 10 rfl rfl)
theorem dX1_digest_152 : decode cX1_digest 152 = .ok (.iaload, 1) := dk_46 (dk_at dksX1_digest_6 11 rfl rfl)
theorem dX1_digest_153 : decode cX1_digest 153 = .ok (.i2l, 1) := dk_133 (dk_at dksX1_digest_6 12 rfl rfl)
theorem dX1_digest_154 : decode cX1_digest 154 = .ok (.ladd, 1) := dk_97 (dk_at dksX1_digest_6 13 rfl rfl)
theorem dX1_digest_155 : decode cX1_digest 155 = .ok (.lstore_n 1, 1) := dk_64 (dk_at dksX1_digest_6 14 rfl rfl)
theorem dX1_digest_156 : decode cX1_digest 156 = .ok (.iinc 3 1, 3) := dk_132 3 1 (dk_at dksX1_digest_6 15 rfl rfl)
theorem dX1_digest_159 : decode cX1_digest 159 = .ok (.goto (-28), 3) := dk_167 255 228 (dk_at dksX1_digest_6 18 rfl rfl)
theorem dX1_digest_162 : decode cX1_digest 162 = .ok (.iconst 0, 1) := dk_3 (dk_at dksX1_digest_6 21 rfl rfl)
theorem dX1_digest_163 : decode cX1_digest 163 = .ok (.istore_n 3, 1) := dk_62 (dk_at dksX1_digest_6 22 rfl rfl)
theorem dX1_digest_164 : decode cX1_digest 164 = .ok (.iload_n 3, 1) := dk_29 (dk_at dksX1_digest_6 23 rfl rfl)
theorem dX1_digest_165 : decode cX1_digest 165 = .ok (.bipush 6, 2) := dk_16 6 (dk_at dksX1_digest_7 0 rfl rfl)
theorem dX1_digest_167 : decode cX1_digest 167 = .ok (.if_icmp .ge 63, 3) := dk_162 0 63 (dk_at dksX1_digest_7 2 rfl rfl)
theorem dX1_digest_170 : decode cX1_digest 170 = .ok (.ldc2_w 313, 3) := dk_20 1 57 (dk_at dksX1_digest_7 5 rfl rfl)
theorem dX1_digest_173 : decode cX1_digest 173 = .ok (.lload_n 1, 1) := dk_31 (dk_at dksX1_digest_7 8 rfl rfl)
theorem dX1_digest_174 : decode cX1_digest 174 = .ok (.lmul, 1) := dk_105 (dk_at dksX1_digest_7 9 rfl rfl)
theorem dX1_digest_175 : decode cX1_digest 175 = .ok (.aload_n 0, 1) := dk_42 (dk_at dksX1_digest_7 10 rfl rfl)
theorem dX1_digest_176 : decode cX1_digest 176 = .ok (.getfield 25, 3) := dk_180 0 25 (dk_at dksX1_digest_7 11 rfl rfl)
theorem dX1_digest_179 : decode cX1_digest 179 = .ok (.iload_n 3, 1) := dk_29 (dk_at dksX1_digest_7 14 rfl rfl)
theorem dX1_digest_180 : decode cX1_digest 180 = .ok (.iaload, 1) := dk_46 (dk_at dksX1_digest_7 15 rfl rfl)
theorem dX1_digest_181 : decode cX1_digest 181 = .ok (.i2l, 1) := dk_133 (dk_at dksX1_digest_7 16 rfl rfl)
theorem dX1_digest_182 : decode cX1_digest 182 = .ok (.ladd, 1) := dk_97 (dk_at dksX1_digest_7 17 rfl rfl)
theorem dX1_digest_183 : decode cX1_digest 183 = .ok (.lstore_n 1, 1) := dk_64 (dk_at dksX1_digest_7 18 rfl rfl)
theorem dX1_digest_184 : decode cX1_digest 184 = .ok (.iconst 0, 1) := dk_3 (dk_at dksX1_digest_7 19 rfl rfl)
theorem dX1_digest_185 : decode cX1_digest 185 = .ok (.istore 4, 2) := dk_54 4 (dk_at dksX1_digest_7 20 rfl rfl)
theorem dX1_digest_187 : decode cX1_digest 187 = .ok (.iload 4, 2) := dk_21 4 (dk_at dksX1_digest_7 22 rfl rfl)
theorem dX1_digest_189 : decode cX1_digest 189 = .ok (.aload_n 0, 1) := dk_42 (dk_at dksX1_digest_8 0 rfl rfl)
theorem dX1_digest_190 : decode cX1_digest 190 = .ok (.getfield 25, 3) := dk_180 0 25 (dk_at dksX1_digest_8 1 rfl rfl)
theorem dX1_digest_193 : decode cX1_digest 193 = .ok (.iload_n 3, 1) := dk_29 (dk_at dksX1_digest_8 4 rfl rfl)
theorem dX1_digest_194 : decode cX1_digest 194 = .ok (.iaload, 1) := dk_46 (dk_at dksX1_digest_8 5 rfl rfl)
theorem dX1_digest_195 : decode cX1_digest 195 = .ok (.if_icmp .ge 29, 3) := dk_162 0 29 (dk_at dksX1_digest_8 6 rfl rfl)
theorem dX1_digest_198 : decode cX1_digest 198 = .ok (.ldc2_w 313, 3) := dk_20 1 57 (dk_at dksX1_digest_8 9 rfl rfl)
theorem dX1_digest_201 : decode cX1_digest 201 = .ok (.lload_n 1, 1) := dk_31 (dk_at dksX1_digest_8 12 rfl rfl)
theorem dX1_digest_202 : decode cX1_digest 202 = .ok (.lmul, 1) := dk_105 (dk_at dksX1_digest_8 13 rfl rfl)
theorem dX1_digest_203 : decode cX1_digest 203 = .ok (.aload_n 0, 1) := dk_42 (dk_at dksX1_digest_8 14 rfl rfl)
theorem dX1_digest_204 : decode cX1_digest 204 = .ok (.getfield 28, 3) := dk_180 0 28 (dk_at dksX1_digest_8 15 rfl rfl)
theorem dX1_digest_207 : decode cX1_digest 207 = .ok (.bipush 40, 2) := dk_16 40 (dk_at dksX1_digest_8 18 rfl rfl)
theorem dX1_digest_209 : decode cX1_digest 209 = .ok (.iload_n 3, 1) := dk_29 (dk_at dksX1_digest_8 20 rfl rfl)
theorem dX1_digest_210 : decode cX1_digest 210 = .ok (.imul, 1) := dk_104 (dk_at dksX1_digest_8 21 rfl rfl)
theorem dX1_digest_211 : decode cX1_digest 211 = .ok (.iload 4, 2) := dk_21 4 (dk_at dksX1_digest_8 22 rfl rfl)
theorem dX1_digest_213 : decode cX1_digest 213 = .ok (.iadd, 1) := dk_96 (dk_at dksX1_digest_9 0 rfl rfl)
theorem dX1_digest_214 : decode cX1_digest 214 = .ok (.iaload, 1) := dk_46 (dk_at dksX1_digest_9 1 rfl rfl)
theorem dX1_digest_215 : decode cX1_digest 215 = .ok (.i2l, 1) := dk_133 (dk_at dksX1_digest_9 2 rfl rfl)
theorem dX1_digest_216 : decode cX1_digest 216 = .ok (.ladd, 1) := dk_97 (dk_at dksX1_digest_9 3 rfl rfl)
theorem dX1_digest_217 : decode cX1_digest 217 = .ok (.lstore_n 1, 1) := dk_64 (dk_at dksX1_digest_9 4 rfl rfl)
theorem dX1_digest_218 : decode cX1_digest 218 = .ok (.iinc 4 1, 3) := dk_132 4 1 (dk_at dksX1_digest_9 5 rfl rfl)
theorem dX1_digest_221 : decode cX1_digest 221 = .ok (.goto (-34), 3) := dk_167 255 222 (dk_at dksX1_digest_9 8 rfl rfl)
theorem dX1_digest_224 : decode cX1_digest 224 = .ok (.iinc 3 1, 3) := dk_132 3 1 (dk_at dksX1_digest_9 11 rfl rfl)
theorem dX1_digest_227 : decode cX1_digest 227 = .ok (.goto (-63), 3) := dk_167 255 193 (dk_at dksX1_digest_9 14 rfl rfl)
theorem dX1_digest_230 : decode cX1_digest 230 = .ok (.iconst 0, 1) := dk_3 (dk_at dksX1_digest_9 17 rfl rfl)
theorem dX1_digest_231 : decode cX1_digest 231 = .ok (.istore_n 3, 1) := dk_62 (dk_at dksX1_digest_9 18 rfl rfl)
theorem dX1_digest_232 : decode cX1_digest 232 = .ok (.iload_n 3, 1) := dk_29 (dk_at dksX1_digest_9 19 rfl rfl)
theorem dX1_digest_233 : decode cX1_digest 233 = .ok (.iconst 4, 1) := dk_7 (dk_at dksX1_digest_9 20 rfl rfl)
theorem dX1_digest_234 : decode cX1_digest 234 = .ok (.if_icmp .ge 63, 3) := dk_162 0 63 (dk_at dksX1_digest_9 21 rfl rfl)
theorem dX1_digest_237 : decode cX1_digest 237 = .ok (.ldc2_w 313, 3) := dk_20 1 57 (dk_at dksX1_digest_10 0 rfl rfl)
theorem dX1_digest_240 : decode cX1_digest 240 = .ok (.lload_n 1, 1) := dk_31 (dk_at dksX1_digest_10 3 rfl rfl)
theorem dX1_digest_241 : decode cX1_digest 241 = .ok (.lmul, 1) := dk_105 (dk_at dksX1_digest_10 4 rfl rfl)
theorem dX1_digest_242 : decode cX1_digest 242 = .ok (.aload_n 0, 1) := dk_42 (dk_at dksX1_digest_10 5 rfl rfl)
theorem dX1_digest_243 : decode cX1_digest 243 = .ok (.getfield 31, 3) := dk_180 0 31 (dk_at dksX1_digest_10 6 rfl rfl)
theorem dX1_digest_246 : decode cX1_digest 246 = .ok (.iload_n 3, 1) := dk_29 (dk_at dksX1_digest_10 9 rfl rfl)
theorem dX1_digest_247 : decode cX1_digest 247 = .ok (.iaload, 1) := dk_46 (dk_at dksX1_digest_10 10 rfl rfl)
theorem dX1_digest_248 : decode cX1_digest 248 = .ok (.i2l, 1) := dk_133 (dk_at dksX1_digest_10 11 rfl rfl)
theorem dX1_digest_249 : decode cX1_digest 249 = .ok (.ladd, 1) := dk_97 (dk_at dksX1_digest_10 12 rfl rfl)
theorem dX1_digest_250 : decode cX1_digest 250 = .ok (.lstore_n 1, 1) := dk_64 (dk_at dksX1_digest_10 13 rfl rfl)
theorem dX1_digest_251 : decode cX1_digest 251 = .ok (.iconst 0, 1) := dk_3 (dk_at dksX1_digest_10 14 rfl rfl)
theorem dX1_digest_252 : decode cX1_digest 252 = .ok (.istore 4, 2) := dk_54 4 (dk_at dksX1_digest_10 15 rfl rfl)
theorem dX1_digest_254 : decode cX1_digest 254 = .ok (.iload 4, 2) := dk_21 4 (dk_at dksX1_digest_10 17 rfl rfl)
theorem dX1_digest_256 : decode cX1_digest 256 = .ok (.aload_n 0, 1) := dk_42 (dk_at dksX1_digest_10 19 rfl rfl)
theorem dX1_digest_257 : decode cX1_digest 257 = .ok (.getfield 31, 3) := dk_180 0 31 (dk_at dksX1_digest_10 20 rfl rfl)
theorem dX1_digest_260 : decode cX1_digest 260 = .ok (.iload_n 3, 1) := dk_29 (dk_at dksX1_digest_10 23 rfl rfl)
theorem dX1_digest_261 : decode cX1_digest 261 = .ok (.iaload, 1) := dk_46 (dk_at dksX1_digest_11 0 rfl rfl)
theorem dX1_digest_262 : decode cX1_digest 262 = .ok (.if_icmp .ge 29, 3) := dk_162 0 29 (dk_at dksX1_digest_11 1 rfl rfl)
theorem dX1_digest_265 : decode cX1_digest 265 = .ok (.ldc2_w 313, 3) := dk_20 1 57 (dk_at dksX1_digest_11 4 rfl rfl)
theorem dX1_digest_268 : decode cX1_digest 268 = .ok (.lload_n 1, 1) := dk_31 (dk_at dksX1_digest_11 7 rfl rfl)
theorem dX1_digest_269 : decode cX1_digest 269 = .ok (.lmul, 1) := dk_105 (dk_at dksX1_digest_11 8 rfl rfl)
theorem dX1_digest_270 : decode cX1_digest 270 = .ok (.aload_n 0, 1) := dk_42 (dk_at dksX1_digest_11 9 rfl rfl)
theorem dX1_digest_271 : decode cX1_digest 271 = .ok (.getfield 34, 3) := dk_180 0 34 (dk_at dksX1_digest_11 10 rfl rfl)
theorem dX1_digest_274 : decode cX1_digest 274 = .ok (.bipush 80, 2) := dk_16 80 (dk_at dksX1_digest_11 13 rfl rfl)
theorem dX1_digest_276 : decode cX1_digest 276 = .ok (.iload_n 3, 1) := dk_29 (dk_at dksX1_digest_11 15 rfl rfl)
theorem dX1_digest_277 : decode cX1_digest 277 = .ok (.imul, 1) := dk_104 (dk_at dksX1_digest_11 16 rfl rfl)
theorem dX1_digest_278 : decode cX1_digest 278 = .ok (.iload 4, 2) := dk_21 4 (dk_at dksX1_digest_11 17 rfl rfl)
theorem dX1_digest_280 : decode cX1_digest 280 = .ok (.iadd, 1) := dk_96 (dk_at dksX1_digest_11 19 rfl rfl)
theorem dX1_digest_281 : decode cX1_digest 281 = .ok (.iaload, 1) := dk_46 (dk_at dksX1_digest_11 20 rfl rfl)
theorem dX1_digest_282 : decode cX1_digest 282 = .ok (.i2l, 1) := dk_133 (dk_at dksX1_digest_11 21 rfl rfl)
theorem dX1_digest_283 : decode cX1_digest 283 = .ok (.ladd, 1) := dk_97 (dk_at dksX1_digest_11 22 rfl rfl)
theorem dX1_digest_284 : decode cX1_digest 284 = .ok (.lstore_n 1, 1) := dk_64 (dk_at dksX1_digest_11 23 rfl rfl)
theorem dX1_digest_285 : decode cX1_digest 285 = .ok (.iinc 4 1, 3) := dk_132 4 1 (dk_at dksX1_digest_12 0 rfl rfl)
theorem dX1_digest_288 : decode cX1_digest 288 = .ok (.goto (-34), 3) := dk_167 255 222 (dk_at dksX1_digest_12 3 rfl rfl)
theorem dX1_digest_291 : decode cX1_digest 291 = .ok (.iinc 3 1, 3) := dk_132 3 1 (dk_at dksX1_digest_12 6 rfl rfl)
theorem dX1_digest_294 : decode cX1_digest 294 = .ok (.goto (-62), 3) := dk_167 255 194 (dk_at dksX1_digest_12 9 rfl rfl)
theorem dX1_digest_297 : decode cX1_digest 297 = .ok (.lload_n 1, 1) := dk_31 (dk_at dksX1_digest_12 12 rfl rfl)
theorem dX1_digest_298 : decode cX1_digest 298 = .ok (.lreturn, 1) := dk_173 (dk_at dksX1_digest_12 13 rfl rfl)
theorem q93 : (Jvm.Cond.initialized "NeitherBareModel") ∈ lw_all := lw_g (lw_at lw_m1 2 rfl) rfl
theorem q1002 : (Jvm.Cond.instantiable "NeitherBareModel" (25 : Nat)) ∈ lw_all := lw_g (lw_at lw_m4 191 rfl) rfl
theorem q1004 : (Jvm.Cond.instanceMethod ({ cls := "NeitherBareModel", name := "<init>", desc := "()V" } : Jvm.MethodName)) ∈ lw_all := lw_g (lw_at lw_m4 193 rfl) rfl
theorem q1005 : (Jvm.Cond.code ({ cls := "NeitherBareModel", name := "<init>", desc := "()V" } : Jvm.MethodName) prog_10_method_1_code (1 : Nat) (Option.none : Option Jvm.ClassFile.FieldType)) ∈ lw_all := lw_g (lw_at lw_m4 194 rfl) rfl
theorem q1006 : (Jvm.Cond.methodLink "NeitherBareModel" (1 : Nat) ({ cls := "java/lang/Object", name := "<init>", desc := "()V" } : Jvm.MethodName)) ∈ lw_all := lw_g (lw_at lw_m4 195 rfl) rfl
theorem q1007 : (Jvm.Cond.methodLink "NeitherBareModel" (57 : Nat) ({ cls := "NeitherBareModel", name := "begin", desc := "()V" } : Jvm.MethodName)) ∈ lw_all := lw_g (lw_at lw_m4 196 rfl) rfl
theorem q1008 : (Jvm.Cond.privateMethod ({ cls := "NeitherBareModel", name := "begin", desc := "()V" } : Jvm.MethodName)) ∈ lw_tbl := lw_at lw_m4 197 rfl
theorem q1009 : (Jvm.Cond.instanceMethod ({ cls := "NeitherBareModel", name := "begin", desc := "()V" } : Jvm.MethodName)) ∈ lw_all := lw_g (lw_at lw_m4 198 rfl) rfl
theorem q1010 : (Jvm.Cond.code ({ cls := "NeitherBareModel", name := "begin", desc := "()V" } : Jvm.MethodName) prog_10_method_2_code (2 : Nat) (Option.none : Option Jvm.ClassFile.FieldType)) ∈ lw_all := lw_g (lw_at lw_m4 199 rfl) rfl
theorem q1011 : (Jvm.Cond.fieldLink "NeitherBareModel" (7 : Nat) "NeitherBareModel" "row" "[I") ∈ lw_all := lw_g (lw_at lw_m4 200 rfl) rfl
theorem q1012 : (Jvm.Cond.fieldLink "NeitherBareModel" (147 : Nat) "NeitherBareModel" "things" "I") ∈ lw_all := lw_g (lw_at lw_m4 201 rfl) rfl
theorem q1013 : (Jvm.Cond.fieldLink "NeitherBareModel" (13 : Nat) "NeitherBareModel" "thing" "[I") ∈ lw_all := lw_g (lw_at lw_m4 202 rfl) rfl
theorem q1014 : (Jvm.Cond.fieldLink "NeitherBareModel" (60 : Nat) "NeitherBareModel" "clauses" "I") ∈ lw_all := lw_g (lw_at lw_m4 203 rfl) rfl
theorem q1015 : (Jvm.Cond.fieldLink "NeitherBareModel" (16 : Nat) "NeitherBareModel" "kinds" "[I") ∈ lw_all := lw_g (lw_at lw_m4 204 rfl) rfl
theorem q1016 : (Jvm.Cond.fieldLink "NeitherBareModel" (19 : Nat) "NeitherBareModel" "traits" "[I") ∈ lw_all := lw_g (lw_at lw_m4 205 rfl) rfl
theorem q1017 : (Jvm.Cond.fieldLink "NeitherBareModel" (22 : Nat) "NeitherBareModel" "others" "[I") ∈ lw_all := lw_g (lw_at lw_m4 206 rfl) rfl
theorem q1018 : (Jvm.Cond.fieldLink "NeitherBareModel" (25 : Nat) "NeitherBareModel" "sizes" "[I") ∈ lw_all := lw_g (lw_at lw_m4 207 rfl) rfl
theorem q1019 : (Jvm.Cond.fieldLink "NeitherBareModel" (28 : Nat) "NeitherBareModel" "items" "[I") ∈ lw_all := lw_g (lw_at lw_m4 208 rfl) rfl
theorem q1020 : (Jvm.Cond.fieldLink "NeitherBareModel" (31 : Nat) "NeitherBareModel" "lengths" "[I") ∈ lw_all := lw_g (lw_at lw_m4 209 rfl) rfl
theorem q1021 : (Jvm.Cond.fieldLink "NeitherBareModel" (34 : Nat) "NeitherBareModel" "bytes" "[I") ∈ lw_all := lw_g (lw_at lw_m4 210 rfl) rfl
theorem q1022 : (Jvm.Cond.fieldLink "NeitherBareModel" (67 : Nat) "NeitherBareModel" "asked" "I") ∈ lw_all := lw_g (lw_at lw_m4 211 rfl) rfl
theorem q1023 : (Jvm.Cond.fieldLink "NeitherBareModel" (281 : Nat) "NeitherBareModel" "upper" "J") ∈ lw_all := lw_g (lw_at lw_m4 212 rfl) rfl
theorem q1024 : (Jvm.Cond.fieldLink "NeitherBareModel" (37 : Nat) "NeitherBareModel" "lower" "J") ∈ lw_all := lw_g (lw_at lw_m4 213 rfl) rfl
theorem q1025 : (Jvm.Cond.fieldLink "NeitherBareModel" (64 : Nat) "NeitherBareModel" "finding" "I") ∈ lw_all := lw_g (lw_at lw_m4 214 rfl) rfl
theorem q1026 : (Jvm.Cond.fieldLink "NeitherBareModel" (41 : Nat) "NeitherBareModel" "findings" "[I") ∈ lw_all := lw_g (lw_at lw_m4 215 rfl) rfl
theorem q1027 : (Jvm.Cond.fieldLink "NeitherBareModel" (104 : Nat) "NeitherBareModel" "from" "I") ∈ lw_all := lw_g (lw_at lw_m4 216 rfl) rfl
theorem q1028 : (Jvm.Cond.fieldLink "NeitherBareModel" (107 : Nat) "NeitherBareModel" "place" "I") ∈ lw_all := lw_g (lw_at lw_m4 217 rfl) rfl
theorem q1029 : (Jvm.Cond.fieldLink "NeitherBareModel" (110 : Nat) "NeitherBareModel" "end" "I") ∈ lw_all := lw_g (lw_at lw_m4 218 rfl) rfl
theorem q1030 : (Jvm.Cond.fieldLink "NeitherBareModel" (44 : Nat) "NeitherBareModel" "readThings" "[I") ∈ lw_all := lw_g (lw_at lw_m4 219 rfl) rfl
theorem q1031 : (Jvm.Cond.fieldLink "NeitherBareModel" (119 : Nat) "NeitherBareModel" "readThingMany" "I") ∈ lw_all := lw_g (lw_at lw_m4 220 rfl) rfl
theorem q1032 : (Jvm.Cond.fieldLink "NeitherBareModel" (47 : Nat) "NeitherBareModel" "readClauses" "[I") ∈ lw_all := lw_g (lw_at lw_m4 221 rfl) rfl
theorem q1033 : (Jvm.Cond.fieldLink "NeitherBareModel" (122 : Nat) "NeitherBareModel" "readMany" "I") ∈ lw_all := lw_g (lw_at lw_m4 222 rfl) rfl
theorem q1034 : (Jvm.Cond.fieldLink "NeitherBareModel" (50 : Nat) "NeitherBareModel" "wins" "[Z") ∈ lw_all := lw_g (lw_at lw_m4 223 rfl) rfl
theorem q1035 : (Jvm.Cond.fieldLink "NeitherBareModel" (54 : Nat) "NeitherBareModel" "laid" "[Z") ∈ lw_all := lw_g (lw_at lw_m4 224 rfl) rfl
theorem q1036 : (Jvm.Cond.laysFinal "NeitherBareModel" "NeitherBareModel" "row" "[I") ∈ lw_all := lw_g (lw_at lw_m4 225 rfl) rfl
theorem q1037 : (Jvm.Cond.soleField "NeitherBareModel" "row") ∈ lw_all := lw_g (lw_at lw_m4 226 rfl) rfl
theorem q1038 : (Jvm.Cond.lays "NeitherBareModel" "NeitherBareModel" "things" "I") ∈ lw_all := lw_g (lw_at lw_m4 227 rfl) rfl
theorem q1039 : (Jvm.Cond.soleField "NeitherBareModel" "things") ∈ lw_all := lw_g (lw_at lw_m4 228 rfl) rfl
theorem q1040 : (Jvm.Cond.laysFinal "NeitherBareModel" "NeitherBareModel" "thing" "[I") ∈ lw_all := lw_g (lw_at lw_m4 229 rfl) rfl
theorem q1041 : (Jvm.Cond.soleField "NeitherBareModel" "thing") ∈ lw_all := lw_g (lw_at lw_m4 230 rfl) rfl
theorem q1042 : (Jvm.Cond.lays "NeitherBareModel" "NeitherBareModel" "clauses" "I") ∈ lw_all := lw_g (lw_at lw_m4 231 rfl) rfl
theorem q1043 : (Jvm.Cond.soleField "NeitherBareModel" "clauses") ∈ lw_all := lw_g (lw_at lw_m4 232 rfl) rfl
theorem q1044 : (Jvm.Cond.laysFinal "NeitherBareModel" "NeitherBareModel" "kinds" "[I") ∈ lw_all := lw_g (lw_at lw_m4 233 rfl) rfl
theorem q1045 : (Jvm.Cond.soleField "NeitherBareModel" "kinds") ∈ lw_all := lw_g (lw_at lw_m4 234 rfl) rfl
theorem q1046 : (Jvm.Cond.laysFinal "NeitherBareModel" "NeitherBareModel" "traits" "[I") ∈ lw_all := lw_g (lw_at lw_m4 235 rfl) rfl
theorem q1047 : (Jvm.Cond.soleField "NeitherBareModel" "traits") ∈ lw_all := lw_g (lw_at lw_m4 236 rfl) rfl
theorem q1048 : (Jvm.Cond.laysFinal "NeitherBareModel" "NeitherBareModel" "others" "[I") ∈ lw_all := lw_g (lw_at lw_m4 237 rfl) rfl
theorem q1049 : (Jvm.Cond.soleField "NeitherBareModel" "others") ∈ lw_all := lw_g (lw_at lw_m4 238 rfl) rfl
theorem q1050 : (Jvm.Cond.laysFinal "NeitherBareModel" "NeitherBareModel" "sizes" "[I") ∈ lw_all := lw_g (lw_at lw_m4 239 rfl) rfl
theorem q1051 : (Jvm.Cond.soleField "NeitherBareModel" "sizes") ∈ lw_all := lw_g (lw_at lw_m5 0 rfl) rfl
theorem q1052 : (Jvm.Cond.laysFinal "NeitherBareModel" "NeitherBareModel" "items" "[I") ∈ lw_all := lw_g (lw_at lw_m5 1 rfl) rfl
theorem q1053 : (Jvm.Cond.soleField "NeitherBareModel" "items") ∈ lw_all := lw_g (lw_at lw_m5 2 rfl) rfl
theorem q1054 : (Jvm.Cond.laysFinal "NeitherBareModel" "NeitherBareModel" "lengths" "[I") ∈ lw_all := lw_g (lw_at lw_m5 3 rfl) rfl
theorem q1055 : (Jvm.Cond.soleField "NeitherBareModel" "lengths") ∈ lw_all := lw_g (lw_at lw_m5 4 rfl) rfl
theorem q1056 : (Jvm.Cond.laysFinal "NeitherBareModel" "NeitherBareModel" "bytes" "[I") ∈ lw_all := lw_g (lw_at lw_m5 5 rfl) rfl
theorem q1057 : (Jvm.Cond.soleField "NeitherBareModel" "bytes") ∈ lw_all := lw_g (lw_at lw_m5 6 rfl) rfl
theorem q1058 : (Jvm.Cond.lays "NeitherBareModel" "NeitherBareModel" "asked" "I") ∈ lw_all := lw_g (lw_at lw_m5 7 rfl) rfl
theorem q1059 : (Jvm.Cond.soleField "NeitherBareModel" "asked") ∈ lw_all := lw_g (lw_at lw_m5 8 rfl) rfl
theorem q1060 : (Jvm.Cond.lays "NeitherBareModel" "NeitherBareModel" "upper" "J") ∈ lw_all := lw_g (lw_at lw_m5 9 rfl) rfl
theorem q1061 : (Jvm.Cond.soleField "NeitherBareModel" "upper") ∈ lw_all := lw_g (lw_at lw_m5 10 rfl) rfl
theorem q1062 : (Jvm.Cond.lays "NeitherBareModel" "NeitherBareModel" "lower" "J") ∈ lw_all := lw_g (lw_at lw_m5 11 rfl) rfl
theorem q1063 : (Jvm.Cond.soleField "NeitherBareModel" "lower") ∈ lw_all := lw_g (lw_at lw_m5 12 rfl) rfl
theorem q1064 : (Jvm.Cond.lays "NeitherBareModel" "NeitherBareModel" "finding" "I") ∈ lw_all := lw_g (lw_at lw_m5 13 rfl) rfl
theorem q1065 : (Jvm.Cond.soleField "NeitherBareModel" "finding") ∈ lw_all := lw_g (lw_at lw_m5 14 rfl) rfl
theorem q1066 : (Jvm.Cond.laysFinal "NeitherBareModel" "NeitherBareModel" "findings" "[I") ∈ lw_all := lw_g (lw_at lw_m5 15 rfl) rfl
theorem q1067 : (Jvm.Cond.soleField "NeitherBareModel" "findings") ∈ lw_all := lw_g (lw_at lw_m5 16 rfl) rfl
theorem q1068 : (Jvm.Cond.lays "NeitherBareModel" "NeitherBareModel" "from" "I") ∈ lw_all := lw_g (lw_at lw_m5 17 rfl) rfl
theorem q1069 : (Jvm.Cond.soleField "NeitherBareModel" "from") ∈ lw_all := lw_g (lw_at lw_m5 18 rfl) rfl
theorem q1070 : (Jvm.Cond.lays "NeitherBareModel" "NeitherBareModel" "place" "I") ∈ lw_all := lw_g (lw_at lw_m5 19 rfl) rfl
theorem q1071 : (Jvm.Cond.soleField "NeitherBareModel" "place") ∈ lw_all := lw_g (lw_at lw_m5 20 rfl) rfl
theorem q1072 : (Jvm.Cond.lays "NeitherBareModel" "NeitherBareModel" "end" "I") ∈ lw_all := lw_g (lw_at lw_m5 21 rfl) rfl
theorem q1073 : (Jvm.Cond.soleField "NeitherBareModel" "end") ∈ lw_all := lw_g (lw_at lw_m5 22 rfl) rfl
theorem q1074 : (Jvm.Cond.laysFinal "NeitherBareModel" "NeitherBareModel" "readThings" "[I") ∈ lw_all := lw_g (lw_at lw_m5 23 rfl) rfl
theorem q1075 : (Jvm.Cond.soleField "NeitherBareModel" "readThings") ∈ lw_all := lw_g (lw_at lw_m5 24 rfl) rfl
theorem q1076 : (Jvm.Cond.lays "NeitherBareModel" "NeitherBareModel" "readThingMany" "I") ∈ lw_all := lw_g (lw_at lw_m5 25 rfl) rfl
theorem q1077 : (Jvm.Cond.soleField "NeitherBareModel" "readThingMany") ∈ lw_all := lw_g (lw_at lw_m5 26 rfl) rfl
theorem q1078 : (Jvm.Cond.laysFinal "NeitherBareModel" "NeitherBareModel" "readClauses" "[I") ∈ lw_all := lw_g (lw_at lw_m5 27 rfl) rfl
theorem q1079 : (Jvm.Cond.soleField "NeitherBareModel" "readClauses") ∈ lw_all := lw_g (lw_at lw_m5 28 rfl) rfl
theorem q1080 : (Jvm.Cond.lays "NeitherBareModel" "NeitherBareModel" "readMany" "I") ∈ lw_all := lw_g (lw_at lw_m5 29 rfl) rfl
theorem q1081 : (Jvm.Cond.soleField "NeitherBareModel" "readMany") ∈ lw_all := lw_g (lw_at lw_m5 30 rfl) rfl
theorem q1082 : (Jvm.Cond.laysFinal "NeitherBareModel" "NeitherBareModel" "wins" "[Z") ∈ lw_all := lw_g (lw_at lw_m5 31 rfl) rfl
theorem q1083 : (Jvm.Cond.soleField "NeitherBareModel" "wins") ∈ lw_all := lw_g (lw_at lw_m5 32 rfl) rfl
theorem q1084 : (Jvm.Cond.laysFinal "NeitherBareModel" "NeitherBareModel" "laid" "[Z") ∈ lw_all := lw_g (lw_at lw_m5 33 rfl) rfl
theorem q1085 : (Jvm.Cond.soleField "NeitherBareModel" "laid") ∈ lw_all := lw_g (lw_at lw_m5 34 rfl) rfl
theorem q1086 : (Jvm.Cond.superclass "NeitherBareModel" "java/lang/Object") ∈ lw_all := lw_g (lw_at lw_m5 35 rfl) rfl
theorem q1089 : (Jvm.Cond.instanceMethod ({ cls := "NeitherBareModel", name := "row", desc := "(II)I" } : Jvm.MethodName)) ∈ lw_all := lw_g (lw_at lw_m5 38 rfl) rfl
theorem q1090 : (Jvm.Cond.selects "NeitherBareModel" ({ cls := "NeitherBareModel", name := "row", desc := "(II)I" } : Jvm.MethodName) ({ cls := "NeitherBareModel", name := "row", desc := "(II)I" } : Jvm.MethodName)) ∈ lw_all := lw_g (lw_at lw_m5 39 rfl) rfl
theorem q1091 : (Jvm.Cond.code ({ cls := "NeitherBareModel", name := "row", desc := "(II)I" } : Jvm.MethodName) prog_10_method_10_code (3 : Nat) (Option.some Jvm.ClassFile.FieldType.int)) ∈ lw_all := lw_g (lw_at lw_m5 40 rfl) rfl
theorem q1092 : (Jvm.Cond.methodLink "NeitherBareModel" (78 : Nat) ({ cls := "NeitherBareModel", name := "isRow", desc := "(I)Z" } : Jvm.MethodName)) ∈ lw_all := lw_g (lw_at lw_m5 41 rfl) rfl
theorem q1093 : (Jvm.Cond.static ({ cls := "NeitherBareModel", name := "isRow", desc := "(I)Z" } : Jvm.MethodName)) ∈ lw_all := lw_g (lw_at lw_m5 42 rfl) rfl
theorem q1094 : (Jvm.Cond.code ({ cls := "NeitherBareModel", name := "isRow", desc := "(I)Z" } : Jvm.MethodName) prog_10_method_8_code (1 : Nat) (Option.some Jvm.ClassFile.FieldType.boolean)) ∈ lw_all := lw_g (lw_at lw_m5 43 rfl) rfl
theorem q1095 : (Jvm.Cond.constantLong "NeitherBareModel" (70 : Nat) (5 : Int64)) ∈ lw_all := lw_g (lw_at lw_m5 44 rfl) rfl
theorem q1096 : (Jvm.Cond.methodLink "NeitherBareModel" (72 : Nat) ({ cls := "NeitherBareModel", name := "in", desc := "(JJJ)Z" } : Jvm.MethodName)) ∈ lw_all := lw_g (lw_at lw_m5 45 rfl) rfl
theorem q1097 : (Jvm.Cond.static ({ cls := "NeitherBareModel", name := "in", desc := "(JJJ)Z" } : Jvm.MethodName)) ∈ lw_all := lw_g (lw_at lw_m5 46 rfl) rfl
theorem q1098 : (Jvm.Cond.code ({ cls := "NeitherBareModel", name := "in", desc := "(JJJ)Z" } : Jvm.MethodName) prog_10_method_4_code (6 : Nat) (Option.some Jvm.ClassFile.FieldType.boolean)) ∈ lw_all := lw_g (lw_at lw_m5 47 rfl) rfl
theorem q1099 : (Jvm.Cond.methodLink "NeitherBareModel" (82 : Nat) ({ cls := "NeitherBareModel", name := "find", desc := "(I)I" } : Jvm.MethodName)) ∈ lw_all := lw_g (lw_at lw_m5 48 rfl) rfl
theorem q1100 : (Jvm.Cond.privateMethod ({ cls := "NeitherBareModel", name := "find", desc := "(I)I" } : Jvm.MethodName)) ∈ lw_tbl := lw_at lw_m5 49 rfl
theorem q1101 : (Jvm.Cond.instanceMethod ({ cls := "NeitherBareModel", name := "find", desc := "(I)I" } : Jvm.MethodName)) ∈ lw_all := lw_g (lw_at lw_m5 50 rfl) rfl
theorem q1102 : (Jvm.Cond.code ({ cls := "NeitherBareModel", name := "find", desc := "(I)I" } : Jvm.MethodName) prog_10_method_6_code (2 : Nat) (Option.some Jvm.ClassFile.FieldType.int)) ∈ lw_all := lw_g (lw_at lw_m5 51 rfl) rfl
theorem q1103 : (Jvm.Cond.methodLink "NeitherBareModel" (86 : Nat) ({ cls := "NeitherBareModel", name := "makeRow", desc := "(II)V" } : Jvm.MethodName)) ∈ lw_all := lw_g (lw_at lw_m5 52 rfl) rfl
theorem q1104 : (Jvm.Cond.privateMethod ({ cls := "NeitherBareModel", name := "makeRow", desc := "(II)V" } : Jvm.MethodName)) ∈ lw_tbl := lw_at lw_m5 53 rfl
theorem q1105 : (Jvm.Cond.instanceMethod ({ cls := "NeitherBareModel", name := "makeRow", desc := "(II)V" } : Jvm.MethodName)) ∈ lw_all := lw_g (lw_at lw_m5 54 rfl) rfl
theorem q1106 : (Jvm.Cond.code ({ cls := "NeitherBareModel", name := "makeRow", desc := "(II)V" } : Jvm.MethodName) prog_10_method_11_code (4 : Nat) (Option.none : Option Jvm.ClassFile.FieldType)) ∈ lw_all := lw_g (lw_at lw_m5 55 rfl) rfl
theorem q1108 : (Jvm.Cond.instanceMethod ({ cls := "NeitherBareModel", name := "lay", desc := "(III)I" } : Jvm.MethodName)) ∈ lw_all := lw_g (lw_at lw_m5 57 rfl) rfl
theorem q1109 : (Jvm.Cond.selects "NeitherBareModel" ({ cls := "NeitherBareModel", name := "lay", desc := "(III)I" } : Jvm.MethodName) ({ cls := "NeitherBareModel", name := "lay", desc := "(III)I" } : Jvm.MethodName)) ∈ lw_all := lw_g (lw_at lw_m5 58 rfl) rfl
theorem q1110 : (Jvm.Cond.code ({ cls := "NeitherBareModel", name := "lay", desc := "(III)I" } : Jvm.MethodName) prog_10_method_13_code (6 : Nat) (Option.some Jvm.ClassFile.FieldType.int)) ∈ lw_all := lw_g (lw_at lw_m5 59 rfl) rfl
theorem q1111 : (Jvm.Cond.methodLink "NeitherBareModel" (90 : Nat) ({ cls := "NeitherBareModel", name := "refused", desc := "(II)I" } : Jvm.MethodName)) ∈ lw_all := lw_g (lw_at lw_m5 60 rfl) rfl
theorem q1112 : (Jvm.Cond.privateMethod ({ cls := "NeitherBareModel", name := "refused", desc := "(II)I" } : Jvm.MethodName)) ∈ lw_tbl := lw_at lw_m5 61 rfl
theorem q1113 : (Jvm.Cond.instanceMethod ({ cls := "NeitherBareModel", name := "refused", desc := "(II)I" } : Jvm.MethodName)) ∈ lw_all := lw_g (lw_at lw_m5 62 rfl) rfl
theorem q1114 : (Jvm.Cond.code ({ cls := "NeitherBareModel", name := "refused", desc := "(II)I" } : Jvm.MethodName) prog_10_method_12_code (3 : Nat) (Option.some Jvm.ClassFile.FieldType.int)) ∈ lw_all := lw_g (lw_at lw_m5 63 rfl) rfl
theorem q1115 : (Jvm.Cond.methodLink "NeitherBareModel" (94 : Nat) ({ cls := "NeitherBareModel", name := "tell", desc := "(I)I" } : Jvm.MethodName)) ∈ lw_all := lw_g (lw_at lw_m5 64 rfl) rfl
theorem q1116 : (Jvm.Cond.privateMethod ({ cls := "NeitherBareModel", name := "tell", desc := "(I)I" } : Jvm.MethodName)) ∈ lw_tbl := lw_at lw_m5 65 rfl
theorem q1117 : (Jvm.Cond.instanceMethod ({ cls := "NeitherBareModel", name := "tell", desc := "(I)I" } : Jvm.MethodName)) ∈ lw_all := lw_g (lw_at lw_m5 66 rfl) rfl
theorem q1118 : (Jvm.Cond.code ({ cls := "NeitherBareModel", name := "tell", desc := "(I)I" } : Jvm.MethodName) prog_10_method_7_code (2 : Nat) (Option.some Jvm.ClassFile.FieldType.int)) ∈ lw_all := lw_g (lw_at lw_m5 67 rfl) rfl
theorem q1120 : (Jvm.Cond.instanceMethod ({ cls := "NeitherBareModel", name := "at", desc := "(II)I" } : Jvm.MethodName)) ∈ lw_all := lw_g (lw_at lw_m5 69 rfl) rfl
theorem q1121 : (Jvm.Cond.selects "NeitherBareModel" ({ cls := "NeitherBareModel", name := "at", desc := "(II)I" } : Jvm.MethodName) ({ cls := "NeitherBareModel", name := "at", desc := "(II)I" } : Jvm.MethodName)) ∈ lw_all := lw_g (lw_at lw_m5 70 rfl) rfl
theorem q1122 : (Jvm.Cond.code ({ cls := "NeitherBareModel", name := "at", desc := "(II)I" } : Jvm.MethodName) prog_10_method_14_code (4 : Nat) (Option.some Jvm.ClassFile.FieldType.int)) ∈ lw_all := lw_g (lw_at lw_m5 71 rfl) rfl
theorem q1124 : (Jvm.Cond.instanceMethod ({ cls := "NeitherBareModel", name := "tear", desc := "(I)I" } : Jvm.MethodName)) ∈ lw_all := lw_g (lw_at lw_m5 73 rfl) rfl
theorem q1125 : (Jvm.Cond.selects "NeitherBareModel" ({ cls := "NeitherBareModel", name := "tear", desc := "(I)I" } : Jvm.MethodName) ({ cls := "NeitherBareModel", name := "tear", desc := "(I)I" } : Jvm.MethodName)) ∈ lw_all := lw_g (lw_at lw_m5 74 rfl) rfl
theorem q1126 : (Jvm.Cond.code ({ cls := "NeitherBareModel", name := "tear", desc := "(I)I" } : Jvm.MethodName) prog_10_method_15_code (2 : Nat) (Option.some Jvm.ClassFile.FieldType.int)) ∈ lw_all := lw_g (lw_at lw_m5 75 rfl) rfl
theorem q1128 : (Jvm.Cond.instanceMethod ({ cls := "NeitherBareModel", name := "copy", desc := "(IIIII)I" } : Jvm.MethodName)) ∈ lw_all := lw_g (lw_at lw_m5 77 rfl) rfl
theorem q1129 : (Jvm.Cond.selects "NeitherBareModel" ({ cls := "NeitherBareModel", name := "copy", desc := "(IIIII)I" } : Jvm.MethodName) ({ cls := "NeitherBareModel", name := "copy", desc := "(IIIII)I" } : Jvm.MethodName)) ∈ lw_all := lw_g (lw_at lw_m5 78 rfl) rfl
theorem q1130 : (Jvm.Cond.code ({ cls := "NeitherBareModel", name := "copy", desc := "(IIIII)I" } : Jvm.MethodName) prog_10_method_17_code (9 : Nat) (Option.some Jvm.ClassFile.FieldType.int)) ∈ lw_all := lw_g (lw_at lw_m5 79 rfl) rfl
theorem q1131 : (Jvm.Cond.methodLink "NeitherBareModel" (97 : Nat) ({ cls := "NeitherBareModel", name := "isSpan", desc := "(III)Z" } : Jvm.MethodName)) ∈ lw_all := lw_g (lw_at lw_m5 80 rfl) rfl
theorem q1132 : (Jvm.Cond.privateMethod ({ cls := "NeitherBareModel", name := "isSpan", desc := "(III)Z" } : Jvm.MethodName)) ∈ lw_tbl := lw_at lw_m5 81 rfl
theorem q1133 : (Jvm.Cond.instanceMethod ({ cls := "NeitherBareModel", name := "isSpan", desc := "(III)Z" } : Jvm.MethodName)) ∈ lw_all := lw_g (lw_at lw_m5 82 rfl) rfl
theorem q1134 : (Jvm.Cond.code ({ cls := "NeitherBareModel", name := "isSpan", desc := "(III)Z" } : Jvm.MethodName) prog_10_method_16_code (4 : Nat) (Option.some Jvm.ClassFile.FieldType.boolean)) ∈ lw_all := lw_g (lw_at lw_m5 83 rfl) rfl
theorem q1136 : (Jvm.Cond.instanceMethod ({ cls := "NeitherBareModel", name := "mean", desc := "(I)I" } : Jvm.MethodName)) ∈ lw_all := lw_g (lw_at lw_m5 85 rfl) rfl
theorem q1137 : (Jvm.Cond.selects "NeitherBareModel" ({ cls := "NeitherBareModel", name := "mean", desc := "(I)I" } : Jvm.MethodName) ({ cls := "NeitherBareModel", name := "mean", desc := "(I)I" } : Jvm.MethodName)) ∈ lw_all := lw_g (lw_at lw_m5 86 rfl) rfl
theorem q1138 : (Jvm.Cond.code ({ cls := "NeitherBareModel", name := "mean", desc := "(I)I" } : Jvm.MethodName) prog_10_method_18_code (5 : Nat) (Option.some Jvm.ClassFile.FieldType.int)) ∈ lw_all := lw_g (lw_at lw_m5 87 rfl) rfl
theorem q1140 : (Jvm.Cond.instanceMethod ({ cls := "NeitherBareModel", name := "text", desc := "(II)I" } : Jvm.MethodName)) ∈ lw_all := lw_g (lw_at lw_m5 89 rfl) rfl
theorem q1141 : (Jvm.Cond.selects "NeitherBareModel" ({ cls := "NeitherBareModel", name := "text", desc := "(II)I" } : Jvm.MethodName) ({ cls := "NeitherBareModel", name := "text", desc := "(II)I" } : Jvm.MethodName)) ∈ lw_all := lw_g (lw_at lw_m5 90 rfl) rfl
theorem q1142 : (Jvm.Cond.code ({ cls := "NeitherBareModel", name := "text", desc := "(II)I" } : Jvm.MethodName) prog_10_method_19_code (4 : Nat) (Option.some Jvm.ClassFile.FieldType.int)) ∈ lw_all := lw_g (lw_at lw_m5 91 rfl) rfl
theorem q1143 : (Jvm.Cond.methodLink "NeitherBareModel" (101 : Nat) ({ cls := "NeitherBareModel", name := "isText", desc := "(I)Z" } : Jvm.MethodName)) ∈ lw_all := lw_g (lw_at lw_m5 92 rfl) rfl
theorem q1144 : (Jvm.Cond.static ({ cls := "NeitherBareModel", name := "isText", desc := "(I)Z" } : Jvm.MethodName)) ∈ lw_all := lw_g (lw_at lw_m5 93 rfl) rfl
theorem q1145 : (Jvm.Cond.code ({ cls := "NeitherBareModel", name := "isText", desc := "(I)Z" } : Jvm.MethodName) prog_10_method_9_code (1 : Nat) (Option.some Jvm.ClassFile.FieldType.boolean)) ∈ lw_all := lw_g (lw_at lw_m5 94 rfl) rfl
theorem q1146 : (Jvm.Cond.constantLong "NeitherBareModel" (76 : Nat) (3 : Int64)) ∈ lw_all := lw_g (lw_at lw_m5 95 rfl) rfl
theorem q1148 : (Jvm.Cond.instanceMethod ({ cls := "NeitherBareModel", name := "put", desc := "(III)I" } : Jvm.MethodName)) ∈ lw_all := lw_g (lw_at lw_m5 97 rfl) rfl
theorem q1149 : (Jvm.Cond.selects "NeitherBareModel" ({ cls := "NeitherBareModel", name := "put", desc := "(III)I" } : Jvm.MethodName) ({ cls := "NeitherBareModel", name := "put", desc := "(III)I" } : Jvm.MethodName)) ∈ lw_all := lw_g (lw_at lw_m5 98 rfl) rfl
theorem q1150 : (Jvm.Cond.code ({ cls := "NeitherBareModel", name := "put", desc := "(III)I" } : Jvm.MethodName) prog_10_method_20_code (5 : Nat) (Option.some Jvm.ClassFile.FieldType.int)) ∈ lw_all := lw_g (lw_at lw_m5 99 rfl) rfl
theorem q1152 : (Jvm.Cond.instanceMethod ({ cls := "NeitherBareModel", name := "fault", desc := "(I)I" } : Jvm.MethodName)) ∈ lw_all := lw_g (lw_at lw_m5 101 rfl) rfl
theorem q1153 : (Jvm.Cond.selects "NeitherBareModel" ({ cls := "NeitherBareModel", name := "fault", desc := "(I)I" } : Jvm.MethodName) ({ cls := "NeitherBareModel", name := "fault", desc := "(I)I" } : Jvm.MethodName)) ∈ lw_all := lw_g (lw_at lw_m5 102 rfl) rfl
theorem q1154 : (Jvm.Cond.code ({ cls := "NeitherBareModel", name := "fault", desc := "(I)I" } : Jvm.MethodName) prog_10_method_29_code (2 : Nat) (Option.some Jvm.ClassFile.FieldType.int)) ∈ lw_all := lw_g (lw_at lw_m5 103 rfl) rfl
theorem q1155 : (Jvm.Cond.methodLink "NeitherBareModel" (144 : Nat) ({ cls := "NeitherBareModel", name := "faultOf", desc := "(I)I" } : Jvm.MethodName)) ∈ lw_all := lw_g (lw_at lw_m5 104 rfl) rfl
theorem q1156 : (Jvm.Cond.privateMethod ({ cls := "NeitherBareModel", name := "faultOf", desc := "(I)I" } : Jvm.MethodName)) ∈ lw_tbl := lw_at lw_m5 105 rfl
theorem q1157 : (Jvm.Cond.instanceMethod ({ cls := "NeitherBareModel", name := "faultOf", desc := "(I)I" } : Jvm.MethodName)) ∈ lw_all := lw_g (lw_at lw_m5 106 rfl) rfl
theorem q1158 : (Jvm.Cond.code ({ cls := "NeitherBareModel", name := "faultOf", desc := "(I)I" } : Jvm.MethodName) prog_10_method_28_code (3 : Nat) (Option.some Jvm.ClassFile.FieldType.int)) ∈ lw_all := lw_g (lw_at lw_m5 107 rfl) rfl
theorem q1159 : (Jvm.Cond.methodLink "NeitherBareModel" (134 : Nat) ({ cls := "NeitherBareModel", name := "skip", desc := "()V" } : Jvm.MethodName)) ∈ lw_all := lw_g (lw_at lw_m5 108 rfl) rfl
theorem q1160 : (Jvm.Cond.privateMethod ({ cls := "NeitherBareModel", name := "skip", desc := "()V" } : Jvm.MethodName)) ∈ lw_tbl := lw_at lw_m5 109 rfl
theorem q1161 : (Jvm.Cond.instanceMethod ({ cls := "NeitherBareModel", name := "skip", desc := "()V" } : Jvm.MethodName)) ∈ lw_all := lw_g (lw_at lw_m5 110 rfl) rfl
theorem q1162 : (Jvm.Cond.code ({ cls := "NeitherBareModel", name := "skip", desc := "()V" } : Jvm.MethodName) prog_10_method_22_code (1 : Nat) (Option.none : Option Jvm.ClassFile.FieldType)) ∈ lw_all := lw_g (lw_at lw_m5 111 rfl) rfl
theorem q1163 : (Jvm.Cond.methodLink "NeitherBareModel" (113 : Nat) ({ cls := "NeitherBareModel", name := "here", desc := "()I" } : Jvm.MethodName)) ∈ lw_all := lw_g (lw_at lw_m5 112 rfl) rfl
theorem q1164 : (Jvm.Cond.privateMethod ({ cls := "NeitherBareModel", name := "here", desc := "()I" } : Jvm.MethodName)) ∈ lw_tbl := lw_at lw_m5 113 rfl
theorem q1165 : (Jvm.Cond.instanceMethod ({ cls := "NeitherBareModel", name := "here", desc := "()I" } : Jvm.MethodName)) ∈ lw_all := lw_g (lw_at lw_m5 114 rfl) rfl
theorem q1166 : (Jvm.Cond.code ({ cls := "NeitherBareModel", name := "here", desc := "()I" } : Jvm.MethodName) prog_10_method_21_code (1 : Nat) (Option.some Jvm.ClassFile.FieldType.int)) ∈ lw_all := lw_g (lw_at lw_m5 115 rfl) rfl
theorem q1167 : (Jvm.Cond.methodLink "NeitherBareModel" (137 : Nat) ({ cls := "NeitherBareModel", name := "readsThing", desc := "()Z" } : Jvm.MethodName)) ∈ lw_all := lw_g (lw_at lw_m5 116 rfl) rfl
theorem q1168 : (Jvm.Cond.privateMethod ({ cls := "NeitherBareModel", name := "readsThing", desc := "()Z" } : Jvm.MethodName)) ∈ lw_tbl := lw_at lw_m5 117 rfl
theorem q1169 : (Jvm.Cond.instanceMethod ({ cls := "NeitherBareModel", name := "readsThing", desc := "()Z" } : Jvm.MethodName)) ∈ lw_all := lw_g (lw_at lw_m5 118 rfl) rfl
theorem q1170 : (Jvm.Cond.code ({ cls := "NeitherBareModel", name := "readsThing", desc := "()Z" } : Jvm.MethodName) prog_10_method_25_code (3 : Nat) (Option.some Jvm.ClassFile.FieldType.boolean)) ∈ lw_all := lw_g (lw_at lw_m5 119 rfl) rfl
theorem q1171 : (Jvm.Cond.methodLink "NeitherBareModel" (125 : Nat) ({ cls := "NeitherBareModel", name := "figure", desc := "(II)I" } : Jvm.MethodName)) ∈ lw_all := lw_g (lw_at lw_m5 120 rfl) rfl
theorem q1172 : (Jvm.Cond.privateMethod ({ cls := "NeitherBareModel", name := "figure", desc := "(II)I" } : Jvm.MethodName)) ∈ lw_tbl := lw_at lw_m5 121 rfl
theorem q1173 : (Jvm.Cond.instanceMethod ({ cls := "NeitherBareModel", name := "figure", desc := "(II)I" } : Jvm.MethodName)) ∈ lw_all := lw_g (lw_at lw_m5 122 rfl) rfl
theorem q1174 : (Jvm.Cond.code ({ cls := "NeitherBareModel", name := "figure", desc := "(II)I" } : Jvm.MethodName) prog_10_method_23_code (3 : Nat) (Option.some Jvm.ClassFile.FieldType.int)) ∈ lw_all := lw_g (lw_at lw_m5 123 rfl) rfl
theorem q1175 : (Jvm.Cond.constantLong "NeitherBareModel" (117 : Nat) (48 : Int64)) ∈ lw_all := lw_g (lw_at lw_m5 124 rfl) rfl
theorem q1176 : (Jvm.Cond.methodLink "NeitherBareModel" (141 : Nat) ({ cls := "NeitherBareModel", name := "readsClause", desc := "()Z" } : Jvm.MethodName)) ∈ lw_all := lw_g (lw_at lw_m5 125 rfl) rfl
theorem q1177 : (Jvm.Cond.privateMethod ({ cls := "NeitherBareModel", name := "readsClause", desc := "()Z" } : Jvm.MethodName)) ∈ lw_tbl := lw_at lw_m5 126 rfl
theorem q1178 : (Jvm.Cond.instanceMethod ({ cls := "NeitherBareModel", name := "readsClause", desc := "()Z" } : Jvm.MethodName)) ∈ lw_all := lw_g (lw_at lw_m5 127 rfl) rfl
theorem q1179 : (Jvm.Cond.code ({ cls := "NeitherBareModel", name := "readsClause", desc := "()Z" } : Jvm.MethodName) prog_10_method_27_code (4 : Nat) (Option.some Jvm.ClassFile.FieldType.boolean)) ∈ lw_all := lw_g (lw_at lw_m5 128 rfl) rfl
theorem q1180 : (Jvm.Cond.methodLink "NeitherBareModel" (128 : Nat) ({ cls := "NeitherBareModel", name := "kindOfLetter", desc := "(I)I" } : Jvm.MethodName)) ∈ lw_all := lw_g (lw_at lw_m5 129 rfl) rfl
theorem q1181 : (Jvm.Cond.static ({ cls := "NeitherBareModel", name := "kindOfLetter", desc := "(I)I" } : Jvm.MethodName)) ∈ lw_all := lw_g (lw_at lw_m5 130 rfl) rfl
theorem q1182 : (Jvm.Cond.code ({ cls := "NeitherBareModel", name := "kindOfLetter", desc := "(I)I" } : Jvm.MethodName) prog_10_method_24_code (1 : Nat) (Option.some Jvm.ClassFile.FieldType.int)) ∈ lw_all := lw_g (lw_at lw_m5 131 rfl) rfl
theorem q1183 : (Jvm.Cond.methodLink "NeitherBareModel" (131 : Nat) ({ cls := "NeitherBareModel", name := "isOfTwo", desc := "(I)Z" } : Jvm.MethodName)) ∈ lw_all := lw_g (lw_at lw_m5 132 rfl) rfl
theorem q1184 : (Jvm.Cond.static ({ cls := "NeitherBareModel", name := "isOfTwo", desc := "(I)Z" } : Jvm.MethodName)) ∈ lw_all := lw_g (lw_at lw_m5 133 rfl) rfl
theorem q1185 : (Jvm.Cond.code ({ cls := "NeitherBareModel", name := "isOfTwo", desc := "(I)Z" } : Jvm.MethodName) prog_10_method_26_code (1 : Nat) (Option.some Jvm.ClassFile.FieldType.boolean)) ∈ lw_all := lw_g (lw_at lw_m5 134 rfl) rfl
theorem q1187 : (Jvm.Cond.instanceMethod ({ cls := "NeitherBareModel", name := "court", desc := "(I)I" } : Jvm.MethodName)) ∈ lw_all := lw_g (lw_at lw_m5 136 rfl) rfl
theorem q1188 : (Jvm.Cond.selects "NeitherBareModel" ({ cls := "NeitherBareModel", name := "court", desc := "(I)I" } : Jvm.MethodName) ({ cls := "NeitherBareModel", name := "court", desc := "(I)I" } : Jvm.MethodName)) ∈ lw_all := lw_g (lw_at lw_m5 137 rfl) rfl
theorem q1189 : (Jvm.Cond.code ({ cls := "NeitherBareModel", name := "court", desc := "(I)I" } : Jvm.MethodName) prog_10_method_30_code (3 : Nat) (Option.some Jvm.ClassFile.FieldType.int)) ∈ lw_all := lw_g (lw_at lw_m5 138 rfl) rfl
theorem q1191 : (Jvm.Cond.instanceMethod ({ cls := "NeitherBareModel", name := "thing", desc := "(II)I" } : Jvm.MethodName)) ∈ lw_all := lw_g (lw_at lw_m5 140 rfl) rfl
theorem q1192 : (Jvm.Cond.selects "NeitherBareModel" ({ cls := "NeitherBareModel", name := "thing", desc := "(II)I" } : Jvm.MethodName) ({ cls := "NeitherBareModel", name := "thing", desc := "(II)I" } : Jvm.MethodName)) ∈ lw_all := lw_g (lw_at lw_m5 141 rfl) rfl
theorem q1193 : (Jvm.Cond.code ({ cls := "NeitherBareModel", name := "thing", desc := "(II)I" } : Jvm.MethodName) prog_10_method_47_code (3 : Nat) (Option.some Jvm.ClassFile.FieldType.int)) ∈ lw_all := lw_g (lw_at lw_m5 142 rfl) rfl
theorem q1194 : (Jvm.Cond.constantLong "NeitherBareModel" (188 : Nat) (4 : Int64)) ∈ lw_all := lw_g (lw_at lw_m5 143 rfl) rfl
theorem q1196 : (Jvm.Cond.instanceMethod ({ cls := "NeitherBareModel", name := "clause", desc := "(II)I" } : Jvm.MethodName)) ∈ lw_all := lw_g (lw_at lw_m5 145 rfl) rfl
theorem q1197 : (Jvm.Cond.selects "NeitherBareModel" ({ cls := "NeitherBareModel", name := "clause", desc := "(II)I" } : Jvm.MethodName) ({ cls := "NeitherBareModel", name := "clause", desc := "(II)I" } : Jvm.MethodName)) ∈ lw_all := lw_g (lw_at lw_m5 146 rfl) rfl
theorem q1198 : (Jvm.Cond.code ({ cls := "NeitherBareModel", name := "clause", desc := "(II)I" } : Jvm.MethodName) prog_10_method_50_code (3 : Nat) (Option.some Jvm.ClassFile.FieldType.int)) ∈ lw_all := lw_g (lw_at lw_m5 147 rfl) rfl
theorem q1199 : (Jvm.Cond.methodLink "NeitherBareModel" (194 : Nat) ({ cls := "NeitherBareModel", name := "isClause", desc := "(I)Z" } : Jvm.MethodName)) ∈ lw_all := lw_g (lw_at lw_m5 148 rfl) rfl
theorem q1200 : (Jvm.Cond.privateMethod ({ cls := "NeitherBareModel", name := "isClause", desc := "(I)Z" } : Jvm.MethodName)) ∈ lw_tbl := lw_at lw_m5 149 rfl
theorem q1201 : (Jvm.Cond.instanceMethod ({ cls := "NeitherBareModel", name := "isClause", desc := "(I)Z" } : Jvm.MethodName)) ∈ lw_all := lw_g (lw_at lw_m5 150 rfl) rfl
theorem q1202 : (Jvm.Cond.code ({ cls := "NeitherBareModel", name := "isClause", desc := "(I)Z" } : Jvm.MethodName) prog_10_method_31_code (2 : Nat) (Option.some Jvm.ClassFile.FieldType.boolean)) ∈ lw_all := lw_g (lw_at lw_m5 151 rfl) rfl
theorem q1203 : (Jvm.Cond.methodLink "NeitherBareModel" (197 : Nat) ({ cls := "NeitherBareModel", name := "toldOf", desc := "(II)I" } : Jvm.MethodName)) ∈ lw_all := lw_g (lw_at lw_m5 152 rfl) rfl
theorem q1204 : (Jvm.Cond.privateMethod ({ cls := "NeitherBareModel", name := "toldOf", desc := "(II)I" } : Jvm.MethodName)) ∈ lw_tbl := lw_at lw_m5 153 rfl
theorem q1205 : (Jvm.Cond.instanceMethod ({ cls := "NeitherBareModel", name := "toldOf", desc := "(II)I" } : Jvm.MethodName)) ∈ lw_all := lw_g (lw_at lw_m5 154 rfl) rfl
theorem q1206 : (Jvm.Cond.code ({ cls := "NeitherBareModel", name := "toldOf", desc := "(II)I" } : Jvm.MethodName) prog_10_method_49_code (3 : Nat) (Option.some Jvm.ClassFile.FieldType.int)) ∈ lw_all := lw_g (lw_at lw_m5 155 rfl) rfl
theorem q1207 : (Jvm.Cond.methodLink "NeitherBareModel" (190 : Nat) ({ cls := "NeitherBareModel", name := "heldMany", desc := "(III)I" } : Jvm.MethodName)) ∈ lw_all := lw_g (lw_at lw_m5 156 rfl) rfl
theorem q1208 : (Jvm.Cond.privateMethod ({ cls := "NeitherBareModel", name := "heldMany", desc := "(III)I" } : Jvm.MethodName)) ∈ lw_tbl := lw_at lw_m5 157 rfl
theorem q1209 : (Jvm.Cond.instanceMethod ({ cls := "NeitherBareModel", name := "heldMany", desc := "(III)I" } : Jvm.MethodName)) ∈ lw_all := lw_g (lw_at lw_m5 158 rfl) rfl
theorem q1210 : (Jvm.Cond.code ({ cls := "NeitherBareModel", name := "heldMany", desc := "(III)I" } : Jvm.MethodName) prog_10_method_48_code (6 : Nat) (Option.some Jvm.ClassFile.FieldType.int)) ∈ lw_all := lw_g (lw_at lw_m5 159 rfl) rfl
theorem q1211 : (Jvm.Cond.methodLink "NeitherBareModel" (150 : Nat) ({ cls := "NeitherBareModel", name := "ways", desc := "()I" } : Jvm.MethodName)) ∈ lw_all := lw_g (lw_at lw_m5 160 rfl) rfl
theorem q1212 : (Jvm.Cond.privateMethod ({ cls := "NeitherBareModel", name := "ways", desc := "()I" } : Jvm.MethodName)) ∈ lw_tbl := lw_at lw_m5 161 rfl
theorem q1213 : (Jvm.Cond.instanceMethod ({ cls := "NeitherBareModel", name := "ways", desc := "()I" } : Jvm.MethodName)) ∈ lw_all := lw_g (lw_at lw_m5 162 rfl) rfl
theorem q1214 : (Jvm.Cond.code ({ cls := "NeitherBareModel", name := "ways", desc := "()I" } : Jvm.MethodName) prog_10_method_33_code (1 : Nat) (Option.some Jvm.ClassFile.FieldType.int)) ∈ lw_all := lw_g (lw_at lw_m5 163 rfl) rfl
theorem q1215 : (Jvm.Cond.methodLink "NeitherBareModel" (178 : Nat) ({ cls := "NeitherBareModel", name := "holdsOf", desc := "(IIII)Z" } : Jvm.MethodName)) ∈ lw_all := lw_g (lw_at lw_m5 164 rfl) rfl
theorem q1216 : (Jvm.Cond.privateMethod ({ cls := "NeitherBareModel", name := "holdsOf", desc := "(IIII)Z" } : Jvm.MethodName)) ∈ lw_tbl := lw_at lw_m5 165 rfl
theorem q1217 : (Jvm.Cond.instanceMethod ({ cls := "NeitherBareModel", name := "holdsOf", desc := "(IIII)Z" } : Jvm.MethodName)) ∈ lw_all := lw_g (lw_at lw_m5 166 rfl) rfl
theorem q1218 : (Jvm.Cond.code ({ cls := "NeitherBareModel", name := "holdsOf", desc := "(IIII)Z" } : Jvm.MethodName) prog_10_method_42_code (5 : Nat) (Option.some Jvm.ClassFile.FieldType.boolean)) ∈ lw_all := lw_g (lw_at lw_m5 167 rfl) rfl
theorem q1219 : (Jvm.Cond.methodLink "NeitherBareModel" (157 : Nat) ({ cls := "NeitherBareModel", name := "valueOf", desc := "(II)I" } : Jvm.MethodName)) ∈ lw_all := lw_g (lw_at lw_m5 168 rfl) rfl
theorem q1220 : (Jvm.Cond.privateMethod ({ cls := "NeitherBareModel", name := "valueOf", desc := "(II)I" } : Jvm.MethodName)) ∈ lw_tbl := lw_at lw_m5 169 rfl
theorem q1221 : (Jvm.Cond.instanceMethod ({ cls := "NeitherBareModel", name := "valueOf", desc := "(II)I" } : Jvm.MethodName)) ∈ lw_all := lw_g (lw_at lw_m5 170 rfl) rfl
theorem q1222 : (Jvm.Cond.code ({ cls := "NeitherBareModel", name := "valueOf", desc := "(II)I" } : Jvm.MethodName) prog_10_method_35_code (5 : Nat) (Option.some Jvm.ClassFile.FieldType.int)) ∈ lw_all := lw_g (lw_at lw_m5 171 rfl) rfl
theorem q1223 : (Jvm.Cond.methodLink "NeitherBareModel" (153 : Nat) ({ cls := "NeitherBareModel", name := "has", desc := "(II)Z" } : Jvm.MethodName)) ∈ lw_all := lw_g (lw_at lw_m5 172 rfl) rfl
theorem q1224 : (Jvm.Cond.static ({ cls := "NeitherBareModel", name := "has", desc := "(II)Z" } : Jvm.MethodName)) ∈ lw_all := lw_g (lw_at lw_m5 173 rfl) rfl
theorem q1225 : (Jvm.Cond.code ({ cls := "NeitherBareModel", name := "has", desc := "(II)Z" } : Jvm.MethodName) prog_10_method_5_code (2 : Nat) (Option.some Jvm.ClassFile.FieldType.boolean)) ∈ lw_all := lw_g (lw_at lw_m5 174 rfl) rfl
theorem q1226 : (Jvm.Cond.methodLink "NeitherBareModel" (166 : Nat) ({ cls := "NeitherBareModel", name := "isBetween", desc := "(II)Z" } : Jvm.MethodName)) ∈ lw_all := lw_g (lw_at lw_m5 175 rfl) rfl
theorem q1227 : (Jvm.Cond.privateMethod ({ cls := "NeitherBareModel", name := "isBetween", desc := "(II)Z" } : Jvm.MethodName)) ∈ lw_tbl := lw_at lw_m5 176 rfl
theorem q1228 : (Jvm.Cond.instanceMethod ({ cls := "NeitherBareModel", name := "isBetween", desc := "(II)Z" } : Jvm.MethodName)) ∈ lw_all := lw_g (lw_at lw_m5 177 rfl) rfl
theorem q1229 : (Jvm.Cond.code ({ cls := "NeitherBareModel", name := "isBetween", desc := "(II)Z" } : Jvm.MethodName) prog_10_method_40_code (3 : Nat) (Option.some Jvm.ClassFile.FieldType.boolean)) ∈ lw_all := lw_g (lw_at lw_m5 178 rfl) rfl
theorem q1230 : (Jvm.Cond.methodLink "NeitherBareModel" (163 : Nat) ({ cls := "NeitherBareModel", name := "lowerOf", desc := "(I)I" } : Jvm.MethodName)) ∈ lw_all := lw_g (lw_at lw_m5 179 rfl) rfl
theorem q1231 : (Jvm.Cond.privateMethod ({ cls := "NeitherBareModel", name := "lowerOf", desc := "(I)I" } : Jvm.MethodName)) ∈ lw_tbl := lw_at lw_m5 180 rfl
theorem q1232 : (Jvm.Cond.instanceMethod ({ cls := "NeitherBareModel", name := "lowerOf", desc := "(I)I" } : Jvm.MethodName)) ∈ lw_all := lw_g (lw_at lw_m5 181 rfl) rfl
theorem q1233 : (Jvm.Cond.code ({ cls := "NeitherBareModel", name := "lowerOf", desc := "(I)I" } : Jvm.MethodName) prog_10_method_36_code (2 : Nat) (Option.some Jvm.ClassFile.FieldType.int)) ∈ lw_all := lw_g (lw_at lw_m5 182 rfl) rfl
theorem q1234 : (Jvm.Cond.methodLink "NeitherBareModel" (160 : Nat) ({ cls := "NeitherBareModel", name := "upperOf", desc := "(I)I" } : Jvm.MethodName)) ∈ lw_all := lw_g (lw_at lw_m5 183 rfl) rfl
theorem q1235 : (Jvm.Cond.privateMethod ({ cls := "NeitherBareModel", name := "upperOf", desc := "(I)I" } : Jvm.MethodName)) ∈ lw_tbl := lw_at lw_m5 184 rfl
theorem q1236 : (Jvm.Cond.instanceMethod ({ cls := "NeitherBareModel", name := "upperOf", desc := "(I)I" } : Jvm.MethodName)) ∈ lw_all := lw_g (lw_at lw_m5 185 rfl) rfl
theorem q1237 : (Jvm.Cond.code ({ cls := "NeitherBareModel", name := "upperOf", desc := "(I)I" } : Jvm.MethodName) prog_10_method_37_code (2 : Nat) (Option.some Jvm.ClassFile.FieldType.int)) ∈ lw_all := lw_g (lw_at lw_m5 186 rfl) rfl
theorem q1238 : (Jvm.Cond.methodLink "NeitherBareModel" (169 : Nat) ({ cls := "NeitherBareModel", name := "isMuch", desc := "(II)Z" } : Jvm.MethodName)) ∈ lw_all := lw_g (lw_at lw_m5 187 rfl) rfl
theorem q1239 : (Jvm.Cond.privateMethod ({ cls := "NeitherBareModel", name := "isMuch", desc := "(II)Z" } : Jvm.MethodName)) ∈ lw_tbl := lw_at lw_m5 188 rfl
theorem q1240 : (Jvm.Cond.instanceMethod ({ cls := "NeitherBareModel", name := "isMuch", desc := "(II)Z" } : Jvm.MethodName)) ∈ lw_all := lw_g (lw_at lw_m5 189 rfl) rfl
theorem q1241 : (Jvm.Cond.code ({ cls := "NeitherBareModel", name := "isMuch", desc := "(II)Z" } : Jvm.MethodName) prog_10_method_38_code (3 : Nat) (Option.some Jvm.ClassFile.FieldType.boolean)) ∈ lw_all := lw_g (lw_at lw_m5 190 rfl) rfl
theorem q1242 : (Jvm.Cond.methodLink "NeitherBareModel" (172 : Nat) ({ cls := "NeitherBareModel", name := "half", desc := "(I)I" } : Jvm.MethodName)) ∈ lw_all := lw_g (lw_at lw_m5 191 rfl) rfl
theorem q1243 : (Jvm.Cond.privateMethod ({ cls := "NeitherBareModel", name := "half", desc := "(I)I" } : Jvm.MethodName)) ∈ lw_tbl := lw_at lw_m5 192 rfl
theorem q1244 : (Jvm.Cond.instanceMethod ({ cls := "NeitherBareModel", name := "half", desc := "(I)I" } : Jvm.MethodName)) ∈ lw_all := lw_g (lw_at lw_m5 193 rfl) rfl
theorem q1245 : (Jvm.Cond.code ({ cls := "NeitherBareModel", name := "half", desc := "(I)I" } : Jvm.MethodName) prog_10_method_41_code (2 : Nat) (Option.some Jvm.ClassFile.FieldType.int)) ∈ lw_all := lw_g (lw_at lw_m5 194 rfl) rfl
theorem q1246 : (Jvm.Cond.methodLink "NeitherBareModel" (175 : Nat) ({ cls := "NeitherBareModel", name := "isLittle", desc := "(II)Z" } : Jvm.MethodName)) ∈ lw_all := lw_g (lw_at lw_m5 195 rfl) rfl
theorem q1247 : (Jvm.Cond.privateMethod ({ cls := "NeitherBareModel", name := "isLittle", desc := "(II)Z" } : Jvm.MethodName)) ∈ lw_tbl := lw_at lw_m5 196 rfl
theorem q1248 : (Jvm.Cond.instanceMethod ({ cls := "NeitherBareModel", name := "isLittle", desc := "(II)Z" } : Jvm.MethodName)) ∈ lw_all := lw_g (lw_at lw_m5 197 rfl) rfl
theorem q1249 : (Jvm.Cond.code ({ cls := "NeitherBareModel", name := "isLittle", desc := "(II)Z" } : Jvm.MethodName) prog_10_method_39_code (3 : Nat) (Option.some Jvm.ClassFile.FieldType.boolean)) ∈ lw_all := lw_g (lw_at lw_m5 198 rfl) rfl
theorem q1251 : (Jvm.Cond.instanceMethod ({ cls := "NeitherBareModel", name := "mark", desc := "(II)I" } : Jvm.MethodName)) ∈ lw_all := lw_g (lw_at lw_m5 200 rfl) rfl
theorem q1252 : (Jvm.Cond.selects "NeitherBareModel" ({ cls := "NeitherBareModel", name := "mark", desc := "(II)I" } : Jvm.MethodName) ({ cls := "NeitherBareModel", name := "mark", desc := "(II)I" } : Jvm.MethodName)) ∈ lw_all := lw_g (lw_at lw_m5 201 rfl) rfl
theorem q1253 : (Jvm.Cond.code ({ cls := "NeitherBareModel", name := "mark", desc := "(II)I" } : Jvm.MethodName) prog_10_method_54_code (4 : Nat) (Option.some Jvm.ClassFile.FieldType.int)) ∈ lw_all := lw_g (lw_at lw_m5 202 rfl) rfl
theorem q1254 : (Jvm.Cond.methodLink "NeitherBareModel" (200 : Nat) ({ cls := "NeitherBareModel", name := "isOf", desc := "(II)Z" } : Jvm.MethodName)) ∈ lw_all := lw_g (lw_at lw_m5 203 rfl) rfl
theorem q1255 : (Jvm.Cond.privateMethod ({ cls := "NeitherBareModel", name := "isOf", desc := "(II)Z" } : Jvm.MethodName)) ∈ lw_tbl := lw_at lw_m5 204 rfl
theorem q1256 : (Jvm.Cond.instanceMethod ({ cls := "NeitherBareModel", name := "isOf", desc := "(II)Z" } : Jvm.MethodName)) ∈ lw_all := lw_g (lw_at lw_m5 205 rfl) rfl
theorem q1257 : (Jvm.Cond.code ({ cls := "NeitherBareModel", name := "isOf", desc := "(II)Z" } : Jvm.MethodName) prog_10_method_51_code (3 : Nat) (Option.some Jvm.ClassFile.FieldType.boolean)) ∈ lw_all := lw_g (lw_at lw_m5 206 rfl) rfl
theorem q1258 : (Jvm.Cond.methodLink "NeitherBareModel" (203 : Nat) ({ cls := "NeitherBareModel", name := "muchAlone", desc := "(I)I" } : Jvm.MethodName)) ∈ lw_all := lw_g (lw_at lw_m5 207 rfl) rfl
theorem q1259 : (Jvm.Cond.privateMethod ({ cls := "NeitherBareModel", name := "muchAlone", desc := "(I)I" } : Jvm.MethodName)) ∈ lw_tbl := lw_at lw_m5 208 rfl
theorem q1260 : (Jvm.Cond.instanceMethod ({ cls := "NeitherBareModel", name := "muchAlone", desc := "(I)I" } : Jvm.MethodName)) ∈ lw_all := lw_g (lw_at lw_m5 209 rfl) rfl
theorem q1261 : (Jvm.Cond.code ({ cls := "NeitherBareModel", name := "muchAlone", desc := "(I)I" } : Jvm.MethodName) prog_10_method_52_code (4 : Nat) (Option.some Jvm.ClassFile.FieldType.int)) ∈ lw_all := lw_g (lw_at lw_m5 210 rfl) rfl
theorem q1262 : (Jvm.Cond.methodLink "NeitherBareModel" (206 : Nat) ({ cls := "NeitherBareModel", name := "littleMany", desc := "(I)I" } : Jvm.MethodName)) ∈ lw_all := lw_g (lw_at lw_m5 211 rfl) rfl
theorem q1263 : (Jvm.Cond.privateMethod ({ cls := "NeitherBareModel", name := "littleMany", desc := "(I)I" } : Jvm.MethodName)) ∈ lw_tbl := lw_at lw_m5 212 rfl
theorem q1264 : (Jvm.Cond.instanceMethod ({ cls := "NeitherBareModel", name := "littleMany", desc := "(I)I" } : Jvm.MethodName)) ∈ lw_all := lw_g (lw_at lw_m5 213 rfl) rfl
theorem q1265 : (Jvm.Cond.code ({ cls := "NeitherBareModel", name := "littleMany", desc := "(I)I" } : Jvm.MethodName) prog_10_method_53_code (4 : Nat) (Option.some Jvm.ClassFile.FieldType.int)) ∈ lw_all := lw_g (lw_at lw_m5 214 rfl) rfl
theorem q1267 : (Jvm.Cond.instanceMethod ({ cls := "NeitherBareModel", name := "border", desc := "(II)I" } : Jvm.MethodName)) ∈ lw_all := lw_g (lw_at lw_m5 216 rfl) rfl
theorem q1268 : (Jvm.Cond.selects "NeitherBareModel" ({ cls := "NeitherBareModel", name := "border", desc := "(II)I" } : Jvm.MethodName) ({ cls := "NeitherBareModel", name := "border", desc := "(II)I" } : Jvm.MethodName)) ∈ lw_all := lw_g (lw_at lw_m5 217 rfl) rfl
theorem q1269 : (Jvm.Cond.code ({ cls := "NeitherBareModel", name := "border", desc := "(II)I" } : Jvm.MethodName) prog_10_method_55_code (3 : Nat) (Option.some Jvm.ClassFile.FieldType.int)) ∈ lw_all := lw_g (lw_at lw_m5 218 rfl) rfl
theorem q1270 : (Jvm.Cond.methodLink "NeitherBareModel" (209 : Nat) ({ cls := "NeitherBareModel", name := "isTrait", desc := "(I)Z" } : Jvm.MethodName)) ∈ lw_all := lw_g (lw_at lw_m5 219 rfl) rfl
theorem q1271 : (Jvm.Cond.static ({ cls := "NeitherBareModel", name := "isTrait", desc := "(I)Z" } : Jvm.MethodName)) ∈ lw_all := lw_g (lw_at lw_m5 220 rfl) rfl
theorem q1272 : (Jvm.Cond.code ({ cls := "NeitherBareModel", name := "isTrait", desc := "(I)Z" } : Jvm.MethodName) prog_10_method_32_code (1 : Nat) (Option.some Jvm.ClassFile.FieldType.boolean)) ∈ lw_all := lw_g (lw_at lw_m5 221 rfl) rfl
theorem q1274 : (Jvm.Cond.instanceMethod ({ cls := "NeitherBareModel", name := "strike", desc := "(II)I" } : Jvm.MethodName)) ∈ lw_all := lw_g (lw_at lw_m5 223 rfl) rfl
theorem q1275 : (Jvm.Cond.selects "NeitherBareModel" ({ cls := "NeitherBareModel", name := "strike", desc := "(II)I" } : Jvm.MethodName) ({ cls := "NeitherBareModel", name := "strike", desc := "(II)I" } : Jvm.MethodName)) ∈ lw_all := lw_g (lw_at lw_m5 224 rfl) rfl
theorem q1276 : (Jvm.Cond.code ({ cls := "NeitherBareModel", name := "strike", desc := "(II)I" } : Jvm.MethodName) prog_10_method_57_code (3 : Nat) (Option.some Jvm.ClassFile.FieldType.int)) ∈ lw_all := lw_g (lw_at lw_m5 225 rfl) rfl
theorem q1277 : (Jvm.Cond.methodLink "NeitherBareModel" (212 : Nat) ({ cls := "NeitherBareModel", name := "keepPast", desc := "()V" } : Jvm.MethodName)) ∈ lw_all := lw_g (lw_at lw_m5 226 rfl) rfl
theorem q1278 : (Jvm.Cond.privateMethod ({ cls := "NeitherBareModel", name := "keepPast", desc := "()V" } : Jvm.MethodName)) ∈ lw_tbl := lw_at lw_m5 227 rfl
theorem q1279 : (Jvm.Cond.instanceMethod ({ cls := "NeitherBareModel", name := "keepPast", desc := "()V" } : Jvm.MethodName)) ∈ lw_all := lw_g (lw_at lw_m5 228 rfl) rfl
theorem q1280 : (Jvm.Cond.code ({ cls := "NeitherBareModel", name := "keepPast", desc := "()V" } : Jvm.MethodName) prog_10_method_56_code (2 : Nat) (Option.none : Option Jvm.ClassFile.FieldType)) ∈ lw_all := lw_g (lw_at lw_m5 229 rfl) rfl
theorem q1281 : (Jvm.Cond.methodLink "NeitherBareModel" (215 : Nat) ({ cls := "NeitherBareModel", name := "bits", desc := "(I)I" } : Jvm.MethodName)) ∈ lw_all := lw_g (lw_at lw_m5 230 rfl) rfl
theorem q1282 : (Jvm.Cond.static ({ cls := "NeitherBareModel", name := "bits", desc := "(I)I" } : Jvm.MethodName)) ∈ lw_all := lw_g (lw_at lw_m5 231 rfl) rfl
theorem q1283 : (Jvm.Cond.code ({ cls := "NeitherBareModel", name := "bits", desc := "(I)I" } : Jvm.MethodName) prog_10_method_3_code (3 : Nat) (Option.some Jvm.ClassFile.FieldType.int)) ∈ lw_all := lw_g (lw_at lw_m5 232 rfl) rfl
theorem q1285 : (Jvm.Cond.instanceMethod ({ cls := "NeitherBareModel", name := "move", desc := "(III)I" } : Jvm.MethodName)) ∈ lw_all := lw_g (lw_at lw_m5 234 rfl) rfl
theorem q1286 : (Jvm.Cond.selects "NeitherBareModel" ({ cls := "NeitherBareModel", name := "move", desc := "(III)I" } : Jvm.MethodName) ({ cls := "NeitherBareModel", name := "move", desc := "(III)I" } : Jvm.MethodName)) ∈ lw_all := lw_g (lw_at lw_m5 235 rfl) rfl
theorem q1287 : (Jvm.Cond.code ({ cls := "NeitherBareModel", name := "move", desc := "(III)I" } : Jvm.MethodName) prog_10_method_60_code (5 : Nat) (Option.some Jvm.ClassFile.FieldType.int)) ∈ lw_all := lw_g (lw_at lw_m5 236 rfl) rfl
theorem q1288 : (Jvm.Cond.methodLink "NeitherBareModel" (218 : Nat) ({ cls := "NeitherBareModel", name := "isBorder", desc := "(II)Z" } : Jvm.MethodName)) ∈ lw_all := lw_g (lw_at lw_m5 237 rfl) rfl
theorem q1289 : (Jvm.Cond.static ({ cls := "NeitherBareModel", name := "isBorder", desc := "(II)Z" } : Jvm.MethodName)) ∈ lw_all := lw_g (lw_at lw_m5 238 rfl) rfl
theorem q1290 : (Jvm.Cond.code ({ cls := "NeitherBareModel", name := "isBorder", desc := "(II)Z" } : Jvm.MethodName) prog_10_method_58_code (2 : Nat) (Option.some Jvm.ClassFile.FieldType.boolean)) ∈ lw_all := lw_g (lw_at lw_m5 239 rfl) rfl
theorem q1291 : (Jvm.Cond.methodLink "NeitherBareModel" (221 : Nat) ({ cls := "NeitherBareModel", name := "isBelow", desc := "(III)Z" } : Jvm.MethodName)) ∈ lw_all := lw_g (lw_at lw_m6 0 rfl) rfl
theorem q1292 : (Jvm.Cond.privateMethod ({ cls := "NeitherBareModel", name := "isBelow", desc := "(III)Z" } : Jvm.MethodName)) ∈ lw_tbl := lw_at lw_m6 1 rfl
theorem q1293 : (Jvm.Cond.instanceMethod ({ cls := "NeitherBareModel", name := "isBelow", desc := "(III)Z" } : Jvm.MethodName)) ∈ lw_all := lw_g (lw_at lw_m6 2 rfl) rfl
theorem q1294 : (Jvm.Cond.code ({ cls := "NeitherBareModel", name := "isBelow", desc := "(III)Z" } : Jvm.MethodName) prog_10_method_59_code (4 : Nat) (Option.some Jvm.ClassFile.FieldType.boolean)) ∈ lw_all := lw_g (lw_at lw_m6 3 rfl) rfl
theorem q1296 : (Jvm.Cond.instanceMethod ({ cls := "NeitherBareModel", name := "undo", desc := "(I)I" } : Jvm.MethodName)) ∈ lw_all := lw_g (lw_at lw_m6 5 rfl) rfl
theorem q1297 : (Jvm.Cond.selects "NeitherBareModel" ({ cls := "NeitherBareModel", name := "undo", desc := "(I)I" } : Jvm.MethodName) ({ cls := "NeitherBareModel", name := "undo", desc := "(I)I" } : Jvm.MethodName)) ∈ lw_all := lw_g (lw_at lw_m6 6 rfl) rfl
theorem q1298 : (Jvm.Cond.code ({ cls := "NeitherBareModel", name := "undo", desc := "(I)I" } : Jvm.MethodName) prog_10_method_61_code (4 : Nat) (Option.some Jvm.ClassFile.FieldType.int)) ∈ lw_all := lw_g (lw_at lw_m6 7 rfl) rfl
theorem q1300 : (Jvm.Cond.instanceMethod ({ cls := "NeitherBareModel", name := "keep", desc := "(I)I" } : Jvm.MethodName)) ∈ lw_all := lw_g (lw_at lw_m6 9 rfl) rfl
theorem q1301 : (Jvm.Cond.selects "NeitherBareModel" ({ cls := "NeitherBareModel", name := "keep", desc := "(I)I" } : Jvm.MethodName) ({ cls := "NeitherBareModel", name := "keep", desc := "(I)I" } : Jvm.MethodName)) ∈ lw_all := lw_g (lw_at lw_m6 10 rfl) rfl
theorem q1302 : (Jvm.Cond.code ({ cls := "NeitherBareModel", name := "keep", desc := "(I)I" } : Jvm.MethodName) prog_10_method_63_code (2 : Nat) (Option.some Jvm.ClassFile.FieldType.int)) ∈ lw_all := lw_g (lw_at lw_m6 11 rfl) rfl
theorem q1303 : (Jvm.Cond.constantLong "NeitherBareModel" (224 : Nat) (2 : Int64)) ∈ lw_all := lw_g (lw_at lw_m6 12 rfl) rfl
theorem q1304 : (Jvm.Cond.methodLink "NeitherBareModel" (226 : Nat) ({ cls := "NeitherBareModel", name := "copyCourt", desc := "(II)V" } : Jvm.MethodName)) ∈ lw_all := lw_g (lw_at lw_m6 13 rfl) rfl
theorem q1305 : (Jvm.Cond.privateMethod ({ cls := "NeitherBareModel", name := "copyCourt", desc := "(II)V" } : Jvm.MethodName)) ∈ lw_tbl := lw_at lw_m6 14 rfl
theorem q1306 : (Jvm.Cond.instanceMethod ({ cls := "NeitherBareModel", name := "copyCourt", desc := "(II)V" } : Jvm.MethodName)) ∈ lw_all := lw_g (lw_at lw_m6 15 rfl) rfl
theorem q1307 : (Jvm.Cond.code ({ cls := "NeitherBareModel", name := "copyCourt", desc := "(II)V" } : Jvm.MethodName) prog_10_method_62_code (4 : Nat) (Option.none : Option Jvm.ClassFile.FieldType)) ∈ lw_all := lw_g (lw_at lw_m6 16 rfl) rfl
theorem q1309 : (Jvm.Cond.instanceMethod ({ cls := "NeitherBareModel", name := "on", desc := "(I)I" } : Jvm.MethodName)) ∈ lw_all := lw_g (lw_at lw_m6 18 rfl) rfl
theorem q1310 : (Jvm.Cond.selects "NeitherBareModel" ({ cls := "NeitherBareModel", name := "on", desc := "(I)I" } : Jvm.MethodName) ({ cls := "NeitherBareModel", name := "on", desc := "(I)I" } : Jvm.MethodName)) ∈ lw_all := lw_g (lw_at lw_m6 19 rfl) rfl
theorem q1311 : (Jvm.Cond.code ({ cls := "NeitherBareModel", name := "on", desc := "(I)I" } : Jvm.MethodName) prog_10_method_64_code (2 : Nat) (Option.some Jvm.ClassFile.FieldType.int)) ∈ lw_all := lw_g (lw_at lw_m6 20 rfl) rfl
theorem q1313 : (Jvm.Cond.instanceMethod ({ cls := "NeitherBareModel", name := "value", desc := "(II)I" } : Jvm.MethodName)) ∈ lw_all := lw_g (lw_at lw_m6 22 rfl) rfl
theorem q1314 : (Jvm.Cond.selects "NeitherBareModel" ({ cls := "NeitherBareModel", name := "value", desc := "(II)I" } : Jvm.MethodName) ({ cls := "NeitherBareModel", name := "value", desc := "(II)I" } : Jvm.MethodName)) ∈ lw_all := lw_g (lw_at lw_m6 23 rfl) rfl
theorem q1315 : (Jvm.Cond.code ({ cls := "NeitherBareModel", name := "value", desc := "(II)I" } : Jvm.MethodName) prog_10_method_65_code (3 : Nat) (Option.some Jvm.ClassFile.FieldType.int)) ∈ lw_all := lw_g (lw_at lw_m6 24 rfl) rfl
theorem q1316 : (Jvm.Cond.methodLink "NeitherBareModel" (229 : Nat) ({ cls := "NeitherBareModel", name := "isWay", desc := "(I)Z" } : Jvm.MethodName)) ∈ lw_all := lw_g (lw_at lw_m6 25 rfl) rfl
theorem q1317 : (Jvm.Cond.privateMethod ({ cls := "NeitherBareModel", name := "isWay", desc := "(I)Z" } : Jvm.MethodName)) ∈ lw_tbl := lw_at lw_m6 26 rfl
theorem q1318 : (Jvm.Cond.instanceMethod ({ cls := "NeitherBareModel", name := "isWay", desc := "(I)Z" } : Jvm.MethodName)) ∈ lw_all := lw_g (lw_at lw_m6 27 rfl) rfl
theorem q1319 : (Jvm.Cond.code ({ cls := "NeitherBareModel", name := "isWay", desc := "(I)Z" } : Jvm.MethodName) prog_10_method_34_code (2 : Nat) (Option.some Jvm.ClassFile.FieldType.boolean)) ∈ lw_all := lw_g (lw_at lw_m6 28 rfl) rfl
theorem q1321 : (Jvm.Cond.instanceMethod ({ cls := "NeitherBareModel", name := "cost", desc := "(I)I" } : Jvm.MethodName)) ∈ lw_all := lw_g (lw_at lw_m6 30 rfl) rfl
theorem q1322 : (Jvm.Cond.selects "NeitherBareModel" ({ cls := "NeitherBareModel", name := "cost", desc := "(I)I" } : Jvm.MethodName) ({ cls := "NeitherBareModel", name := "cost", desc := "(I)I" } : Jvm.MethodName)) ∈ lw_all := lw_g (lw_at lw_m6 31 rfl) rfl
theorem q1323 : (Jvm.Cond.code ({ cls := "NeitherBareModel", name := "cost", desc := "(I)I" } : Jvm.MethodName) prog_10_method_66_code (2 : Nat) (Option.some Jvm.ClassFile.FieldType.int)) ∈ lw_all := lw_g (lw_at lw_m6 32 rfl) rfl
theorem q1324 : (Jvm.Cond.methodLink "NeitherBareModel" (232 : Nat) ({ cls := "NeitherBareModel", name := "costOf", desc := "(I)I" } : Jvm.MethodName)) ∈ lw_all := lw_g (lw_at lw_m6 33 rfl) rfl
theorem q1325 : (Jvm.Cond.privateMethod ({ cls := "NeitherBareModel", name := "costOf", desc := "(I)I" } : Jvm.MethodName)) ∈ lw_tbl := lw_at lw_m6 34 rfl
theorem q1326 : (Jvm.Cond.instanceMethod ({ cls := "NeitherBareModel", name := "costOf", desc := "(I)I" } : Jvm.MethodName)) ∈ lw_all := lw_g (lw_at lw_m6 35 rfl) rfl
theorem q1327 : (Jvm.Cond.code ({ cls := "NeitherBareModel", name := "costOf", desc := "(I)I" } : Jvm.MethodName) prog_10_method_46_code (4 : Nat) (Option.some Jvm.ClassFile.FieldType.int)) ∈ lw_all := lw_g (lw_at lw_m6 36 rfl) rfl
theorem q1329 : (Jvm.Cond.instanceMethod ({ cls := "NeitherBareModel", name := "holds", desc := "(I)I" } : Jvm.MethodName)) ∈ lw_all := lw_g (lw_at lw_m6 38 rfl) rfl
theorem q1330 : (Jvm.Cond.selects "NeitherBareModel" ({ cls := "NeitherBareModel", name := "holds", desc := "(I)I" } : Jvm.MethodName) ({ cls := "NeitherBareModel", name := "holds", desc := "(I)I" } : Jvm.MethodName)) ∈ lw_all := lw_g (lw_at lw_m6 39 rfl) rfl
theorem q1331 : (Jvm.Cond.code ({ cls := "NeitherBareModel", name := "holds", desc := "(I)I" } : Jvm.MethodName) prog_10_method_67_code (2 : Nat) (Option.some Jvm.ClassFile.FieldType.int)) ∈ lw_all := lw_g (lw_at lw_m6 40 rfl) rfl
theorem q1332 : (Jvm.Cond.methodLink "NeitherBareModel" (235 : Nat) ({ cls := "NeitherBareModel", name := "isGood", desc := "(I)Z" } : Jvm.MethodName)) ∈ lw_all := lw_g (lw_at lw_m6 41 rfl) rfl
theorem q1333 : (Jvm.Cond.privateMethod ({ cls := "NeitherBareModel", name := "isGood", desc := "(I)Z" } : Jvm.MethodName)) ∈ lw_tbl := lw_at lw_m6 42 rfl
theorem q1334 : (Jvm.Cond.instanceMethod ({ cls := "NeitherBareModel", name := "isGood", desc := "(I)Z" } : Jvm.MethodName)) ∈ lw_all := lw_g (lw_at lw_m6 43 rfl) rfl
theorem q1335 : (Jvm.Cond.code ({ cls := "NeitherBareModel", name := "isGood", desc := "(I)Z" } : Jvm.MethodName) prog_10_method_45_code (2 : Nat) (Option.some Jvm.ClassFile.FieldType.boolean)) ∈ lw_all := lw_g (lw_at lw_m6 44 rfl) rfl
theorem q1336 : (Jvm.Cond.methodLink "NeitherBareModel" (185 : Nat) ({ cls := "NeitherBareModel", name := "heldBy", desc := "(I)I" } : Jvm.MethodName)) ∈ lw_all := lw_g (lw_at lw_m6 45 rfl) rfl
theorem q1337 : (Jvm.Cond.privateMethod ({ cls := "NeitherBareModel", name := "heldBy", desc := "(I)I" } : Jvm.MethodName)) ∈ lw_tbl := lw_at lw_m6 46 rfl
theorem q1338 : (Jvm.Cond.instanceMethod ({ cls := "NeitherBareModel", name := "heldBy", desc := "(I)I" } : Jvm.MethodName)) ∈ lw_all := lw_g (lw_at lw_m6 47 rfl) rfl
theorem q1339 : (Jvm.Cond.code ({ cls := "NeitherBareModel", name := "heldBy", desc := "(I)I" } : Jvm.MethodName) prog_10_method_44_code (4 : Nat) (Option.some Jvm.ClassFile.FieldType.int)) ∈ lw_all := lw_g (lw_at lw_m6 48 rfl) rfl
theorem q1340 : (Jvm.Cond.methodLink "NeitherBareModel" (182 : Nat) ({ cls := "NeitherBareModel", name := "holdsIn", desc := "(II)Z" } : Jvm.MethodName)) ∈ lw_all := lw_g (lw_at lw_m6 49 rfl) rfl
theorem q1341 : (Jvm.Cond.privateMethod ({ cls := "NeitherBareModel", name := "holdsIn", desc := "(II)Z" } : Jvm.MethodName)) ∈ lw_tbl := lw_at lw_m6 50 rfl
theorem q1342 : (Jvm.Cond.instanceMethod ({ cls := "NeitherBareModel", name := "holdsIn", desc := "(II)Z" } : Jvm.MethodName)) ∈ lw_all := lw_g (lw_at lw_m6 51 rfl) rfl
theorem q1343 : (Jvm.Cond.code ({ cls := "NeitherBareModel", name := "holdsIn", desc := "(II)Z" } : Jvm.MethodName) prog_10_method_43_code (3 : Nat) (Option.some Jvm.ClassFile.FieldType.boolean)) ∈ lw_all := lw_g (lw_at lw_m6 52 rfl) rfl
theorem q1345 : (Jvm.Cond.instanceMethod ({ cls := "NeitherBareModel", name := "good", desc := "()I" } : Jvm.MethodName)) ∈ lw_all := lw_g (lw_at lw_m6 54 rfl) rfl
theorem q1346 : (Jvm.Cond.selects "NeitherBareModel" ({ cls := "NeitherBareModel", name := "good", desc := "()I" } : Jvm.MethodName) ({ cls := "NeitherBareModel", name := "good", desc := "()I" } : Jvm.MethodName)) ∈ lw_all := lw_g (lw_at lw_m6 55 rfl) rfl
theorem q1347 : (Jvm.Cond.code ({ cls := "NeitherBareModel", name := "good", desc := "()I" } : Jvm.MethodName) prog_10_method_69_code (2 : Nat) (Option.some Jvm.ClassFile.FieldType.int)) ∈ lw_all := lw_g (lw_at lw_m6 56 rfl) rfl
theorem q1348 : (Jvm.Cond.methodLink "NeitherBareModel" (238 : Nat) ({ cls := "NeitherBareModel", name := "goodMany", desc := "()I" } : Jvm.MethodName)) ∈ lw_all := lw_g (lw_at lw_m6 57 rfl) rfl
theorem q1349 : (Jvm.Cond.privateMethod ({ cls := "NeitherBareModel", name := "goodMany", desc := "()I" } : Jvm.MethodName)) ∈ lw_tbl := lw_at lw_m6 58 rfl
theorem q1350 : (Jvm.Cond.instanceMethod ({ cls := "NeitherBareModel", name := "goodMany", desc := "()I" } : Jvm.MethodName)) ∈ lw_all := lw_g (lw_at lw_m6 59 rfl) rfl
theorem q1351 : (Jvm.Cond.code ({ cls := "NeitherBareModel", name := "goodMany", desc := "()I" } : Jvm.MethodName) prog_10_method_68_code (3 : Nat) (Option.some Jvm.ClassFile.FieldType.int)) ∈ lw_all := lw_g (lw_at lw_m6 60 rfl) rfl
theorem q1353 : (Jvm.Cond.instanceMethod ({ cls := "NeitherBareModel", name := "cheapest", desc := "()I" } : Jvm.MethodName)) ∈ lw_all := lw_g (lw_at lw_m6 62 rfl) rfl
theorem q1354 : (Jvm.Cond.selects "NeitherBareModel" ({ cls := "NeitherBareModel", name := "cheapest", desc := "()I" } : Jvm.MethodName) ({ cls := "NeitherBareModel", name := "cheapest", desc := "()I" } : Jvm.MethodName)) ∈ lw_all := lw_g (lw_at lw_m6 63 rfl) rfl
theorem q1355 : (Jvm.Cond.code ({ cls := "NeitherBareModel", name := "cheapest", desc := "()I" } : Jvm.MethodName) prog_10_method_71_code (2 : Nat) (Option.some Jvm.ClassFile.FieldType.int)) ∈ lw_all := lw_g (lw_at lw_m6 64 rfl) rfl
theorem q1356 : (Jvm.Cond.methodLink "NeitherBareModel" (241 : Nat) ({ cls := "NeitherBareModel", name := "best", desc := "(Z)I" } : Jvm.MethodName)) ∈ lw_all := lw_g (lw_at lw_m6 65 rfl) rfl
theorem q1357 : (Jvm.Cond.privateMethod ({ cls := "NeitherBareModel", name := "best", desc := "(Z)I" } : Jvm.MethodName)) ∈ lw_tbl := lw_at lw_m6 66 rfl
theorem q1358 : (Jvm.Cond.instanceMethod ({ cls := "NeitherBareModel", name := "best", desc := "(Z)I" } : Jvm.MethodName)) ∈ lw_all := lw_g (lw_at lw_m6 67 rfl) rfl
theorem q1359 : (Jvm.Cond.code ({ cls := "NeitherBareModel", name := "best", desc := "(Z)I" } : Jvm.MethodName) prog_10_method_70_code (7 : Nat) (Option.some Jvm.ClassFile.FieldType.int)) ∈ lw_all := lw_g (lw_at lw_m6 68 rfl) rfl
theorem q1361 : (Jvm.Cond.instanceMethod ({ cls := "NeitherBareModel", name := "fewest", desc := "()I" } : Jvm.MethodName)) ∈ lw_all := lw_g (lw_at lw_m6 70 rfl) rfl
theorem q1362 : (Jvm.Cond.selects "NeitherBareModel" ({ cls := "NeitherBareModel", name := "fewest", desc := "()I" } : Jvm.MethodName) ({ cls := "NeitherBareModel", name := "fewest", desc := "()I" } : Jvm.MethodName)) ∈ lw_all := lw_g (lw_at lw_m6 71 rfl) rfl
theorem q1363 : (Jvm.Cond.code ({ cls := "NeitherBareModel", name := "fewest", desc := "()I" } : Jvm.MethodName) prog_10_method_72_code (2 : Nat) (Option.some Jvm.ClassFile.FieldType.int)) ∈ lw_all := lw_g (lw_at lw_m6 72 rfl) rfl
theorem q1365 : (Jvm.Cond.instanceMethod ({ cls := "NeitherBareModel", name := "nearest", desc := "()I" } : Jvm.MethodName)) ∈ lw_all := lw_g (lw_at lw_m6 74 rfl) rfl
theorem q1366 : (Jvm.Cond.selects "NeitherBareModel" ({ cls := "NeitherBareModel", name := "nearest", desc := "()I" } : Jvm.MethodName) ({ cls := "NeitherBareModel", name := "nearest", desc := "()I" } : Jvm.MethodName)) ∈ lw_all := lw_g (lw_at lw_m6 75 rfl) rfl
theorem q1367 : (Jvm.Cond.code ({ cls := "NeitherBareModel", name := "nearest", desc := "()I" } : Jvm.MethodName) prog_10_method_73_code (5 : Nat) (Option.some Jvm.ClassFile.FieldType.int)) ∈ lw_all := lw_g (lw_at lw_m6 76 rfl) rfl
theorem q1369 : (Jvm.Cond.instanceMethod ({ cls := "NeitherBareModel", name := "tight", desc := "(I)I" } : Jvm.MethodName)) ∈ lw_all := lw_g (lw_at lw_m6 78 rfl) rfl
theorem q1370 : (Jvm.Cond.selects "NeitherBareModel" ({ cls := "NeitherBareModel", name := "tight", desc := "(I)I" } : Jvm.MethodName) ({ cls := "NeitherBareModel", name := "tight", desc := "(I)I" } : Jvm.MethodName)) ∈ lw_all := lw_g (lw_at lw_m6 79 rfl) rfl
theorem q1371 : (Jvm.Cond.code ({ cls := "NeitherBareModel", name := "tight", desc := "(I)I" } : Jvm.MethodName) prog_10_method_74_code (4 : Nat) (Option.some Jvm.ClassFile.FieldType.int)) ∈ lw_all := lw_g (lw_at lw_m6 80 rfl) rfl
theorem q1373 : (Jvm.Cond.instanceMethod ({ cls := "NeitherBareModel", name := "clash", desc := "(I)I" } : Jvm.MethodName)) ∈ lw_all := lw_g (lw_at lw_m6 82 rfl) rfl
theorem q1374 : (Jvm.Cond.selects "NeitherBareModel" ({ cls := "NeitherBareModel", name := "clash", desc := "(I)I" } : Jvm.MethodName) ({ cls := "NeitherBareModel", name := "clash", desc := "(I)I" } : Jvm.MethodName)) ∈ lw_all := lw_g (lw_at lw_m6 83 rfl) rfl
theorem q1375 : (Jvm.Cond.code ({ cls := "NeitherBareModel", name := "clash", desc := "(I)I" } : Jvm.MethodName) prog_10_method_76_code (2 : Nat) (Option.some Jvm.ClassFile.FieldType.int)) ∈ lw_all := lw_g (lw_at lw_m6 84 rfl) rfl
theorem q1376 : (Jvm.Cond.methodLink "NeitherBareModel" (245 : Nat) ({ cls := "NeitherBareModel", name := "clashes", desc := "(I)Z" } : Jvm.MethodName)) ∈ lw_all := lw_g (lw_at lw_m6 85 rfl) rfl
theorem q1377 : (Jvm.Cond.privateMethod ({ cls := "NeitherBareModel", name := "clashes", desc := "(I)Z" } : Jvm.MethodName)) ∈ lw_tbl := lw_at lw_m6 86 rfl
theorem q1378 : (Jvm.Cond.instanceMethod ({ cls := "NeitherBareModel", name := "clashes", desc := "(I)Z" } : Jvm.MethodName)) ∈ lw_all := lw_g (lw_at lw_m6 87 rfl) rfl
theorem q1379 : (Jvm.Cond.code ({ cls := "NeitherBareModel", name := "clashes", desc := "(I)Z" } : Jvm.MethodName) prog_10_method_75_code (3 : Nat) (Option.some Jvm.ClassFile.FieldType.boolean)) ∈ lw_all := lw_g (lw_at lw_m6 88 rfl) rfl
theorem q1381 : (Jvm.Cond.instanceMethod ({ cls := "NeitherBareModel", name := "two", desc := "()I" } : Jvm.MethodName)) ∈ lw_all := lw_g (lw_at lw_m6 90 rfl) rfl
theorem q1382 : (Jvm.Cond.selects "NeitherBareModel" ({ cls := "NeitherBareModel", name := "two", desc := "()I" } : Jvm.MethodName) ({ cls := "NeitherBareModel", name := "two", desc := "()I" } : Jvm.MethodName)) ∈ lw_all := lw_g (lw_at lw_m6 91 rfl) rfl
theorem q1383 : (Jvm.Cond.code ({ cls := "NeitherBareModel", name := "two", desc := "()I" } : Jvm.MethodName) prog_10_method_77_code (5 : Nat) (Option.some Jvm.ClassFile.FieldType.int)) ∈ lw_all := lw_g (lw_at lw_m6 92 rfl) rfl
theorem q1385 : (Jvm.Cond.instanceMethod ({ cls := "NeitherBareModel", name := "least", desc := "()I" } : Jvm.MethodName)) ∈ lw_all := lw_g (lw_at lw_m6 94 rfl) rfl
theorem q1386 : (Jvm.Cond.selects "NeitherBareModel" ({ cls := "NeitherBareModel", name := "least", desc := "()I" } : Jvm.MethodName) ({ cls := "NeitherBareModel", name := "least", desc := "()I" } : Jvm.MethodName)) ∈ lw_all := lw_g (lw_at lw_m6 95 rfl) rfl
theorem q1387 : (Jvm.Cond.code ({ cls := "NeitherBareModel", name := "least", desc := "()I" } : Jvm.MethodName) prog_10_method_78_code (4 : Nat) (Option.some Jvm.ClassFile.FieldType.int)) ∈ lw_all := lw_g (lw_at lw_m6 96 rfl) rfl
theorem q1389 : (Jvm.Cond.instanceMethod ({ cls := "NeitherBareModel", name := "relent", desc := "()I" } : Jvm.MethodName)) ∈ lw_all := lw_g (lw_at lw_m6 98 rfl) rfl
theorem q1390 : (Jvm.Cond.selects "NeitherBareModel" ({ cls := "NeitherBareModel", name := "relent", desc := "()I" } : Jvm.MethodName) ({ cls := "NeitherBareModel", name := "relent", desc := "()I" } : Jvm.MethodName)) ∈ lw_all := lw_g (lw_at lw_m6 99 rfl) rfl
theorem q1391 : (Jvm.Cond.code ({ cls := "NeitherBareModel", name := "relent", desc := "()I" } : Jvm.MethodName) prog_10_method_79_code (4 : Nat) (Option.some Jvm.ClassFile.FieldType.int)) ∈ lw_all := lw_g (lw_at lw_m6 100 rfl) rfl
theorem q1393 : (Jvm.Cond.instanceMethod ({ cls := "NeitherBareModel", name := "game", desc := "(I)I" } : Jvm.MethodName)) ∈ lw_all := lw_g (lw_at lw_m6 102 rfl) rfl
theorem q1394 : (Jvm.Cond.selects "NeitherBareModel" ({ cls := "NeitherBareModel", name := "game", desc := "(I)I" } : Jvm.MethodName) ({ cls := "NeitherBareModel", name := "game", desc := "(I)I" } : Jvm.MethodName)) ∈ lw_all := lw_g (lw_at lw_m6 103 rfl) rfl
theorem q1395 : (Jvm.Cond.code ({ cls := "NeitherBareModel", name := "game", desc := "(I)I" } : Jvm.MethodName) prog_10_method_84_code (2 : Nat) (Option.some Jvm.ClassFile.FieldType.int)) ∈ lw_all := lw_g (lw_at lw_m6 104 rfl) rfl
theorem q1396 : (Jvm.Cond.methodLink "NeitherBareModel" (257 : Nat) ({ cls := "NeitherBareModel", name := "layGame", desc := "(I)V" } : Jvm.MethodName)) ∈ lw_all := lw_g (lw_at lw_m6 105 rfl) rfl
theorem q1397 : (Jvm.Cond.privateMethod ({ cls := "NeitherBareModel", name := "layGame", desc := "(I)V" } : Jvm.MethodName)) ∈ lw_tbl := lw_at lw_m6 106 rfl
theorem q1398 : (Jvm.Cond.instanceMethod ({ cls := "NeitherBareModel", name := "layGame", desc := "(I)V" } : Jvm.MethodName)) ∈ lw_all := lw_g (lw_at lw_m6 107 rfl) rfl
theorem q1399 : (Jvm.Cond.code ({ cls := "NeitherBareModel", name := "layGame", desc := "(I)V" } : Jvm.MethodName) prog_10_method_83_code (4 : Nat) (Option.none : Option Jvm.ClassFile.FieldType)) ∈ lw_all := lw_g (lw_at lw_m6 108 rfl) rfl
theorem q1400 : (Jvm.Cond.methodLink "NeitherBareModel" (254 : Nat) ({ cls := "NeitherBareModel", name := "layTurn", desc := "()V" } : Jvm.MethodName)) ∈ lw_all := lw_g (lw_at lw_m6 109 rfl) rfl
theorem q1401 : (Jvm.Cond.privateMethod ({ cls := "NeitherBareModel", name := "layTurn", desc := "()V" } : Jvm.MethodName)) ∈ lw_tbl := lw_at lw_m6 110 rfl
theorem q1402 : (Jvm.Cond.instanceMethod ({ cls := "NeitherBareModel", name := "layTurn", desc := "()V" } : Jvm.MethodName)) ∈ lw_all := lw_g (lw_at lw_m6 111 rfl) rfl
theorem q1403 : (Jvm.Cond.code ({ cls := "NeitherBareModel", name := "layTurn", desc := "()V" } : Jvm.MethodName) prog_10_method_82_code (3 : Nat) (Option.none : Option Jvm.ClassFile.FieldType)) ∈ lw_all := lw_g (lw_at lw_m6 112 rfl) rfl
theorem q1404 : (Jvm.Cond.methodLink "NeitherBareModel" (251 : Nat) ({ cls := "NeitherBareModel", name := "withstands", desc := "(II)Z" } : Jvm.MethodName)) ∈ lw_all := lw_g (lw_at lw_m6 113 rfl) rfl
theorem q1405 : (Jvm.Cond.privateMethod ({ cls := "NeitherBareModel", name := "withstands", desc := "(II)Z" } : Jvm.MethodName)) ∈ lw_tbl := lw_at lw_m6 114 rfl
theorem q1406 : (Jvm.Cond.instanceMethod ({ cls := "NeitherBareModel", name := "withstands", desc := "(II)Z" } : Jvm.MethodName)) ∈ lw_all := lw_g (lw_at lw_m6 115 rfl) rfl
theorem q1407 : (Jvm.Cond.code ({ cls := "NeitherBareModel", name := "withstands", desc := "(II)Z" } : Jvm.MethodName) prog_10_method_81_code (6 : Nat) (Option.some Jvm.ClassFile.FieldType.boolean)) ∈ lw_all := lw_g (lw_at lw_m6 116 rfl) rfl
theorem q1408 : (Jvm.Cond.methodLink "NeitherBareModel" (248 : Nat) ({ cls := "NeitherBareModel", name := "answers", desc := "(II)Z" } : Jvm.MethodName)) ∈ lw_all := lw_g (lw_at lw_m6 117 rfl) rfl
theorem q1409 : (Jvm.Cond.privateMethod ({ cls := "NeitherBareModel", name := "answers", desc := "(II)Z" } : Jvm.MethodName)) ∈ lw_tbl := lw_at lw_m6 118 rfl
theorem q1410 : (Jvm.Cond.instanceMethod ({ cls := "NeitherBareModel", name := "answers", desc := "(II)Z" } : Jvm.MethodName)) ∈ lw_all := lw_g (lw_at lw_m6 119 rfl) rfl
theorem q1411 : (Jvm.Cond.code ({ cls := "NeitherBareModel", name := "answers", desc := "(II)Z" } : Jvm.MethodName) prog_10_method_80_code (5 : Nat) (Option.some Jvm.ClassFile.FieldType.boolean)) ∈ lw_all := lw_g (lw_at lw_m6 120 rfl) rfl
theorem q1413 : (Jvm.Cond.instanceMethod ({ cls := "NeitherBareModel", name := "names", desc := "(I)I" } : Jvm.MethodName)) ∈ lw_all := lw_g (lw_at lw_m6 122 rfl) rfl
theorem q1414 : (Jvm.Cond.selects "NeitherBareModel" ({ cls := "NeitherBareModel", name := "names", desc := "(I)I" } : Jvm.MethodName) ({ cls := "NeitherBareModel", name := "names", desc := "(I)I" } : Jvm.MethodName)) ∈ lw_all := lw_g (lw_at lw_m6 123 rfl) rfl
theorem q1415 : (Jvm.Cond.code ({ cls := "NeitherBareModel", name := "names", desc := "(I)I" } : Jvm.MethodName) prog_10_method_85_code (3 : Nat) (Option.some Jvm.ClassFile.FieldType.int)) ∈ lw_all := lw_g (lw_at lw_m6 124 rfl) rfl
theorem q1417 : (Jvm.Cond.instanceMethod ({ cls := "NeitherBareModel", name := "contradict", desc := "(I)I" } : Jvm.MethodName)) ∈ lw_all := lw_g (lw_at lw_m6 126 rfl) rfl
theorem q1418 : (Jvm.Cond.selects "NeitherBareModel" ({ cls := "NeitherBareModel", name := "contradict", desc := "(I)I" } : Jvm.MethodName) ({ cls := "NeitherBareModel", name := "contradict", desc := "(I)I" } : Jvm.MethodName)) ∈ lw_all := lw_g (lw_at lw_m6 127 rfl) rfl
theorem q1419 : (Jvm.Cond.code ({ cls := "NeitherBareModel", name := "contradict", desc := "(I)I" } : Jvm.MethodName) prog_10_method_89_code (8 : Nat) (Option.some Jvm.ClassFile.FieldType.int)) ∈ lw_all := lw_g (lw_at lw_m6 128 rfl) rfl
theorem q1420 : (Jvm.Cond.methodLink "NeitherBareModel" (264 : Nat) ({ cls := "NeitherBareModel", name := "noRulings", desc := "(I)I" } : Jvm.MethodName)) ∈ lw_all := lw_g (lw_at lw_m6 129 rfl) rfl
theorem q1421 : (Jvm.Cond.privateMethod ({ cls := "NeitherBareModel", name := "noRulings", desc := "(I)I" } : Jvm.MethodName)) ∈ lw_tbl := lw_at lw_m6 130 rfl
theorem q1422 : (Jvm.Cond.instanceMethod ({ cls := "NeitherBareModel", name := "noRulings", desc := "(I)I" } : Jvm.MethodName)) ∈ lw_all := lw_g (lw_at lw_m6 131 rfl) rfl
theorem q1423 : (Jvm.Cond.code ({ cls := "NeitherBareModel", name := "noRulings", desc := "(I)I" } : Jvm.MethodName) prog_10_method_87_code (4 : Nat) (Option.some Jvm.ClassFile.FieldType.int)) ∈ lw_all := lw_g (lw_at lw_m6 132 rfl) rfl
theorem q1424 : (Jvm.Cond.methodLink "NeitherBareModel" (261 : Nat) ({ cls := "NeitherBareModel", name := "rule", desc := "(III)I" } : Jvm.MethodName)) ∈ lw_all := lw_g (lw_at lw_m6 133 rfl) rfl
theorem q1425 : (Jvm.Cond.privateMethod ({ cls := "NeitherBareModel", name := "rule", desc := "(III)I" } : Jvm.MethodName)) ∈ lw_tbl := lw_at lw_m6 134 rfl
theorem q1426 : (Jvm.Cond.instanceMethod ({ cls := "NeitherBareModel", name := "rule", desc := "(III)I" } : Jvm.MethodName)) ∈ lw_all := lw_g (lw_at lw_m6 135 rfl) rfl
theorem q1427 : (Jvm.Cond.code ({ cls := "NeitherBareModel", name := "rule", desc := "(III)I" } : Jvm.MethodName) prog_10_method_86_code (4 : Nat) (Option.some Jvm.ClassFile.FieldType.int)) ∈ lw_all := lw_g (lw_at lw_m6 136 rfl) rfl
theorem q1428 : (Jvm.Cond.methodLink "NeitherBareModel" (267 : Nat) ({ cls := "NeitherBareModel", name := "against", desc := "(III)Z" } : Jvm.MethodName)) ∈ lw_all := lw_g (lw_at lw_m6 137 rfl) rfl
theorem q1429 : (Jvm.Cond.privateMethod ({ cls := "NeitherBareModel", name := "against", desc := "(III)Z" } : Jvm.MethodName)) ∈ lw_tbl := lw_at lw_m6 138 rfl
theorem q1430 : (Jvm.Cond.instanceMethod ({ cls := "NeitherBareModel", name := "against", desc := "(III)Z" } : Jvm.MethodName)) ∈ lw_all := lw_g (lw_at lw_m6 139 rfl) rfl
theorem q1431 : (Jvm.Cond.code ({ cls := "NeitherBareModel", name := "against", desc := "(III)Z" } : Jvm.MethodName) prog_10_method_88_code (4 : Nat) (Option.some Jvm.ClassFile.FieldType.boolean)) ∈ lw_all := lw_g (lw_at lw_m6 140 rfl) rfl
theorem q1433 : (Jvm.Cond.instanceMethod ({ cls := "NeitherBareModel", name := "fix", desc := "(I)I" } : Jvm.MethodName)) ∈ lw_all := lw_g (lw_at lw_m6 142 rfl) rfl
theorem q1434 : (Jvm.Cond.selects "NeitherBareModel" ({ cls := "NeitherBareModel", name := "fix", desc := "(I)I" } : Jvm.MethodName) ({ cls := "NeitherBareModel", name := "fix", desc := "(I)I" } : Jvm.MethodName)) ∈ lw_all := lw_g (lw_at lw_m6 143 rfl) rfl
theorem q1435 : (Jvm.Cond.code ({ cls := "NeitherBareModel", name := "fix", desc := "(I)I" } : Jvm.MethodName) prog_10_method_91_code (5 : Nat) (Option.some Jvm.ClassFile.FieldType.int)) ∈ lw_all := lw_g (lw_at lw_m6 144 rfl) rfl
theorem q1436 : (Jvm.Cond.methodLink "NeitherBareModel" (270 : Nat) ({ cls := "NeitherBareModel", name := "isFixed", desc := "(II)Z" } : Jvm.MethodName)) ∈ lw_all := lw_g (lw_at lw_m6 145 rfl) rfl
theorem q1437 : (Jvm.Cond.privateMethod ({ cls := "NeitherBareModel", name := "isFixed", desc := "(II)Z" } : Jvm.MethodName)) ∈ lw_tbl := lw_at lw_m6 146 rfl
theorem q1438 : (Jvm.Cond.instanceMethod ({ cls := "NeitherBareModel", name := "isFixed", desc := "(II)Z" } : Jvm.MethodName)) ∈ lw_all := lw_g (lw_at lw_m6 147 rfl) rfl
theorem q1439 : (Jvm.Cond.code ({ cls := "NeitherBareModel", name := "isFixed", desc := "(II)Z" } : Jvm.MethodName) prog_10_method_90_code (6 : Nat) (Option.some Jvm.ClassFile.FieldType.boolean)) ∈ lw_all := lw_g (lw_at lw_m6 148 rfl) rfl
theorem q1441 : (Jvm.Cond.instanceMethod ({ cls := "NeitherBareModel", name := "follows", desc := "(III)I" } : Jvm.MethodName)) ∈ lw_all := lw_g (lw_at lw_m6 150 rfl) rfl
theorem q1442 : (Jvm.Cond.selects "NeitherBareModel" ({ cls := "NeitherBareModel", name := "follows", desc := "(III)I" } : Jvm.MethodName) ({ cls := "NeitherBareModel", name := "follows", desc := "(III)I" } : Jvm.MethodName)) ∈ lw_all := lw_g (lw_at lw_m6 151 rfl) rfl
theorem q1443 : (Jvm.Cond.code ({ cls := "NeitherBareModel", name := "follows", desc := "(III)I" } : Jvm.MethodName) prog_10_method_92_code (9 : Nat) (Option.some Jvm.ClassFile.FieldType.int)) ∈ lw_all := lw_g (lw_at lw_m6 152 rfl) rfl
theorem q1445 : (Jvm.Cond.instanceMethod ({ cls := "NeitherBareModel", name := "borders", desc := "(II)I" } : Jvm.MethodName)) ∈ lw_all := lw_g (lw_at lw_m6 154 rfl) rfl
theorem q1446 : (Jvm.Cond.selects "NeitherBareModel" ({ cls := "NeitherBareModel", name := "borders", desc := "(II)I" } : Jvm.MethodName) ({ cls := "NeitherBareModel", name := "borders", desc := "(II)I" } : Jvm.MethodName)) ∈ lw_all := lw_g (lw_at lw_m6 155 rfl) rfl
theorem q1447 : (Jvm.Cond.code ({ cls := "NeitherBareModel", name := "borders", desc := "(II)I" } : Jvm.MethodName) prog_10_method_93_code (8 : Nat) (Option.some Jvm.ClassFile.FieldType.int)) ∈ lw_all := lw_g (lw_at lw_m6 156 rfl) rfl
theorem q1449 : (Jvm.Cond.instanceMethod ({ cls := "NeitherBareModel", name := "worth", desc := "(I)I" } : Jvm.MethodName)) ∈ lw_all := lw_g (lw_at lw_m6 158 rfl) rfl
theorem q1450 : (Jvm.Cond.selects "NeitherBareModel" ({ cls := "NeitherBareModel", name := "worth", desc := "(I)I" } : Jvm.MethodName) ({ cls := "NeitherBareModel", name := "worth", desc := "(I)I" } : Jvm.MethodName)) ∈ lw_all := lw_g (lw_at lw_m6 159 rfl) rfl
theorem q1451 : (Jvm.Cond.code ({ cls := "NeitherBareModel", name := "worth", desc := "(I)I" } : Jvm.MethodName) prog_10_method_94_code (4 : Nat) (Option.some Jvm.ClassFile.FieldType.int)) ∈ lw_all := lw_g (lw_at lw_m6 160 rfl) rfl
theorem q1453 : (Jvm.Cond.instanceMethod ({ cls := "NeitherBareModel", name := "falls", desc := "(III)I" } : Jvm.MethodName)) ∈ lw_all := lw_g (lw_at lw_m6 162 rfl) rfl
theorem q1454 : (Jvm.Cond.selects "NeitherBareModel" ({ cls := "NeitherBareModel", name := "falls", desc := "(III)I" } : Jvm.MethodName) ({ cls := "NeitherBareModel", name := "falls", desc := "(III)I" } : Jvm.MethodName)) ∈ lw_all := lw_g (lw_at lw_m6 163 rfl) rfl
theorem q1455 : (Jvm.Cond.code ({ cls := "NeitherBareModel", name := "falls", desc := "(III)I" } : Jvm.MethodName) prog_10_method_95_code (10 : Nat) (Option.some Jvm.ClassFile.FieldType.int)) ∈ lw_all := lw_g (lw_at lw_m6 164 rfl) rfl
theorem q1457 : (Jvm.Cond.instanceMethod ({ cls := "NeitherBareModel", name := "kinds", desc := "(II)I" } : Jvm.MethodName)) ∈ lw_all := lw_g (lw_at lw_m6 166 rfl) rfl
theorem q1458 : (Jvm.Cond.selects "NeitherBareModel" ({ cls := "NeitherBareModel", name := "kinds", desc := "(II)I" } : Jvm.MethodName) ({ cls := "NeitherBareModel", name := "kinds", desc := "(II)I" } : Jvm.MethodName)) ∈ lw_all := lw_g (lw_at lw_m6 167 rfl) rfl
theorem q1459 : (Jvm.Cond.code ({ cls := "NeitherBareModel", name := "kinds", desc := "(II)I" } : Jvm.MethodName) prog_10_method_96_code (6 : Nat) (Option.some Jvm.ClassFile.FieldType.int)) ∈ lw_all := lw_g (lw_at lw_m6 168 rfl) rfl
theorem q1460 : (Jvm.Cond.constantLong "NeitherBareModel" (273 : Nat) (64 : Int64)) ∈ lw_all := lw_g (lw_at lw_m6 169 rfl) rfl
theorem q1462 : (Jvm.Cond.instanceMethod ({ cls := "NeitherBareModel", name := "judged", desc := "(II)I" } : Jvm.MethodName)) ∈ lw_all := lw_g (lw_at lw_m6 171 rfl) rfl
theorem q1463 : (Jvm.Cond.selects "NeitherBareModel" ({ cls := "NeitherBareModel", name := "judged", desc := "(II)I" } : Jvm.MethodName) ({ cls := "NeitherBareModel", name := "judged", desc := "(II)I" } : Jvm.MethodName)) ∈ lw_all := lw_g (lw_at lw_m6 172 rfl) rfl
theorem q1464 : (Jvm.Cond.code ({ cls := "NeitherBareModel", name := "judged", desc := "(II)I" } : Jvm.MethodName) prog_10_method_99_code (10 : Nat) (Option.some Jvm.ClassFile.FieldType.int)) ∈ lw_all := lw_g (lw_at lw_m6 173 rfl) rfl
theorem q1465 : (Jvm.Cond.methodLink "NeitherBareModel" (275 : Nat) ({ cls := "NeitherBareModel", name := "areJudged", desc := "(I)Z" } : Jvm.MethodName)) ∈ lw_all := lw_g (lw_at lw_m6 174 rfl) rfl
theorem q1466 : (Jvm.Cond.privateMethod ({ cls := "NeitherBareModel", name := "areJudged", desc := "(I)Z" } : Jvm.MethodName)) ∈ lw_tbl := lw_at lw_m6 175 rfl
theorem q1467 : (Jvm.Cond.instanceMethod ({ cls := "NeitherBareModel", name := "areJudged", desc := "(I)Z" } : Jvm.MethodName)) ∈ lw_all := lw_g (lw_at lw_m6 176 rfl) rfl
theorem q1468 : (Jvm.Cond.code ({ cls := "NeitherBareModel", name := "areJudged", desc := "(I)Z" } : Jvm.MethodName) prog_10_method_97_code (4 : Nat) (Option.some Jvm.ClassFile.FieldType.boolean)) ∈ lw_all := lw_g (lw_at lw_m6 177 rfl) rfl
theorem q1469 : (Jvm.Cond.methodLink "NeitherBareModel" (278 : Nat) ({ cls := "NeitherBareModel", name := "isJudged", desc := "(II)Z" } : Jvm.MethodName)) ∈ lw_all := lw_g (lw_at lw_m6 178 rfl) rfl
theorem q1470 : (Jvm.Cond.privateMethod ({ cls := "NeitherBareModel", name := "isJudged", desc := "(II)Z" } : Jvm.MethodName)) ∈ lw_tbl := lw_at lw_m6 179 rfl
theorem q1471 : (Jvm.Cond.instanceMethod ({ cls := "NeitherBareModel", name := "isJudged", desc := "(II)Z" } : Jvm.MethodName)) ∈ lw_all := lw_g (lw_at lw_m6 180 rfl) rfl
theorem q1472 : (Jvm.Cond.code ({ cls := "NeitherBareModel", name := "isJudged", desc := "(II)Z" } : Jvm.MethodName) prog_10_method_98_code (5 : Nat) (Option.some Jvm.ClassFile.FieldType.boolean)) ∈ lw_all := lw_g (lw_at lw_m6 181 rfl) rfl
theorem q1474 : (Jvm.Cond.instanceMethod ({ cls := "NeitherBareModel", name := "odds", desc := "(II)I" } : Jvm.MethodName)) ∈ lw_all := lw_g (lw_at lw_m6 183 rfl) rfl
theorem q1475 : (Jvm.Cond.selects "NeitherBareModel" ({ cls := "NeitherBareModel", name := "odds", desc := "(II)I" } : Jvm.MethodName) ({ cls := "NeitherBareModel", name := "odds", desc := "(II)I" } : Jvm.MethodName)) ∈ lw_all := lw_g (lw_at lw_m6 184 rfl) rfl
theorem q1476 : (Jvm.Cond.code ({ cls := "NeitherBareModel", name := "odds", desc := "(II)I" } : Jvm.MethodName) prog_10_method_101_code (8 : Nat) (Option.some Jvm.ClassFile.FieldType.int)) ∈ lw_all := lw_g (lw_at lw_m6 185 rfl) rfl
theorem q1477 : (Jvm.Cond.constantLong "NeitherBareModel" (284 : Nat) (12 : Int64)) ∈ lw_all := lw_g (lw_at lw_m6 186 rfl) rfl
theorem q1478 : (Jvm.Cond.methodLink "NeitherBareModel" (286 : Nat) ({ cls := "NeitherBareModel", name := "tellParts", desc := "(JJ)I" } : Jvm.MethodName)) ∈ lw_all := lw_g (lw_at lw_m6 187 rfl) rfl
theorem q1479 : (Jvm.Cond.privateMethod ({ cls := "NeitherBareModel", name := "tellParts", desc := "(JJ)I" } : Jvm.MethodName)) ∈ lw_tbl := lw_at lw_m6 188 rfl
theorem q1480 : (Jvm.Cond.instanceMethod ({ cls := "NeitherBareModel", name := "tellParts", desc := "(JJ)I" } : Jvm.MethodName)) ∈ lw_all := lw_g (lw_at lw_m6 189 rfl) rfl
theorem q1481 : (Jvm.Cond.code ({ cls := "NeitherBareModel", name := "tellParts", desc := "(JJ)I" } : Jvm.MethodName) prog_10_method_100_code (11 : Nat) (Option.some Jvm.ClassFile.FieldType.int)) ∈ lw_all := lw_g (lw_at lw_m6 190 rfl) rfl
theorem q1483 : (Jvm.Cond.instanceMethod ({ cls := "NeitherBareModel", name := "luck", desc := "()I" } : Jvm.MethodName)) ∈ lw_all := lw_g (lw_at lw_m6 192 rfl) rfl
theorem q1484 : (Jvm.Cond.selects "NeitherBareModel" ({ cls := "NeitherBareModel", name := "luck", desc := "()I" } : Jvm.MethodName) ({ cls := "NeitherBareModel", name := "luck", desc := "()I" } : Jvm.MethodName)) ∈ lw_all := lw_g (lw_at lw_m6 193 rfl) rfl
theorem q1485 : (Jvm.Cond.code ({ cls := "NeitherBareModel", name := "luck", desc := "()I" } : Jvm.MethodName) prog_10_method_102_code (1 : Nat) (Option.some Jvm.ClassFile.FieldType.int)) ∈ lw_all := lw_g (lw_at lw_m6 194 rfl) rfl
theorem q1487 : (Jvm.Cond.instanceMethod ({ cls := "NeitherBareModel", name := "lots", desc := "(II)I" } : Jvm.MethodName)) ∈ lw_all := lw_g (lw_at lw_m6 196 rfl) rfl
theorem q1488 : (Jvm.Cond.selects "NeitherBareModel" ({ cls := "NeitherBareModel", name := "lots", desc := "(II)I" } : Jvm.MethodName) ({ cls := "NeitherBareModel", name := "lots", desc := "(II)I" } : Jvm.MethodName)) ∈ lw_all := lw_g (lw_at lw_m6 197 rfl) rfl
theorem q1489 : (Jvm.Cond.code ({ cls := "NeitherBareModel", name := "lots", desc := "(II)I" } : Jvm.MethodName) prog_10_method_103_code (7 : Nat) (Option.some Jvm.ClassFile.FieldType.int)) ∈ lw_all := lw_g (lw_at lw_m6 198 rfl) rfl
theorem q1490 : (Jvm.Cond.constantLong "NeitherBareModel" (290 : Nat) (40 : Int64)) ∈ lw_all := lw_g (lw_at lw_m6 199 rfl) rfl
theorem q1491 : (Jvm.Cond.constantLong "NeitherBareModel" (292 : Nat) (2147483646 : Int64)) ∈ lw_all := lw_g (lw_at lw_m6 200 rfl) rfl
theorem q1492 : (Jvm.Cond.constantLong "NeitherBareModel" (294 : Nat) (48271 : Int64)) ∈ lw_all := lw_g (lw_at lw_m6 201 rfl) rfl
theorem q1493 : (Jvm.Cond.constantLong "NeitherBareModel" (296 : Nat) (2147483647 : Int64)) ∈ lw_all := lw_g (lw_at lw_m6 202 rfl) rfl
theorem q1494 : (Jvm.Cond.constantLong "NeitherBareModel" (298 : Nat) (16 : Int64)) ∈ lw_all := lw_g (lw_at lw_m6 203 rfl) rfl
theorem q1496 : (Jvm.Cond.instanceMethod ({ cls := "NeitherBareModel", name := "asked", desc := "()I" } : Jvm.MethodName)) ∈ lw_all := lw_g (lw_at lw_m6 205 rfl) rfl
theorem q1497 : (Jvm.Cond.selects "NeitherBareModel" ({ cls := "NeitherBareModel", name := "asked", desc := "()I" } : Jvm.MethodName) ({ cls := "NeitherBareModel", name := "asked", desc := "()I" } : Jvm.MethodName)) ∈ lw_all := lw_g (lw_at lw_m6 206 rfl) rfl
theorem q1498 : (Jvm.Cond.code ({ cls := "NeitherBareModel", name := "asked", desc := "()I" } : Jvm.MethodName) prog_10_method_104_code (1 : Nat) (Option.some Jvm.ClassFile.FieldType.int)) ∈ lw_all := lw_g (lw_at lw_m6 207 rfl) rfl
theorem q1500 : (Jvm.Cond.instanceMethod ({ cls := "NeitherBareModel", name := "upper", desc := "()J" } : Jvm.MethodName)) ∈ lw_all := lw_g (lw_at lw_m6 209 rfl) rfl
theorem q1501 : (Jvm.Cond.selects "NeitherBareModel" ({ cls := "NeitherBareModel", name := "upper", desc := "()J" } : Jvm.MethodName) ({ cls := "NeitherBareModel", name := "upper", desc := "()J" } : Jvm.MethodName)) ∈ lw_all := lw_g (lw_at lw_m6 210 rfl) rfl
theorem q1502 : (Jvm.Cond.code ({ cls := "NeitherBareModel", name := "upper", desc := "()J" } : Jvm.MethodName) prog_10_method_105_code (1 : Nat) (Option.some Jvm.ClassFile.FieldType.long)) ∈ lw_all := lw_g (lw_at lw_m6 211 rfl) rfl
theorem q1504 : (Jvm.Cond.instanceMethod ({ cls := "NeitherBareModel", name := "lower", desc := "()J" } : Jvm.MethodName)) ∈ lw_all := lw_g (lw_at lw_m6 213 rfl) rfl
theorem q1505 : (Jvm.Cond.selects "NeitherBareModel" ({ cls := "NeitherBareModel", name := "lower", desc := "()J" } : Jvm.MethodName) ({ cls := "NeitherBareModel", name := "lower", desc := "()J" } : Jvm.MethodName)) ∈ lw_all := lw_g (lw_at lw_m6 214 rfl) rfl
theorem q1506 : (Jvm.Cond.code ({ cls := "NeitherBareModel", name := "lower", desc := "()J" } : Jvm.MethodName) prog_10_method_106_code (1 : Nat) (Option.some Jvm.ClassFile.FieldType.long)) ∈ lw_all := lw_g (lw_at lw_m6 215 rfl) rfl
theorem q1508 : (Jvm.Cond.instanceMethod ({ cls := "NeitherBareModel", name := "count", desc := "(I)I" } : Jvm.MethodName)) ∈ lw_all := lw_g (lw_at lw_m6 217 rfl) rfl
theorem q1509 : (Jvm.Cond.selects "NeitherBareModel" ({ cls := "NeitherBareModel", name := "count", desc := "(I)I" } : Jvm.MethodName) ({ cls := "NeitherBareModel", name := "count", desc := "(I)I" } : Jvm.MethodName)) ∈ lw_all := lw_g (lw_at lw_m6 218 rfl) rfl
theorem q1510 : (Jvm.Cond.code ({ cls := "NeitherBareModel", name := "count", desc := "(I)I" } : Jvm.MethodName) prog_10_method_110_code (2 : Nat) (Option.some Jvm.ClassFile.FieldType.int)) ∈ lw_all := lw_g (lw_at lw_m6 219 rfl) rfl
theorem q1511 : (Jvm.Cond.constantLong "NeitherBareModel" (306 : Nat) (8 : Int64)) ∈ lw_all := lw_g (lw_at lw_m6 220 rfl) rfl
theorem q1512 : (Jvm.Cond.methodLink "NeitherBareModel" (308 : Nat) ({ cls := "NeitherBareModel", name := "countOf", desc := "(I)I" } : Jvm.MethodName)) ∈ lw_all := lw_g (lw_at lw_m6 221 rfl) rfl
theorem q1513 : (Jvm.Cond.privateMethod ({ cls := "NeitherBareModel", name := "countOf", desc := "(I)I" } : Jvm.MethodName)) ∈ lw_tbl := lw_at lw_m6 222 rfl
theorem q1514 : (Jvm.Cond.instanceMethod ({ cls := "NeitherBareModel", name := "countOf", desc := "(I)I" } : Jvm.MethodName)) ∈ lw_all := lw_g (lw_at lw_m6 223 rfl) rfl
theorem q1515 : (Jvm.Cond.code ({ cls := "NeitherBareModel", name := "countOf", desc := "(I)I" } : Jvm.MethodName) prog_10_method_109_code (2 : Nat) (Option.some Jvm.ClassFile.FieldType.int)) ∈ lw_all := lw_g (lw_at lw_m6 224 rfl) rfl
theorem q1516 : (Jvm.Cond.methodLink "NeitherBareModel" (300 : Nat) ({ cls := "NeitherBareModel", name := "kindMany", desc := "(I)I" } : Jvm.MethodName)) ∈ lw_all := lw_g (lw_at lw_m6 225 rfl) rfl
theorem q1517 : (Jvm.Cond.privateMethod ({ cls := "NeitherBareModel", name := "kindMany", desc := "(I)I" } : Jvm.MethodName)) ∈ lw_tbl := lw_at lw_m6 226 rfl
theorem q1518 : (Jvm.Cond.instanceMethod ({ cls := "NeitherBareModel", name := "kindMany", desc := "(I)I" } : Jvm.MethodName)) ∈ lw_all := lw_g (lw_at lw_m6 227 rfl) rfl
theorem q1519 : (Jvm.Cond.code ({ cls := "NeitherBareModel", name := "kindMany", desc := "(I)I" } : Jvm.MethodName) prog_10_method_107_code (4 : Nat) (Option.some Jvm.ClassFile.FieldType.int)) ∈ lw_all := lw_g (lw_at lw_m6 228 rfl) rfl
theorem q1520 : (Jvm.Cond.methodLink "NeitherBareModel" (303 : Nat) ({ cls := "NeitherBareModel", name := "thereOf", desc := "(I)I" } : Jvm.MethodName)) ∈ lw_all := lw_g (lw_at lw_m6 229 rfl) rfl
theorem q1521 : (Jvm.Cond.privateMethod ({ cls := "NeitherBareModel", name := "thereOf", desc := "(I)I" } : Jvm.MethodName)) ∈ lw_tbl := lw_at lw_m6 230 rfl
theorem q1522 : (Jvm.Cond.instanceMethod ({ cls := "NeitherBareModel", name := "thereOf", desc := "(I)I" } : Jvm.MethodName)) ∈ lw_all := lw_g (lw_at lw_m6 231 rfl) rfl
theorem q1523 : (Jvm.Cond.code ({ cls := "NeitherBareModel", name := "thereOf", desc := "(I)I" } : Jvm.MethodName) prog_10_method_108_code (4 : Nat) (Option.some Jvm.ClassFile.FieldType.int)) ∈ lw_all := lw_g (lw_at lw_m6 232 rfl) rfl
theorem q1525 : (Jvm.Cond.instanceMethod ({ cls := "NeitherBareModel", name := "finding", desc := "()I" } : Jvm.MethodName)) ∈ lw_all := lw_g (lw_at lw_m6 234 rfl) rfl
theorem q1526 : (Jvm.Cond.selects "NeitherBareModel" ({ cls := "NeitherBareModel", name := "finding", desc := "()I" } : Jvm.MethodName) ({ cls := "NeitherBareModel", name := "finding", desc := "()I" } : Jvm.MethodName)) ∈ lw_all := lw_g (lw_at lw_m6 235 rfl) rfl
theorem q1527 : (Jvm.Cond.code ({ cls := "NeitherBareModel", name := "finding", desc := "()I" } : Jvm.MethodName) prog_10_method_111_code (1 : Nat) (Option.some Jvm.ClassFile.FieldType.int)) ∈ lw_all := lw_g (lw_at lw_m6 236 rfl) rfl
theorem q1529 : (Jvm.Cond.instanceMethod ({ cls := "NeitherBareModel", name := "findings", desc := "(I)I" } : Jvm.MethodName)) ∈ lw_all := lw_g (lw_at lw_m6 238 rfl) rfl
theorem q1530 : (Jvm.Cond.selects "NeitherBareModel" ({ cls := "NeitherBareModel", name := "findings", desc := "(I)I" } : Jvm.MethodName) ({ cls := "NeitherBareModel", name := "findings", desc := "(I)I" } : Jvm.MethodName)) ∈ lw_all := lw_g (lw_at lw_m6 239 rfl) rfl
theorem q1531 : (Jvm.Cond.code ({ cls := "NeitherBareModel", name := "findings", desc := "(I)I" } : Jvm.MethodName) prog_10_method_112_code (2 : Nat) (Option.some Jvm.ClassFile.FieldType.int)) ∈ lw_all := lw_g (lw_at lw_m7 0 rfl) rfl
theorem q1533 : (Jvm.Cond.instanceMethod ({ cls := "NeitherBareModel", name := "digest", desc := "()J" } : Jvm.MethodName)) ∈ lw_all := lw_g (lw_at lw_m7 2 rfl) rfl
theorem q1534 : (Jvm.Cond.selects "NeitherBareModel" ({ cls := "NeitherBareModel", name := "digest", desc := "()J" } : Jvm.MethodName) ({ cls := "NeitherBareModel", name := "digest", desc := "()J" } : Jvm.MethodName)) ∈ lw_all := lw_g (lw_at lw_m7 3 rfl) rfl
theorem q1535 : (Jvm.Cond.code ({ cls := "NeitherBareModel", name := "digest", desc := "()J" } : Jvm.MethodName) prog_10_method_113_code (5 : Nat) (Option.some Jvm.ClassFile.FieldType.long)) ∈ lw_all := lw_g (lw_at lw_m7 4 rfl) rfl
theorem q1536 : (Jvm.Cond.constantLong "NeitherBareModel" (311 : Nat) (17 : Int64)) ∈ lw_all := lw_g (lw_at lw_m7 5 rfl) rfl
theorem q1537 : (Jvm.Cond.constantLong "NeitherBareModel" (313 : Nat) (31 : Int64)) ∈ lw_all := lw_g (lw_at lw_m7 6 rfl) rfl
theorem in_X1 : ∀ w ∈ wsX10, w ∈ lw_all := lw_in wsX10 [1036, 1038, 1040, 1042, 1044, 1046, 1048, 1050, 1052, 1054, 1056, 1058, 1060, 1062, 1064, 1066, 1068, 1070, 1072, 1074, 1076, 1078, 1080, 1082, 1084] (by decide +kernel) (by decide +kernel)
