/-! LosersBooks -/
set_option maxRecDepth 100000
def RX1 : String := "LosersBooks"
def TX1 : u_T := fun k => match k with
  | 0 => ("LosersBooks", "fault", "LLosersBooks$Fault;", true)
  | 1 => ("LosersBooks", "tape", "[B", true)
  | 2 => ("LosersBooks", "taped", "I", false)
  | 3 => ("LosersBooks", "place", "I", false)
  | 4 => ("LosersBooks", "deep", "I", false)
  | 5 => ("LosersBooks", "letters", "[I", true)
  | 6 => ("LosersBooks", "readRule", "[I", true)
  | 7 => ("LosersBooks", "readKingdom", "[I", true)
  | 8 => ("LosersBooks", "readField", "[I", true)
  | 9 => ("LosersBooks", "rules", "[I", true)
  | 10 => ("LosersBooks", "fields", "[I", true)
  | 11 => ("LosersBooks", "readKingdoms", "I", false)
  | 12 => ("LosersBooks", "readFields", "I", false)
  | 13 => ("LosersBooks", "kingdomMany", "I", false)
  | 14 => ("LosersBooks", "fieldMany", "I", false)
  | 15 => ("LosersBooks", "campaigns", "[I", true)
  | 16 => ("LosersBooks", "campaignLong", "[I", true)
  | 17 => ("LosersBooks", "campaignMany", "I", false)
  | 18 => ("LosersBooks", "laws", "[LLosersBooks$Clause;", true)
  | 19 => ("LosersBooks", "lawMany", "I", false)
  | 20 => ("LosersBooks", "holding", "I", false)
  | 21 => ("LosersBooks", "intrigues", "I", false)
  | 22 => ("LosersBooks", "now", "[I", true)
  | 23 => ("LosersBooks", "kept", "[I", true)
  | 24 => ("LosersBooks", "acts", "I", false)
  | 25 => ("LosersBooks", "draws", "J", false)
  | 26 => ("LosersBooks", "aside", "[I", true)
  | 27 => ("LosersBooks", "noteKingdom", "[I", true)
  | 28 => ("LosersBooks", "noteField", "[I", true)
  | 29 => ("LosersBooks", "noteMany", "[I", true)
  | 30 => ("LosersBooks", "biasOf", "[I", true)
  | 31 => ("LosersBooks", "noted", "I", false)
  | 32 => ("LosersBooks", "tells", "[I", true)
  | 33 => ("LosersBooks", "image", "[I", true)
  | _ => ("LosersBooks", "hasImage", "Z", false)
def tyX1 : Nat → FieldType := fun k => match k with
  | 0 => .object "LosersBooks$Fault"
  | 1 => .array .byte
  | 2 => .int
  | 3 => .int
  | 4 => .int
  | 5 => .array .int
  | 6 => .array .int
  | 7 => .array .int
  | 8 => .array .int
  | 9 => .array .int
  | 10 => .array .int
  | 11 => .int
  | 12 => .int
  | 13 => .int
  | 14 => .int
  | 15 => .array .int
  | 16 => .array .int
  | 17 => .int
  | 18 => .array (.object "LosersBooks$Clause")
  | 19 => .int
  | 20 => .int
  | 21 => .int
  | 22 => .array .int
  | 23 => .array .int
  | 24 => .int
  | 25 => .long
  | 26 => .array .int
  | 27 => .array .int
  | 28 => .array .int
  | 29 => .array .int
  | 30 => .array .int
  | 31 => .int
  | 32 => .array .int
  | 33 => .array .int
  | _ => .boolean
abbrev wsX10 : List Cond := u_ws RX1 TX1 35
set_option maxRecDepth 100000 in
theorem nmX1 : ∀ a, a < 35 → ∀ b, b < 35 → a ≠ b → (TX1 a).2.1 ≠ (TX1 b).2.1 := by decide +kernel
set_option maxRecDepth 100000 in
theorem tyX1_ok : ∀ k, k < 35 → parseFieldDescriptor (TX1 k).2.2.1 = some (tyX1 k) := by decide +kernel
abbrev cX1_init : ByteArray := prog_1_method_3_code
def yX1_init : MethodName := ⟨RX1, "<init>", "()V"⟩
def dkwX1_init_7 : List UInt8 := [181, 0, 79, 42, 17, 1, 35, 188, 10, 181, 0, 82, 177]
abbrev dktX1_init_7 : List UInt8 := dkwX1_init_7 ++ []
def dkwX1_init_6 : List UInt8 := [181, 0, 70, 42, 16, 10, 188, 10, 181, 0, 73, 42, 7, 188, 10, 181, 0, 76, 42, 16, 120, 188, 10]
abbrev dktX1_init_6 : List UInt8 := dkwX1_init_6 ++ dktX1_init_7
def dkwX1_init_5 : List UInt8 := [181, 0, 61, 42, 16, 110, 188, 10, 181, 0, 64, 42, 16, 10, 188, 10, 181, 0, 67, 42, 16, 10, 188, 10]
abbrev dktX1_init_5 : List UInt8 := dkwX1_init_5 ++ dktX1_init_6
def dkwX1_init_4 : List UInt8 := [2, 181, 0, 51, 42, 5, 181, 0, 55, 42, 17, 1, 35, 188, 10, 181, 0, 58, 42, 17, 45, 120, 188, 10]
abbrev dktX1_init_4 : List UInt8 := dkwX1_init_4 ++ dktX1_init_5
def dkwX1_init_3 : List UInt8 := [17, 0, 160, 188, 10, 181, 0, 39, 42, 8, 188, 10, 181, 0, 42, 42, 7, 189, 0, 45, 181, 0, 47, 42]
abbrev dktX1_init_3 : List UInt8 := dkwX1_init_3 ++ dktX1_init_4
def dkwX1_init_2 : List UInt8 := [42, 16, 32, 188, 10, 181, 0, 30, 42, 5, 188, 10, 181, 0, 33, 42, 16, 32, 188, 10, 181, 0, 36, 42]
abbrev dktX1_init_2 : List UInt8 := dkwX1_init_2 ++ dktX1_init_3
def dkwX1_init_1 : List UInt8 := [42, 17, 0, 128, 188, 10, 181, 0, 20, 42, 5, 188, 10, 181, 0, 24, 42, 16, 12, 188, 10, 181, 0, 27]
abbrev dktX1_init_1 : List UInt8 := dkwX1_init_1 ++ dktX1_init_2
def dkwX1_init_0 : List UInt8 := [42, 183, 0, 3, 42, 187, 0, 9, 89, 183, 0, 11, 181, 0, 12, 42, 17, 0, 240, 188, 8, 181, 0, 16]
abbrev dktX1_init_0 : List UInt8 := dkwX1_init_0 ++ dktX1_init_1
theorem dksX1_init_0 : cX1_init.data.toList.drop 0 = dktX1_init_0 := by decide +kernel
theorem dksX1_init_1 : cX1_init.data.toList.drop 24 = dktX1_init_1 := dk_seg dksX1_init_0 24 rfl rfl
theorem dksX1_init_2 : cX1_init.data.toList.drop 48 = dktX1_init_2 := dk_seg dksX1_init_1 24 rfl rfl
theorem dksX1_init_3 : cX1_init.data.toList.drop 72 = dktX1_init_3 := dk_seg dksX1_init_2 24 rfl rfl
theorem dksX1_init_4 : cX1_init.data.toList.drop 96 = dktX1_init_4 := dk_seg dksX1_init_3 24 rfl rfl
theorem dksX1_init_5 : cX1_init.data.toList.drop 120 = dktX1_init_5 := dk_seg dksX1_init_4 24 rfl rfl
theorem dksX1_init_6 : cX1_init.data.toList.drop 144 = dktX1_init_6 := dk_seg dksX1_init_5 24 rfl rfl
theorem dksX1_init_7 : cX1_init.data.toList.drop 167 = dktX1_init_7 := dk_seg dksX1_init_6 23 rfl rfl
theorem dX1_init_0 : decode cX1_init 0 = .ok (.aload_n 0, 1) := dk_42 (dk_at dksX1_init_0 0 rfl rfl)
theorem dX1_init_1 : decode cX1_init 1 = .ok (.invokespecial 3, 3) := dk_183 0 3 (dk_at dksX1_init_0 1 rfl rfl)
theorem dX1_init_4 : decode cX1_init 4 = .ok (.aload_n 0, 1) := dk_42 (dk_at dksX1_init_0 4 rfl rfl)
theorem dX1_init_5 : decode cX1_init 5 = .ok (.new 9, 3) := dk_187 0 9 (dk_at dksX1_init_0 5 rfl rfl)
theorem dX1_init_8 : decode cX1_init 8 = .ok (.dup, 1) := dk_89 (dk_at dksX1_init_0 8 rfl rfl)
theorem dX1_init_9 : decode cX1_init 9 = .ok (.invokespecial 11, 3) := dk_183 0 11 (dk_at dksX1_init_0 9 rfl rfl)
theorem dX1_init_12 : decode cX1_init 12 = .ok (.putfield 12, 3) := dk_181 0 12 (dk_at dksX1_init_0 12 rfl rfl)
theorem dX1_init_15 : decode cX1_init 15 = .ok (.aload_n 0, 1) := dk_42 (dk_at dksX1_init_0 15 rfl rfl)
theorem dX1_init_16 : decode cX1_init 16 = .ok (.sipush 240, 3) := dk_17 0 240 (dk_at dksX1_init_0 16 rfl rfl)
theorem dX1_init_19 : decode cX1_init 19 = .ok (.newarray .byte, 2) := dk_188_8 (dk_at dksX1_init_0 19 rfl rfl)
theorem dX1_init_21 : decode cX1_init 21 = .ok (.putfield 16, 3) := dk_181 0 16 (dk_at dksX1_init_0 21 rfl rfl)
theorem dX1_init_24 : decode cX1_init 24 = .ok (.aload_n 0, 1) := dk_42 (dk_at dksX1_init_1 0 rfl rfl)
theorem dX1_init_25 : decode cX1_init 25 = .ok (.sipush 128, 3) := dk_17 0 128 (dk_at dksX1_init_1 1 rfl rfl)
theorem dX1_init_28 : decode cX1_init 28 = .ok (.newarray .int, 2) := dk_188_10 (dk_at dksX1_init_1 4 rfl rfl)
theorem dX1_init_30 : decode cX1_init 30 = .ok (.putfield 20, 3) := dk_181 0 20 (dk_at dksX1_init_1 6 rfl rfl)
theorem dX1_init_33 : decode cX1_init 33 = .ok (.aload_n 0, 1) := dk_42 (dk_at dksX1_init_1 9 rfl rfl)
theorem dX1_init_34 : decode cX1_init 34 = .ok (.iconst 2, 1) := dk_5 (dk_at dksX1_init_1 10 rfl rfl)
theorem dX1_init_35 : decode cX1_init 35 = .ok (.newarray .int, 2) := dk_188_10 (dk_at dksX1_init_1 11 rfl rfl)
theorem dX1_init_37 : decode cX1_init 37 = .ok (.putfield 24, 3) := dk_181 0 24 (dk_at dksX1_init_1 13 rfl rfl)
theorem dX1_init_40 : decode cX1_init 40 = .ok (.aload_n 0, 1) := dk_42 (dk_at dksX1_init_1 16 rfl rfl)
theorem dX1_init_41 : decode cX1_init 41 = .ok (.bipush 12, 2) := dk_16 12 (dk_at dksX1_init_1 17 rfl rfl)
theorem dX1_init_43 : decode cX1_init 43 = .ok (.newarray .int, 2) := dk_188_10 (dk_at dksX1_init_1 19 rfl rfl)
theorem dX1_init_45 : decode cX1_init 45 = .ok (.putfield 27, 3) := dk_181 0 27 (dk_at dksX1_init_1 21 rfl rfl)
theorem dX1_init_48 : decode cX1_init 48 = .ok (.aload_n 0, 1) := dk_42 (dk_at dksX1_init_2 0 rfl rfl)
theorem dX1_init_49 : decode cX1_init 49 = .ok (.bipush 32, 2) := dk_16 32 (dk_at dksX1_init_2 1 rfl rfl)
theorem dX1_init_51 : decode cX1_init 51 = .ok (.newarray .int, 2) := dk_188_10 (dk_at dksX1_init_2 3 rfl rfl)
theorem dX1_init_53 : decode cX1_init 53 = .ok (.putfield 30, 3) := dk_181 0 30 (dk_at dksX1_init_2 5 rfl rfl)
theorem dX1_init_56 : decode cX1_init 56 = .ok (.aload_n 0, 1) := dk_42 (dk_at dksX1_init_2 8 rfl rfl)
theorem dX1_init_57 : decode cX1_init 57 = .ok (.iconst 2, 1) := dk_5 (dk_at dksX1_init_2 9 rfl rfl)
theorem dX1_init_58 : decode cX1_init 58 = .ok (.newarray .int, 2) := dk_188_10 (dk_at dksX1_init_2 10 rfl rfl)
theorem dX1_init_60 : decode cX1_init 60 = .ok (.putfield 33, 3) := dk_181 0 33 (dk_at dksX1_init_2 12 rfl rfl)
theorem dX1_init_63 : decode cX1_init 63 = .ok (.aload_n 0, 1) := dk_42 (dk_at dksX1_init_2 15 rfl rfl)
theorem dX1_init_64 : decode cX1_init 64 = .ok (.bipush 32, 2) := dk_16 32 (dk_at dksX1_init_2 16 rfl rfl)
theorem dX1_init_66 : decode cX1_init 66 = .ok (.newarray .int, 2) := dk_188_10 (dk_at dksX1_init_2 18 rfl rfl)
theorem dX1_init_68 : decode cX1_init 68 = .ok (.putfield 36, 3) := dk_181 0 36 (dk_at dksX1_init_2 20 rfl rfl)
theorem dX1_init_71 : decode cX1_init 71 = .ok (.aload_n 0, 1) := dk_42 (dk_at dksX1_init_2 23 rfl rfl)
theorem dX1_init_72 : decode cX1_init 72 = .ok (.sipush 160, 3) := dk_17 0 160 (dk_at dksX1_init_3 0 rfl rfl)
theorem dX1_init_75 : decode cX1_init 75 = .ok (.newarray .int, 2) := dk_188_10 (dk_at dksX1_init_3 3 rfl rfl)
theorem dX1_init_77 : decode cX1_init 77 = .ok (.putfield 39, 3) := dk_181 0 39 (dk_at dksX1_init_3 5 rfl rfl)
theorem dX1_init_80 : decode cX1_init 80 = .ok (.aload_n 0, 1) := dk_42 (dk_at dksX1_init_3 8 rfl rfl)
theorem dX1_init_81 : decode cX1_init 81 = .ok (.iconst 5, 1) := dk_8 (dk_at dksX1_init_3 9 rfl rfl)
theorem dX1_init_82 : decode cX1_init 82 = .ok (.newarray .int, 2) := dk_188_10 (dk_at dksX1_init_3 10 rfl rfl)
theorem dX1_init_84 : decode cX1_init 84 = .ok (.putfield 42, 3) := dk_181 0 42 (dk_at dksX1_init_3 12 rfl rfl)
theorem dX1_init_87 : decode cX1_init 87 = .ok (.aload_n 0, 1) := dk_42 (dk_at dksX1_init_3 15 rfl rfl)
theorem dX1_init_88 : decode cX1_init 88 = .ok (.iconst 4, 1) := dk_7 (dk_at dksX1_init_3 16 rfl rfl)
theorem dX1_init_89 : decode cX1_init 89 = .ok (.anewarray 45, 3) := dk_189 0 45 (dk_at dksX1_init_3 17 rfl rfl)
theorem dX1_init_92 : decode cX1_init 92 = .ok (.putfield 47, 3) := dk_181 0 47 (dk_at dksX1_init_3 20 rfl rfl)
theorem dX1_init_95 : decode cX1_init 95 = .ok (.aload_n 0, 1) := dk_42 (dk_at dksX1_init_3 23 rfl rfl)
theorem dX1_init_96 : decode cX1_init 96 = .ok (.iconst (-1), 1) := dk_2 (dk_at dksX1_init_4 0 rfl rfl)
theorem dX1_init_97 : decode cX1_init 97 = .ok (.putfield 51, 3) := dk_181 0 51 (dk_at dksX1_init_4 1 rfl rfl)
theorem dX1_init_100 : decode cX1_init 100 = .ok (.aload_n 0, 1) := dk_42 (dk_at dksX1_init_4 4 rfl rfl)
theorem dX1_init_101 : decode cX1_init 101 = .ok (.iconst 2, 1) := dk_5 (dk_at dksX1_init_4 5 rfl rfl)
theorem dX1_init_102 : decode cX1_init 102 = .ok (.putfield 55, 3) := dk_181 0 55 (dk_at dksX1_init_4 6 rfl rfl)
theorem dX1_init_105 : decode cX1_init 105 = .ok (.aload_n 0, 1) := dk_42 (dk_at dksX1_init_4 9 rfl rfl)
theorem dX1_init_106 : decode cX1_init 106 = .ok (.sipush 291, 3) := dk_17 1 35 (dk_at dksX1_init_4 10 rfl rfl)
theorem dX1_init_109 : decode cX1_init 109 = .ok (.newarray .int, 2) := dk_188_10 (dk_at dksX1_init_4 13 rfl rfl)
theorem dX1_init_111 : decode cX1_init 111 = .ok (.putfield 58, 3) := dk_181 0 58 (dk_at dksX1_init_4 15 rfl rfl)
theorem dX1_init_114 : decode cX1_init 114 = .ok (.aload_n 0, 1) := dk_42 (dk_at dksX1_init_4 18 rfl rfl)
theorem dX1_init_115 : decode cX1_init 115 = .ok (.sipush 11640, 3) := dk_17 45 120 (dk_at dksX1_init_4 19 rfl rfl)
theorem dX1_init_118 : decode cX1_init 118 = .ok (.newarray .int, 2) := dk_188_10 (dk_at dksX1_init_4 22 rfl rfl)
theorem dX1_init_120 : decode cX1_init 120 = .ok (.putfield 61, 3) := dk_181 0 61 (dk_at dksX1_init_5 0 rfl rfl)
theorem dX1_init_123 : decode cX1_init 123 = .ok (.aload_n 0, 1) := dk_42 (dk_at dksX1_init_5 3 rfl rfl)
theorem dX1_init_124 : decode cX1_init 124 = .ok (.bipush 110, 2) := dk_16 110 (dk_at dksX1_init_5 4 rfl rfl)
theorem dX1_init_126 : decode cX1_init 126 = .ok (.newarray .int, 2) := dk_188_10 (dk_at dksX1_init_5 6 rfl rfl)
theorem dX1_init_128 : decode cX1_init 128 = .ok (.putfield 64, 3) := dk_181 0 64 (dk_at dksX1_init_5 8 rfl rfl)
theorem dX1_init_131 : decode cX1_init 131 = .ok (.aload_n 0, 1) := dk_42 (dk_at dksX1_init_5 11 rfl rfl)
theorem dX1_init_132 : decode cX1_init 132 = .ok (.bipush 10, 2) := dk_16 10 (dk_at dksX1_init_5 12 rfl rfl)
theorem dX1_init_134 : decode cX1_init 134 = .ok (.newarray .int, 2) := dk_188_10 (dk_at dksX1_init_5 14 rfl rfl)
theorem dX1_init_136 : decode cX1_init 136 = .ok (.putfield 67, 3) := dk_181 0 67 (dk_at dksX1_init_5 16 rfl rfl)
theorem dX1_init_139 : decode cX1_init 139 = .ok (.aload_n 0, 1) := dk_42 (dk_at dksX1_init_5 19 rfl rfl)
theorem dX1_init_140 : decode cX1_init 140 = .ok (.bipush 10, 2) := dk_16 10 (dk_at dksX1_init_5 20 rfl rfl)
theorem dX1_init_142 : decode cX1_init 142 = .ok (.newarray .int, 2) := dk_188_10 (dk_at dksX1_init_5 22 rfl rfl)
theorem dX1_init_144 : decode cX1_init 144 = .ok (.putfield 70, 3) := dk_181 0 70 (dk_at dksX1_init_6 0 rfl rfl)
theorem dX1_init_147 : decode cX1_init 147 = .ok (.aload_n 0, 1) := dk_42 (dk_at dksX1_init_6 3 rfl rfl)
theorem dX1_init_148 : decode cX1_init 148 = .ok (.bipush 10, 2) := dk_16 10 (dk_at dksX1_init_6 4 rfl rfl)
theorem dX1_init_150 : decode cX1_init 150 = .ok (.newarray .int, 2) := dk_188_10 (dk_at dksX1_init_6 6 rfl rfl)
theorem dX1_init_152 : decode cX1_init 152 = .ok (.putfield 73, 3) := dk_181 0 73 (dk_at dksX1_init_6 8 rfl rfl)
theorem dX1_init_155 : decode cX1_init 155 = .ok (.aload_n 0, 1) := dk_42 (dk_at dksX1_init_6 11 rfl rfl)
theorem dX1_init_156 : decode cX1_init 156 = .ok (.iconst 4, 1) := dk_7 (dk_at dksX1_init_6 12 rfl rfl)
theorem dX1_init_157 : decode cX1_init 157 = .ok (.newarray .int, 2) := dk_188_10 (dk_at dksX1_init_6 13 rfl rfl)
theorem dX1_init_159 : decode cX1_init 159 = .ok (.putfield 76, 3) := dk_181 0 76 (dk_at dksX1_init_6 15 rfl rfl)
theorem dX1_init_162 : decode cX1_init 162 = .ok (.aload_n 0, 1) := dk_42 (dk_at dksX1_init_6 18 rfl rfl)
theorem dX1_init_163 : decode cX1_init 163 = .ok (.bipush 120, 2) := dk_16 120 (dk_at dksX1_init_6 19 rfl rfl)
theorem dX1_init_165 : decode cX1_init 165 = .ok (.newarray .int, 2) := dk_188_10 (dk_at dksX1_init_6 21 rfl rfl)
theorem dX1_init_167 : decode cX1_init 167 = .ok (.putfield 79, 3) := dk_181 0 79 (dk_at dksX1_init_7 0 rfl rfl)
theorem dX1_init_170 : decode cX1_init 170 = .ok (.aload_n 0, 1) := dk_42 (dk_at dksX1_init_7 3 rfl rfl)
theorem dX1_init_171 : decode cX1_init 171 = .ok (.sipush 291, 3) := dk_17 1 35 (dk_at dksX1_init_7 4 rfl rfl)
theorem dX1_init_174 : decode cX1_init 174 = .ok (.newarray .int, 2) := dk_188_10 (dk_at dksX1_init_7 7 rfl rfl)
theorem dX1_init_176 : decode cX1_init 176 = .ok (.putfield 82, 3) := dk_181 0 82 (dk_at dksX1_init_7 9 rfl rfl)
theorem dX1_init_179 : decode cX1_init 179 = .ok (.return_, 1) := dk_177 (dk_at dksX1_init_7 12 rfl rfl)
abbrev cX1_feed : ByteArray := prog_1_method_5_code
def yX1_feed : MethodName := ⟨RX1, "feed", "(IIIII)I"⟩
def dkwX1_feed_4 : List UInt8 := [4, 96, 181, 0, 89, 21, 8, 145, 84, 132, 7, 1, 167, 255, 208, 42, 180, 0, 89, 172]
abbrev dktX1_feed_4 : List UInt8 := dkwX1_feed_4 ++ []
def dkwX1_feed_3 : List UInt8 := [21, 5, 21, 7, 184, 0, 85, 54, 8, 21, 8, 153, 0, 22, 42, 180, 0, 16, 42, 89, 180, 0, 89, 90]
abbrev dktX1_feed_3 : List UInt8 := dkwX1_feed_3 ++ dktX1_feed_4
def dkwX1_feed_2 : List UInt8 := [17, 0, 240, 164, 0, 5, 2, 172, 3, 54, 7, 21, 7, 16, 20, 162, 0, 47, 27, 28, 29, 21, 4]
abbrev dktX1_feed_2 : List UInt8 := dkwX1_feed_2 ++ dktX1_feed_3
def dkwX1_feed_1 : List UInt8 := [184, 0, 85, 153, 0, 6, 132, 6, 1, 132, 7, 1, 167, 255, 228, 42, 180, 0, 89, 21, 6, 96]
abbrev dktX1_feed_1 : List UInt8 := dkwX1_feed_1 ++ dktX1_feed_2
def dkwX1_feed_0 : List UInt8 := [3, 54, 6, 3, 54, 7, 21, 7, 16, 20, 162, 0, 27, 27, 28, 29, 21, 4, 21, 5, 21, 7]
abbrev dktX1_feed_0 : List UInt8 := dkwX1_feed_0 ++ dktX1_feed_1
theorem dksX1_feed_0 : cX1_feed.data.toList.drop 0 = dktX1_feed_0 := by decide +kernel
theorem dksX1_feed_1 : cX1_feed.data.toList.drop 22 = dktX1_feed_1 := dk_seg dksX1_feed_0 22 rfl rfl
theorem dksX1_feed_2 : cX1_feed.data.toList.drop 44 = dktX1_feed_2 := dk_seg dksX1_feed_1 22 rfl rfl
theorem dksX1_feed_3 : cX1_feed.data.toList.drop 67 = dktX1_feed_3 := dk_seg dksX1_feed_2 23 rfl rfl
theorem dksX1_feed_4 : cX1_feed.data.toList.drop 91 = dktX1_feed_4 := dk_seg dksX1_feed_3 24 rfl rfl
theorem dX1_feed_0 : decode cX1_feed 0 = .ok (.iconst 0, 1) := dk_3 (dk_at dksX1_feed_0 0 rfl rfl)
theorem dX1_feed_1 : decode cX1_feed 1 = .ok (.istore 6, 2) := dk_54 6 (dk_at dksX1_feed_0 1 rfl rfl)
theorem dX1_feed_3 : decode cX1_feed 3 = .ok (.iconst 0, 1) := dk_3 (dk_at dksX1_feed_0 3 rfl rfl)
theorem dX1_feed_4 : decode cX1_feed 4 = .ok (.istore 7, 2) := dk_54 7 (dk_at dksX1_feed_0 4 rfl rfl)
theorem dX1_feed_6 : decode cX1_feed 6 = .ok (.iload 7, 2) := dk_21 7 (dk_at dksX1_feed_0 6 rfl rfl)
theorem dX1_feed_8 : decode cX1_feed 8 = .ok (.bipush 20, 2) := dk_16 20 (dk_at dksX1_feed_0 8 rfl rfl)
theorem dX1_feed_10 : decode cX1_feed 10 = .ok (.if_icmp .ge 27, 3) := dk_162 0 27 (dk_at dksX1_feed_0 10 rfl rfl)
theorem dX1_feed_13 : decode cX1_feed 13 = .ok (.iload_n 1, 1) := dk_27 (dk_at dksX1_feed_0 13 rfl rfl)
theorem dX1_feed_14 : decode cX1_feed 14 = .ok (.iload_n 2, 1) := dk_28 (dk_at dksX1_feed_0 14 rfl rfl)
theorem dX1_feed_15 : decode cX1_feed 15 = .ok (.iload_n 3, 1) := dk_29 (dk_at dksX1_feed_0 15 rfl rfl)
theorem dX1_feed_16 : decode cX1_feed 16 = .ok (.iload 4, 2) := dk_21 4 (dk_at dksX1_feed_0 16 rfl rfl)
theorem dX1_feed_18 : decode cX1_feed 18 = .ok (.iload 5, 2) := dk_21 5 (dk_at dksX1_feed_0 18 rfl rfl)
theorem dX1_feed_20 : decode cX1_feed 20 = .ok (.iload 7, 2) := dk_21 7 (dk_at dksX1_feed_0 20 rfl rfl)
theorem dX1_feed_22 : decode cX1_feed 22 = .ok (.invokestatic 85, 3) := dk_184 0 85 (dk_at dksX1_feed_1 0 rfl rfl)
theorem dX1_feed_25 : decode cX1_feed 25 = .ok (.ifCond .eq 6, 3) := dk_153 0 6 (dk_at dksX1_feed_1 3 rfl rfl)
theorem dX1_feed_28 : decode cX1_feed 28 = .ok (.iinc 6 1, 3) := dk_132 6 1 (dk_at dksX1_feed_1 6 rfl rfl)
theorem dX1_feed_31 : decode cX1_feed 31 = .ok (.iinc 7 1, 3) := dk_132 7 1 (dk_at dksX1_feed_1 9 rfl rfl)
theorem dX1_feed_34 : decode cX1_feed 34 = .ok (.goto (-28), 3) := dk_167 255 228 (dk_at dksX1_feed_1 12 rfl rfl)
theorem dX1_feed_37 : decode cX1_feed 37 = .ok (.aload_n 0, 1) := dk_42 (dk_at dksX1_feed_1 15 rfl rfl)
theorem dX1_feed_38 : decode cX1_feed 38 = .ok (.getfield 89, 3) := dk_180 0 89 (dk_at dksX1_feed_1 16 rfl rfl)
theorem dX1_feed_41 : decode cX1_feed 41 = .ok (.iload 6, 2) := dk_21 6 (dk_at dksX1_feed_1 19 rfl rfl)
theorem dX1_feed_43 : decode cX1_feed 43 = .ok (.iadd, 1) := dk_96 (dk_at dksX1_feed_1 21 rfl rfl)
theorem dX1_feed_44 : decode cX1_feed 44 = .ok (.sipush 240, 3) := dk_17 0 240 (dk_at dksX1_feed_2 0 rfl rfl)
theorem dX1_feed_47 : decode cX1_feed 47 = .ok (.if_icmp .le 5, 3) := dk_164 0 5 (dk_at dksX1_feed_2 3 rfl rfl)
theorem dX1_feed_50 : decode cX1_feed 50 = .ok (.iconst (-1), 1) := dk_2 (dk_at dksX1_feed_2 6 rfl rfl)
theorem dX1_feed_51 : decode cX1_feed 51 = .ok (.ireturn, 1) := dk_172 (dk_at dksX1_feed_2 7 rfl rfl)
theorem dX1_feed_52 : decode cX1_feed 52 = .ok (.iconst 0, 1) := dk_3 (dk_at dksX1_feed_2 8 rfl rfl)
theorem dX1_feed_53 : decode cX1_feed 53 = .ok (.istore 7, 2) := dk_54 7 (dk_at dksX1_feed_2 9 rfl rfl)
theorem dX1_feed_55 : decode cX1_feed 55 = .ok (.iload 7, 2) := dk_21 7 (dk_at dksX1_feed_2 11 rfl rfl)
theorem dX1_feed_57 : decode cX1_feed 57 = .ok (.bipush 20, 2) := dk_16 20 (dk_at dksX1_feed_2 13 rfl rfl)
theorem dX1_feed_59 : decode cX1_feed 59 = .ok (.if_icmp .ge 47, 3) := dk_162 0 47 (dk_at dksX1_feed_2 15 rfl rfl)
theorem dX1_feed_62 : decode cX1_feed 62 = .ok (.iload_n 1, 1) := dk_27 (dk_at dksX1_feed_2 18 rfl rfl)
theorem dX1_feed_63 : decode cX1_feed 63 = .ok (.iload_n 2, 1) := dk_28 (dk_at dksX1_feed_2 19 rfl rfl)
theorem dX1_feed_64 : decode cX1_feed 64 = .ok (.iload_n 3, 1) := dk_29 (dk_at dksX1_feed_2 20 rfl rfl)
theorem dX1_feed_65 : decode cX1_feed 65 = .ok (.iload 4, 2) := dk_21 4 (dk_at dksX1_feed_2 21 rfl rfl)
theorem dX1_feed_67 : decode cX1_feed 67 = .ok (.iload 5, 2) := dk_21 5 (dk_at dksX1_feed_3 0 rfl rfl)
theorem dX1_feed_69 : decode cX1_feed 69 = .ok (.iload 7, 2) := dk_21 7 (dk_at dksX1_feed_3 2 rfl rfl)
theorem dX1_feed_71 : decode cX1_feed 71 = .ok (.invokestatic 85, 3) := dk_184 0 85 (dk_at dksX1_feed_3 4 rfl rfl)
theorem dX1_feed_74 : decode cX1_feed 74 = .ok (.istore 8, 2) := dk_54 8 (dk_at dksX1_feed_3 7 rfl rfl)
theorem dX1_feed_76 : decode cX1_feed 76 = .ok (.iload 8, 2) := dk_21 8 (dk_at dksX1_feed_3 9 rfl rfl)
theorem dX1_feed_78 : decode cX1_feed 78 = .ok (.ifCond .eq 22, 3) := dk_153 0 22 (dk_at dksX1_feed_3 11 rfl rfl)
theorem dX1_feed_81 : decode cX1_feed 81 = .ok (.aload_n 0, 1) := dk_42 (dk_at dksX1_feed_3 14 rfl rfl)
theorem dX1_feed_82 : decode cX1_feed 82 = .ok (.getfield 16, 3) := dk_180 0 16 (dk_at dksX1_feed_3 15 rfl rfl)
theorem dX1_feed_85 : decode cX1_feed 85 = .ok (.aload_n 0, 1) := dk_42 (dk_at dksX1_feed_3 18 rfl rfl)
theorem dX1_feed_86 : decode cX1_feed 86 = .ok (.dup, 1) := dk_89 (dk_at dksX1_feed_3 19 rfl rfl)
theorem dX1_feed_87 : decode cX1_feed 87 = .ok (.getfield 89, 3) := dk_180 0 89 (dk_at dksX1_feed_3 20 rfl rfl)
theorem dX1_feed_90 : decode cX1_feed 90 = .ok (.dup_x1, 1) := dk_90 (dk_at dksX1_feed_3 23 rfl rfl)
theorem dX1_feed_91 : decode cX1_feed 91 = .ok (.iconst 1, 1) := dk_4 (dk_at dksX1_feed_4 0 rfl rfl)
theorem dX1_feed_92 : decode cX1_feed 92 = .ok (.iadd, 1) := dk_96 (dk_at dksX1_feed_4 1 rfl rfl)
theorem dX1_feed_93 : decode cX1_feed 93 = .ok (.putfield 89, 3) := dk_181 0 89 (dk_at dksX1_feed_4 2 rfl rfl)
theorem dX1_feed_96 : decode cX1_feed 96 = .ok (.iload 8, 2) := dk_21 8 (dk_at dksX1_feed_4 5 rfl rfl)
theorem dX1_feed_98 : decode cX1_feed 98 = .ok (.i2b, 1) := dk_145 (dk_at dksX1_feed_4 7 rfl rfl)
theorem dX1_feed_99 : decode cX1_feed 99 = .ok (.bastore, 1) := dk_84 (dk_at dksX1_feed_4 8 rfl rfl)
theorem dX1_feed_100 : decode cX1_feed 100 = .ok (.iinc 7 1, 3) := dk_132 7 1 (dk_at dksX1_feed_4 9 rfl rfl)
theorem dX1_feed_103 : decode cX1_feed 103 = .ok (.goto (-48), 3) := dk_167 255 208 (dk_at dksX1_feed_4 12 rfl rfl)
theorem dX1_feed_106 : decode cX1_feed 106 = .ok (.aload_n 0, 1) := dk_42 (dk_at dksX1_feed_4 15 rfl rfl)
theorem dX1_feed_107 : decode cX1_feed 107 = .ok (.getfield 89, 3) := dk_180 0 89 (dk_at dksX1_feed_4 16 rfl rfl)
theorem dX1_feed_110 : decode cX1_feed 110 = .ok (.ireturn, 1) := dk_172 (dk_at dksX1_feed_4 19 rfl rfl)
abbrev cX1_byteOf : ByteArray := prog_1_method_4_code
def yX1_byteOf : MethodName := ⟨RX1, "byteOf", "(IIIIII)I"⟩
def dkwX1_byteOf_2 : List UInt8 := [21, 6, 16, 24, 16, 8, 21, 5, 7, 112, 104, 100, 122, 17, 0, 255, 126, 172]
abbrev dktX1_byteOf_2 : List UInt8 := dkwX1_byteOf_2 ++ []
def dkwX1_byteOf_1 : List UInt8 := [16, 12, 162, 0, 7, 28, 167, 0, 16, 21, 5, 16, 16, 162, 0, 7, 29, 167, 0, 5, 21, 4, 54, 6]
abbrev dktX1_byteOf_1 : List UInt8 := dkwX1_byteOf_1 ++ dktX1_byteOf_2
def dkwX1_byteOf_0 : List UInt8 := [21, 5, 7, 162, 0, 7, 26, 167, 0, 38, 21, 5, 16, 8, 162, 0, 7, 27, 167, 0, 27, 21, 5]
abbrev dktX1_byteOf_0 : List UInt8 := dkwX1_byteOf_0 ++ dktX1_byteOf_1
theorem dksX1_byteOf_0 : cX1_byteOf.data.toList.drop 0 = dktX1_byteOf_0 := by decide +kernel
theorem dksX1_byteOf_1 : cX1_byteOf.data.toList.drop 23 = dktX1_byteOf_1 := dk_seg dksX1_byteOf_0 23 rfl rfl
theorem dksX1_byteOf_2 : cX1_byteOf.data.toList.drop 47 = dktX1_byteOf_2 := dk_seg dksX1_byteOf_1 24 rfl rfl
theorem dX1_byteOf_0 : decode cX1_byteOf 0 = .ok (.iload 5, 2) := dk_21 5 (dk_at dksX1_byteOf_0 0 rfl rfl)
theorem dX1_byteOf_2 : decode cX1_byteOf 2 = .ok (.iconst 4, 1) := dk_7 (dk_at dksX1_byteOf_0 2 rfl rfl)
theorem dX1_byteOf_3 : decode cX1_byteOf 3 = .ok (.if_icmp .ge 7, 3) := dk_162 0 7 (dk_at dksX1_byteOf_0 3 rfl rfl)
theorem dX1_byteOf_6 : decode cX1_byteOf 6 = .ok (.iload_n 0, 1) := dk_26 (dk_at dksX1_byteOf_0 6 rfl rfl)
theorem dX1_byteOf_7 : decode cX1_byteOf 7 = .ok (.goto 38, 3) := dk_167 0 38 (dk_at dksX1_byteOf_0 7 rfl rfl)
theorem dX1_byteOf_10 : decode cX1_byteOf 10 = .ok (.iload 5, 2) := dk_21 5 (dk_at dksX1_byteOf_0 10 rfl rfl)
theorem dX1_byteOf_12 : decode cX1_byteOf 12 = .ok (.bipush 8, 2) := dk_16 8 (dk_at dksX1_byteOf_0 12 rfl rfl)
theorem dX1_byteOf_14 : decode cX1_byteOf 14 = .ok (.if_icmp .ge 7, 3) := dk_162 0 7 (dk_at dksX1_byteOf_0 14 rfl rfl)
theorem dX1_byteOf_17 : decode cX1_byteOf 17 = .ok (.iload_n 1, 1) := dk_27 (dk_at dksX1_byteOf_0 17 rfl rfl)
theorem dX1_byteOf_18 : decode cX1_byteOf 18 = .ok (.goto 27, 3) := dk_167 0 27 (dk_at dksX1_byteOf_0 18 rfl rfl)
theorem dX1_byteOf_21 : decode cX1_byteOf 21 = .ok (.iload 5, 2) := dk_21 5 (dk_at dksX1_byteOf_0 21 rfl rfl)
theorem dX1_byteOf_23 : decode cX1_byteOf 23 = .ok (.bipush 12, 2) := dk_16 12 (dk_at dksX1_byteOf_1 0 rfl rfl)
theorem dX1_byteOf_25 : decode cX1_byteOf 25 = .ok (.if_icmp .ge 7, 3) := dk_162 0 7 (dk_at dksX1_byteOf_1 2 rfl rfl)
theorem dX1_byteOf_28 : decode cX1_byteOf 28 = .ok (.iload_n 2, 1) := dk_28 (dk_at dksX1_byteOf_1 5 rfl rfl)
theorem dX1_byteOf_29 : decode cX1_byteOf 29 = .ok (.goto 16, 3) := dk_167 0 16 (dk_at dksX1_byteOf_1 6 rfl rfl)
theorem dX1_byteOf_32 : decode cX1_byteOf 32 = .ok (.iload 5, 2) := dk_21 5 (dk_at dksX1_byteOf_1 9 rfl rfl)
theorem dX1_byteOf_34 : decode cX1_byteOf 34 = .ok (.bipush 16, 2) := dk_16 16 (dk_at dksX1_byteOf_1 11 rfl rfl)
theorem dX1_byteOf_36 : decode cX1_byteOf 36 = .ok (.if_icmp .ge 7, 3) := dk_162 0 7 (dk_at dksX1_byteOf_1 13 rfl rfl)
theorem dX1_byteOf_39 : decode cX1_byteOf 39 = .ok (.iload_n 3, 1) := dk_29 (dk_at dksX1_byteOf_1 16 rfl rfl)
theorem dX1_byteOf_40 : decode cX1_byteOf 40 = .ok (.goto 5, 3) := dk_167 0 5 (dk_at dksX1_byteOf_1 17 rfl rfl)
theorem dX1_byteOf_43 : decode cX1_byteOf 43 = .ok (.iload 4, 2) := dk_21 4 (dk_at dksX1_byteOf_1 20 rfl rfl)
theorem dX1_byteOf_45 : decode cX1_byteOf 45 = .ok (.istore 6, 2) := dk_54 6 (dk_at dksX1_byteOf_1 22 rfl rfl)
theorem dX1_byteOf_47 : decode cX1_byteOf 47 = .ok (.iload 6, 2) := dk_21 6 (dk_at dksX1_byteOf_2 0 rfl rfl)
theorem dX1_byteOf_49 : decode cX1_byteOf 49 = .ok (.bipush 24, 2) := dk_16 24 (dk_at dksX1_byteOf_2 2 rfl rfl)
theorem dX1_byteOf_51 : decode cX1_byteOf 51 = .ok (.bipush 8, 2) := dk_16 8 (dk_at dksX1_byteOf_2 4 rfl rfl)
theorem dX1_byteOf_53 : decode cX1_byteOf 53 = .ok (.iload 5, 2) := dk_21 5 (dk_at dksX1_byteOf_2 6 rfl rfl)
theorem dX1_byteOf_55 : decode cX1_byteOf 55 = .ok (.iconst 4, 1) := dk_7 (dk_at dksX1_byteOf_2 8 rfl rfl)
theorem dX1_byteOf_56 : decode cX1_byteOf 56 = .ok (.irem, 1) := dk_112 (dk_at dksX1_byteOf_2 9 rfl rfl)
theorem dX1_byteOf_57 : decode cX1_byteOf 57 = .ok (.imul, 1) := dk_104 (dk_at dksX1_byteOf_2 10 rfl rfl)
theorem dX1_byteOf_58 : decode cX1_byteOf 58 = .ok (.isub, 1) := dk_100 (dk_at dksX1_byteOf_2 11 rfl rfl)
theorem dX1_byteOf_59 : decode cX1_byteOf 59 = .ok (.ishr, 1) := dk_122 (dk_at dksX1_byteOf_2 12 rfl rfl)
theorem dX1_byteOf_60 : decode cX1_byteOf 60 = .ok (.sipush 255, 3) := dk_17 0 255 (dk_at dksX1_byteOf_2 13 rfl rfl)
theorem dX1_byteOf_63 : decode cX1_byteOf 63 = .ok (.iand, 1) := dk_126 (dk_at dksX1_byteOf_2 16 rfl rfl)
theorem dX1_byteOf_64 : decode cX1_byteOf 64 = .ok (.ireturn, 1) := dk_172 (dk_at dksX1_byteOf_2 17 rfl rfl)
abbrev cX1_end : ByteArray := prog_1_method_6_code
def yX1_end : MethodName := ⟨RX1, "end", "(I)Z"⟩
def dkwX1_end_0 : List UInt8 := [27, 155, 0, 11, 27, 42, 180, 0, 89, 164, 0, 5, 3, 172, 42, 27, 181, 0, 89, 4, 172]
abbrev dktX1_end_0 : List UInt8 := dkwX1_end_0 ++ []
theorem dksX1_end_0 : cX1_end.data.toList.drop 0 = dktX1_end_0 := by decide +kernel
theorem dX1_end_0 : decode cX1_end 0 = .ok (.iload_n 1, 1) := dk_27 (dk_at dksX1_end_0 0 rfl rfl)
theorem dX1_end_1 : decode cX1_end 1 = .ok (.ifCond .lt 11, 3) := dk_155 0 11 (dk_at dksX1_end_0 1 rfl rfl)
theorem dX1_end_4 : decode cX1_end 4 = .ok (.iload_n 1, 1) := dk_27 (dk_at dksX1_end_0 4 rfl rfl)
theorem dX1_end_5 : decode cX1_end 5 = .ok (.aload_n 0, 1) := dk_42 (dk_at dksX1_end_0 5 rfl rfl)
theorem dX1_end_6 : decode cX1_end 6 = .ok (.getfield 89, 3) := dk_180 0 89 (dk_at dksX1_end_0 6 rfl rfl)
theorem dX1_end_9 : decode cX1_end 9 = .ok (.if_icmp .le 5, 3) := dk_164 0 5 (dk_at dksX1_end_0 9 rfl rfl)
theorem dX1_end_12 : decode cX1_end 12 = .ok (.iconst 0, 1) := dk_3 (dk_at dksX1_end_0 12 rfl rfl)
theorem dX1_end_13 : decode cX1_end 13 = .ok (.ireturn, 1) := dk_172 (dk_at dksX1_end_0 13 rfl rfl)
theorem dX1_end_14 : decode cX1_end 14 = .ok (.aload_n 0, 1) := dk_42 (dk_at dksX1_end_0 14 rfl rfl)
theorem dX1_end_15 : decode cX1_end 15 = .ok (.iload_n 1, 1) := dk_27 (dk_at dksX1_end_0 15 rfl rfl)
theorem dX1_end_16 : decode cX1_end 16 = .ok (.putfield 89, 3) := dk_181 0 89 (dk_at dksX1_end_0 16 rfl rfl)
theorem dX1_end_19 : decode cX1_end 19 = .ok (.iconst 1, 1) := dk_4 (dk_at dksX1_end_0 19 rfl rfl)
theorem dX1_end_20 : decode cX1_end 20 = .ok (.ireturn, 1) := dk_172 (dk_at dksX1_end_0 20 rfl rfl)
abbrev cX1_fault : ByteArray := prog_1_method_36_code
def yX1_fault : MethodName := ⟨RX1, "fault", "(I)I"⟩
def dkwX1_fault_1 : List UInt8 := [182, 1, 32, 2, 172, 77, 42, 180, 0, 92, 172]
abbrev dktX1_fault_1 : List UInt8 := dkwX1_fault_1 ++ []
def dkwX1_fault_0 : List UInt8 := [27, 4, 160, 0, 8, 42, 182, 1, 29, 172, 27, 153, 0, 11, 27, 5, 159, 0, 6, 16, 254, 172, 42, 27]
abbrev dktX1_fault_0 : List UInt8 := dkwX1_fault_0 ++ dktX1_fault_1
theorem dksX1_fault_0 : cX1_fault.data.toList.drop 0 = dktX1_fault_0 := by decide +kernel
theorem dksX1_fault_1 : cX1_fault.data.toList.drop 24 = dktX1_fault_1 := dk_seg dksX1_fault_0 24 rfl rfl
theorem dX1_fault_0 : decode cX1_fault 0 = .ok (.iload_n 1, 1) := dk_27 (dk_at dksX1_fault_0 0 rfl rfl)
theorem dX1_fault_1 : decode cX1_fault 1 = .ok (.iconst 1, 1) := dk_4 (dk_at dksX1_fault_0 1 rfl rfl)
theorem dX1_fault_2 : decode cX1_fault 2 = .ok (.if_icmp .ne 8, 3) := dk_160 0 8 (dk_at dksX1_fault_0 2 rfl rfl)
theorem dX1_fault_5 : decode cX1_fault 5 = .ok (.aload_n 0, 1) := dk_42 (dk_at dksX1_fault_0 5 rfl rfl)
theorem dX1_fault_6 : decode cX1_fault 6 = .ok (.invokevirtual 285, 3) := dk_182 1 29 (dk_at dksX1_fault_0 6 rfl rfl)
theorem dX1_fault_9 : decode cX1_fault 9 = .ok (.ireturn, 1) := dk_172 (dk_at dksX1_fault_0 9 rfl rfl)
theorem dX1_fault_10 : decode cX1_fault 10 = .ok (.iload_n 1, 1) := dk_27 (dk_at dksX1_fault_0 10 rfl rfl)
theorem dX1_fault_11 : decode cX1_fault 11 = .ok (.ifCond .eq 11, 3) := dk_153 0 11 (dk_at dksX1_fault_0 11 rfl rfl)
theorem dX1_fault_14 : decode cX1_fault 14 = .ok (.iload_n 1, 1) := dk_27 (dk_at dksX1_fault_0 14 rfl rfl)
theorem dX1_fault_15 : decode cX1_fault 15 = .ok (.iconst 2, 1) := dk_5 (dk_at dksX1_fault_0 15 rfl rfl)
theorem dX1_fault_16 : decode cX1_fault 16 = .ok (.if_icmp .eq 6, 3) := dk_159 0 6 (dk_at dksX1_fault_0 16 rfl rfl)
theorem dX1_fault_19 : decode cX1_fault 19 = .ok (.bipush (-2), 2) := dk_16 254 (dk_at dksX1_fault_0 19 rfl rfl)
theorem dX1_fault_21 : decode cX1_fault 21 = .ok (.ireturn, 1) := dk_172 (dk_at dksX1_fault_0 21 rfl rfl)
theorem dX1_fault_22 : decode cX1_fault 22 = .ok (.aload_n 0, 1) := dk_42 (dk_at dksX1_fault_0 22 rfl rfl)
theorem dX1_fault_23 : decode cX1_fault 23 = .ok (.iload_n 1, 1) := dk_27 (dk_at dksX1_fault_0 23 rfl rfl)
theorem dX1_fault_24 : decode cX1_fault 24 = .ok (.invokevirtual 288, 3) := dk_182 1 32 (dk_at dksX1_fault_1 0 rfl rfl)
theorem dX1_fault_27 : decode cX1_fault 27 = .ok (.iconst (-1), 1) := dk_2 (dk_at dksX1_fault_1 3 rfl rfl)
theorem dX1_fault_28 : decode cX1_fault 28 = .ok (.ireturn, 1) := dk_172 (dk_at dksX1_fault_1 4 rfl rfl)
theorem dX1_fault_29 : decode cX1_fault 29 = .ok (.astore_n 2, 1) := dk_77 (dk_at dksX1_fault_1 5 rfl rfl)
theorem dX1_fault_30 : decode cX1_fault 30 = .ok (.aload_n 0, 1) := dk_42 (dk_at dksX1_fault_1 6 rfl rfl)
theorem dX1_fault_31 : decode cX1_fault 31 = .ok (.getfield 92, 3) := dk_180 0 92 (dk_at dksX1_fault_1 7 rfl rfl)
theorem dX1_fault_34 : decode cX1_fault 34 = .ok (.ireturn, 1) := dk_172 (dk_at dksX1_fault_1 10 rfl rfl)
abbrev cX1_lawFault : ByteArray := prog_1_method_22_code
def yX1_lawFault : MethodName := ⟨RX1, "lawFault", "()I"⟩
def dkwX1_lawFault_0 : List UInt8 := [42, 182, 0, 198, 87, 2, 172, 76, 42, 180, 0, 92, 172]
abbrev dktX1_lawFault_0 : List UInt8 := dkwX1_lawFault_0 ++ []
theorem dksX1_lawFault_0 : cX1_lawFault.data.toList.drop 0 = dktX1_lawFault_0 := by decide +kernel
theorem dX1_lawFault_0 : decode cX1_lawFault 0 = .ok (.aload_n 0, 1) := dk_42 (dk_at dksX1_lawFault_0 0 rfl rfl)
theorem dX1_lawFault_1 : decode cX1_lawFault 1 = .ok (.invokevirtual 198, 3) := dk_182 0 198 (dk_at dksX1_lawFault_0 1 rfl rfl)
theorem dX1_lawFault_4 : decode cX1_lawFault 4 = .ok (.pop, 1) := dk_87 (dk_at dksX1_lawFault_0 4 rfl rfl)
theorem dX1_lawFault_5 : decode cX1_lawFault 5 = .ok (.iconst (-1), 1) := dk_2 (dk_at dksX1_lawFault_0 5 rfl rfl)
theorem dX1_lawFault_6 : decode cX1_lawFault 6 = .ok (.ireturn, 1) := dk_172 (dk_at dksX1_lawFault_0 6 rfl rfl)
theorem dX1_lawFault_7 : decode cX1_lawFault 7 = .ok (.astore_n 1, 1) := dk_76 (dk_at dksX1_lawFault_0 7 rfl rfl)
theorem dX1_lawFault_8 : decode cX1_lawFault 8 = .ok (.aload_n 0, 1) := dk_42 (dk_at dksX1_lawFault_0 8 rfl rfl)
theorem dX1_lawFault_9 : decode cX1_lawFault 9 = .ok (.getfield 92, 3) := dk_180 0 92 (dk_at dksX1_lawFault_0 9 rfl rfl)
theorem dX1_lawFault_12 : decode cX1_lawFault 12 = .ok (.ireturn, 1) := dk_172 (dk_at dksX1_lawFault_0 12 rfl rfl)
abbrev cX1_wholeLaw : ByteArray := prog_1_method_21_code
def yX1_wholeLaw : MethodName := ⟨RX1, "wholeLaw", "()LLosersBooks$Clause;"⟩
def dkwX1_wholeLaw_3 : List UInt8 := [43, 176]
abbrev dktX1_wholeLaw_3 : List UInt8 := dkwX1_wholeLaw_3 ++ []
def dkwX1_wholeLaw_2 : List UInt8 := [180, 0, 194, 77, 167, 255, 224, 42, 42, 182, 0, 102, 2, 160, 0, 7, 4, 167, 0, 4, 3, 182, 0, 98]
abbrev dktX1_wholeLaw_2 : List UInt8 := dkwX1_wholeLaw_2 ++ dktX1_wholeLaw_3
def dkwX1_wholeLaw_1 : List UInt8 := [160, 0, 29, 42, 89, 180, 0, 92, 4, 96, 181, 0, 92, 44, 42, 182, 0, 190, 181, 0, 194, 44]
abbrev dktX1_wholeLaw_1 : List UInt8 := dkwX1_wholeLaw_1 ++ dktX1_wholeLaw_2
def dkwX1_wholeLaw_0 : List UInt8 := [42, 3, 181, 0, 92, 42, 3, 181, 0, 95, 42, 182, 0, 190, 76, 43, 77, 42, 182, 0, 102, 16, 59]
abbrev dktX1_wholeLaw_0 : List UInt8 := dkwX1_wholeLaw_0 ++ dktX1_wholeLaw_1
theorem dksX1_wholeLaw_0 : cX1_wholeLaw.data.toList.drop 0 = dktX1_wholeLaw_0 := by decide +kernel
theorem dksX1_wholeLaw_1 : cX1_wholeLaw.data.toList.drop 23 = dktX1_wholeLaw_1 := dk_seg dksX1_wholeLaw_0 23 rfl rfl
theorem dksX1_wholeLaw_2 : cX1_wholeLaw.data.toList.drop 45 = dktX1_wholeLaw_2 := dk_seg dksX1_wholeLaw_1 22 rfl rfl
theorem dksX1_wholeLaw_3 : cX1_wholeLaw.data.toList.drop 69 = dktX1_wholeLaw_3 := dk_seg dksX1_wholeLaw_2 24 rfl rfl
theorem dX1_wholeLaw_0 : decode cX1_wholeLaw 0 = .ok (.aload_n 0, 1) := dk_42 (dk_at dksX1_wholeLaw_0 0 rfl rfl)
theorem dX1_wholeLaw_1 : decode cX1_wholeLaw 1 = .ok (.iconst 0, 1) := dk_3 (dk_at dksX1_wholeLaw_0 1 rfl rfl)
theorem dX1_wholeLaw_2 : decode cX1_wholeLaw 2 = .ok (.putfield 92, 3) := dk_181 0 92 (dk_at dksX1_wholeLaw_0 2 rfl rfl)
theorem dX1_wholeLaw_5 : decode cX1_wholeLaw 5 = .ok (.aload_n 0, 1) := dk_42 (dk_at dksX1_wholeLaw_0 5 rfl rfl)
theorem dX1_wholeLaw_6 : decode cX1_wholeLaw 6 = .ok (.iconst 0, 1) := dk_3 (dk_at dksX1_wholeLaw_0 6 rfl rfl)
theorem dX1_wholeLaw_7 : decode cX1_wholeLaw 7 = .ok (.putfield 95, 3) := dk_181 0 95 (dk_at dksX1_wholeLaw_0 7 rfl rfl)
theorem dX1_wholeLaw_10 : decode cX1_wholeLaw 10 = .ok (.aload_n 0, 1) := dk_42 (dk_at dksX1_wholeLaw_0 10 rfl rfl)
theorem dX1_wholeLaw_11 : decode cX1_wholeLaw 11 = .ok (.invokevirtual 190, 3) := dk_182 0 190 (dk_at dksX1_wholeLaw_0 11 rfl rfl)
theorem dX1_wholeLaw_14 : decode cX1_wholeLaw 14 = .ok (.astore_n 1, 1) := dk_76 (dk_at dksX1_wholeLaw_0 14 rfl rfl)
theorem dX1_wholeLaw_15 : decode cX1_wholeLaw 15 = .ok (.aload_n 1, 1) := dk_43 (dk_at dksX1_wholeLaw_0 15 rfl rfl)
theorem dX1_wholeLaw_16 : decode cX1_wholeLaw 16 = .ok (.astore_n 2, 1) := dk_77 (dk_at dksX1_wholeLaw_0 16 rfl rfl)
theorem dX1_wholeLaw_17 : decode cX1_wholeLaw 17 = .ok (.aload_n 0, 1) := dk_42 (dk_at dksX1_wholeLaw_0 17 rfl rfl)
theorem dX1_wholeLaw_18 : decode cX1_wholeLaw 18 = .ok (.invokevirtual 102, 3) := dk_182 0 102 (dk_at dksX1_wholeLaw_0 18 rfl rfl)
theorem dX1_wholeLaw_21 : decode cX1_wholeLaw 21 = .ok (.bipush 59, 2) := dk_16 59 (dk_at dksX1_wholeLaw_0 21 rfl rfl)
theorem dX1_wholeLaw_23 : decode cX1_wholeLaw 23 = .ok (.if_icmp .ne 29, 3) := dk_160 0 29 (dk_at dksX1_wholeLaw_1 0 rfl rfl)
theorem dX1_wholeLaw_26 : decode cX1_wholeLaw 26 = .ok (.aload_n 0, 1) := dk_42 (dk_at dksX1_wholeLaw_1 3 rfl rfl)
theorem dX1_wholeLaw_27 : decode cX1_wholeLaw 27 = .ok (.dup, 1) := dk_89 (dk_at dksX1_wholeLaw_1 4 rfl rfl)
theorem dX1_wholeLaw_28 : decode cX1_wholeLaw 28 = .ok (.getfield 92, 3) := dk_180 0 92 (dk_at dksX1_wholeLaw_1 5 rfl rfl)
theorem dX1_wholeLaw_31 : decode cX1_wholeLaw 31 = .ok (.iconst 1, 1) := dk_4 (dk_at dksX1_wholeLaw_1 8 rfl rfl)
theorem dX1_wholeLaw_32 : decode cX1_wholeLaw 32 = .ok (.iadd, 1) := dk_96 (dk_at dksX1_wholeLaw_1 9 rfl rfl)
theorem dX1_wholeLaw_33 : decode cX1_wholeLaw 33 = .ok (.putfield 92, 3) := dk_181 0 92 (dk_at dksX1_wholeLaw_1 10 rfl rfl)
theorem dX1_wholeLaw_36 : decode cX1_wholeLaw 36 = .ok (.aload_n 2, 1) := dk_44 (dk_at dksX1_wholeLaw_1 13 rfl rfl)
theorem dX1_wholeLaw_37 : decode cX1_wholeLaw 37 = .ok (.aload_n 0, 1) := dk_42 (dk_at dksX1_wholeLaw_1 14 rfl rfl)
theorem dX1_wholeLaw_38 : decode cX1_wholeLaw 38 = .ok (.invokevirtual 190, 3) := dk_182 0 190 (dk_at dksX1_wholeLaw_1 15 rfl rfl)
theorem dX1_wholeLaw_41 : decode cX1_wholeLaw 41 = .ok (.putfield 194, 3) := dk_181 0 194 (dk_at dksX1_wholeLaw_1 18 rfl rfl)
theorem dX1_wholeLaw_44 : decode cX1_wholeLaw 44 = .ok (.aload_n 2, 1) := dk_44 (dk_at dksX1_wholeLaw_1 21 rfl rfl)
theorem dX1_wholeLaw_45 : decode cX1_wholeLaw 45 = .ok (.getfield 194, 3) := dk_180 0 194 (dk_at dksX1_wholeLaw_2 0 rfl rfl)
theorem dX1_wholeLaw_48 : decode cX1_wholeLaw 48 = .ok (.astore_n 2, 1) := dk_77 (dk_at dksX1_wholeLaw_2 3 rfl rfl)
theorem dX1_wholeLaw_49 : decode cX1_wholeLaw 49 = .ok (.goto (-32), 3) := dk_167 255 224 (dk_at dksX1_wholeLaw_2 4 rfl rfl)
theorem dX1_wholeLaw_52 : decode cX1_wholeLaw 52 = .ok (.aload_n 0, 1) := dk_42 (dk_at dksX1_wholeLaw_2 7 rfl rfl)
theorem dX1_wholeLaw_53 : decode cX1_wholeLaw 53 = .ok (.aload_n 0, 1) := dk_42 (dk_at dksX1_wholeLaw_2 8 rfl rfl)
theorem dX1_wholeLaw_54 : decode cX1_wholeLaw 54 = .ok (.invokevirtual 102, 3) := dk_182 0 102 (dk_at dksX1_wholeLaw_2 9 rfl rfl)
theorem dX1_wholeLaw_57 : decode cX1_wholeLaw 57 = .ok (.iconst (-1), 1) := dk_2 (dk_at dksX1_wholeLaw_2 12 rfl rfl)
theorem dX1_wholeLaw_58 : decode cX1_wholeLaw 58 = .ok (.if_icmp .ne 7, 3) := dk_160 0 7 (dk_at dksX1_wholeLaw_2 13 rfl rfl)
theorem dX1_wholeLaw_61 : decode cX1_wholeLaw 61 = .ok (.iconst 1, 1) := dk_4 (dk_at dksX1_wholeLaw_2 16 rfl rfl)
theorem dX1_wholeLaw_62 : decode cX1_wholeLaw 62 = .ok (.goto 4, 3) := dk_167 0 4 (dk_at dksX1_wholeLaw_2 17 rfl rfl)
theorem dX1_wholeLaw_65 : decode cX1_wholeLaw 65 = .ok (.iconst 0, 1) := dk_3 (dk_at dksX1_wholeLaw_2 20 rfl rfl)
theorem dX1_wholeLaw_66 : decode cX1_wholeLaw 66 = .ok (.invokevirtual 98, 3) := dk_182 0 98 (dk_at dksX1_wholeLaw_2 21 rfl rfl)
theorem dX1_wholeLaw_69 : decode cX1_wholeLaw 69 = .ok (.aload_n 1, 1) := dk_43 (dk_at dksX1_wholeLaw_3 0 rfl rfl)
theorem dX1_wholeLaw_70 : decode cX1_wholeLaw 70 = .ok (.areturn, 1) := dk_176 (dk_at dksX1_wholeLaw_3 1 rfl rfl)
abbrev cX1_clause : ByteArray := prog_1_method_20_code
def yX1_clause : MethodName := ⟨RX1, "clause", "()LLosersBooks$Clause;"⟩
def dkwX1_clause_6 : List UInt8 := [89, 180, 0, 92, 4, 96, 181, 0, 92, 187, 0, 45, 89, 27, 25, 4, 42, 182, 0, 109, 183, 0, 187, 176]
abbrev dktX1_clause_6 : List UInt8 := dkwX1_clause_6 ++ []
def dkwX1_clause_5 : List UInt8 := [182, 0, 168, 58, 4, 42, 42, 182, 0, 102, 16, 63, 160, 0, 7, 4, 167, 0, 4, 3, 182, 0, 98, 42]
abbrev dktX1_clause_5 : List UInt8 := dkwX1_clause_5 ++ dktX1_clause_6
def dkwX1_clause_4 : List UInt8 := [42, 182, 0, 102, 184, 0, 151, 154, 0, 14, 187, 0, 45, 89, 27, 1, 45, 183, 0, 187, 176, 42, 45]
abbrev dktX1_clause_4 : List UInt8 := dkwX1_clause_4 ++ dktX1_clause_5
def dkwX1_clause_3 : List UInt8 := [16, 33, 159, 0, 9, 28, 16, 40, 160, 0, 7, 1, 167, 0, 7, 42, 182, 0, 109, 78, 45, 198, 0, 24]
abbrev dktX1_clause_3 : List UInt8 := dkwX1_clause_3 ++ dktX1_clause_4
def dkwX1_clause_2 : List UInt8 := [167, 0, 4, 3, 182, 0, 98, 42, 89, 180, 0, 92, 4, 96, 181, 0, 92, 42, 182, 0, 102, 61, 28]
abbrev dktX1_clause_2 : List UInt8 := dkwX1_clause_2 ++ dktX1_clause_3
def dkwX1_clause_1 : List UInt8 := [182, 0, 98, 42, 89, 180, 0, 92, 4, 96, 181, 0, 92, 42, 42, 182, 0, 102, 16, 58, 160, 0, 7, 4]
abbrev dktX1_clause_1 : List UInt8 := dkwX1_clause_1 ++ dktX1_clause_2
def dkwX1_clause_0 : List UInt8 := [42, 182, 0, 102, 60, 42, 27, 158, 0, 16, 18, 185, 27, 182, 0, 119, 155, 0, 7, 4, 167, 0, 4, 3]
abbrev dktX1_clause_0 : List UInt8 := dkwX1_clause_0 ++ dktX1_clause_1
theorem dksX1_clause_0 : cX1_clause.data.toList.drop 0 = dktX1_clause_0 := by decide +kernel
theorem dksX1_clause_1 : cX1_clause.data.toList.drop 24 = dktX1_clause_1 := dk_seg dksX1_clause_0 24 rfl rfl
theorem dksX1_clause_2 : cX1_clause.data.toList.drop 48 = dktX1_clause_2 := dk_seg dksX1_clause_1 24 rfl rfl
theorem dksX1_clause_3 : cX1_clause.data.toList.drop 71 = dktX1_clause_3 := dk_seg dksX1_clause_2 23 rfl rfl
theorem dksX1_clause_4 : cX1_clause.data.toList.drop 95 = dktX1_clause_4 := dk_seg dksX1_clause_3 24 rfl rfl
theorem dksX1_clause_5 : cX1_clause.data.toList.drop 118 = dktX1_clause_5 := dk_seg dksX1_clause_4 23 rfl rfl
theorem dksX1_clause_6 : cX1_clause.data.toList.drop 142 = dktX1_clause_6 := dk_seg dksX1_clause_5 24 rfl rfl
theorem dX1_clause_0 : decode cX1_clause 0 = .ok (.aload_n 0, 1) := dk_42 (dk_at dksX1_clause_0 0 rfl rfl)
theorem dX1_clause_1 : decode cX1_clause 1 = .ok (.invokevirtual 102, 3) := dk_182 0 102 (dk_at dksX1_clause_0 1 rfl rfl)
theorem dX1_clause_4 : decode cX1_clause 4 = .ok (.istore_n 1, 1) := dk_60 (dk_at dksX1_clause_0 4 rfl rfl)
theorem dX1_clause_5 : decode cX1_clause 5 = .ok (.aload_n 0, 1) := dk_42 (dk_at dksX1_clause_0 5 rfl rfl)
theorem dX1_clause_6 : decode cX1_clause 6 = .ok (.iload_n 1, 1) := dk_27 (dk_at dksX1_clause_0 6 rfl rfl)
theorem dX1_clause_7 : decode cX1_clause 7 = .ok (.ifCond .le 16, 3) := dk_158 0 16 (dk_at dksX1_clause_0 7 rfl rfl)
theorem dX1_clause_10 : decode cX1_clause 10 = .ok (.ldc 185, 2) := dk_18 185 (dk_at dksX1_clause_0 10 rfl rfl)
theorem dX1_clause_12 : decode cX1_clause 12 = .ok (.iload_n 1, 1) := dk_27 (dk_at dksX1_clause_0 12 rfl rfl)
theorem dX1_clause_13 : decode cX1_clause 13 = .ok (.invokevirtual 119, 3) := dk_182 0 119 (dk_at dksX1_clause_0 13 rfl rfl)
theorem dX1_clause_16 : decode cX1_clause 16 = .ok (.ifCond .lt 7, 3) := dk_155 0 7 (dk_at dksX1_clause_0 16 rfl rfl)
theorem dX1_clause_19 : decode cX1_clause 19 = .ok (.iconst 1, 1) := dk_4 (dk_at dksX1_clause_0 19 rfl rfl)
theorem dX1_clause_20 : decode cX1_clause 20 = .ok (.goto 4, 3) := dk_167 0 4 (dk_at dksX1_clause_0 20 rfl rfl)
theorem dX1_clause_23 : decode cX1_clause 23 = .ok (.iconst 0, 1) := dk_3 (dk_at dksX1_clause_0 23 rfl rfl)
theorem dX1_clause_24 : decode cX1_clause 24 = .ok (.invokevirtual 98, 3) := dk_182 0 98 (dk_at dksX1_clause_1 0 rfl rfl)
theorem dX1_clause_27 : decode cX1_clause 27 = .ok (.aload_n 0, 1) := dk_42 (dk_at dksX1_clause_1 3 rfl rfl)
theorem dX1_clause_28 : decode cX1_clause 28 = .ok (.dup, 1) := dk_89 (dk_at dksX1_clause_1 4 rfl rfl)
theorem dX1_clause_29 : decode cX1_clause 29 = .ok (.getfield 92, 3) := dk_180 0 92 (dk_at dksX1_clause_1 5 rfl rfl)
theorem dX1_clause_32 : decode cX1_clause 32 = .ok (.iconst 1, 1) := dk_4 (dk_at dksX1_clause_1 8 rfl rfl)
theorem dX1_clause_33 : decode cX1_clause 33 = .ok (.iadd, 1) := dk_96 (dk_at dksX1_clause_1 9 rfl rfl)
theorem dX1_clause_34 : decode cX1_clause 34 = .ok (.putfield 92, 3) := dk_181 0 92 (dk_at dksX1_clause_1 10 rfl rfl)
theorem dX1_clause_37 : decode cX1_clause 37 = .ok (.aload_n 0, 1) := dk_42 (dk_at dksX1_clause_1 13 rfl rfl)
theorem dX1_clause_38 : decode cX1_clause 38 = .ok (.aload_n 0, 1) := dk_42 (dk_at dksX1_clause_1 14 rfl rfl)
theorem dX1_clause_39 : decode cX1_clause 39 = .ok (.invokevirtual 102, 3) := dk_182 0 102 (dk_at dksX1_clause_1 15 rfl rfl)
theorem dX1_clause_42 : decode cX1_clause 42 = .ok (.bipush 58, 2) := dk_16 58 (dk_at dksX1_clause_1 18 rfl rfl)
theorem dX1_clause_44 : decode cX1_clause 44 = .ok (.if_icmp .ne 7, 3) := dk_160 0 7 (dk_at dksX1_clause_1 20 rfl rfl)
theorem dX1_clause_47 : decode cX1_clause 47 = .ok (.iconst 1, 1) := dk_4 (dk_at dksX1_clause_1 23 rfl rfl)
theorem dX1_clause_48 : decode cX1_clause 48 = .ok (.goto 4, 3) := dk_167 0 4 (dk_at dksX1_clause_2 0 rfl rfl)
theorem dX1_clause_51 : decode cX1_clause 51 = .ok (.iconst 0, 1) := dk_3 (dk_at dksX1_clause_2 3 rfl rfl)
theorem dX1_clause_52 : decode cX1_clause 52 = .ok (.invokevirtual 98, 3) := dk_182 0 98 (dk_at dksX1_clause_2 4 rfl rfl)
theorem dX1_clause_55 : decode cX1_clause 55 = .ok (.aload_n 0, 1) := dk_42 (dk_at dksX1_clause_2 7 rfl rfl)
theorem dX1_clause_56 : decode cX1_clause 56 = .ok (.dup, 1) := dk_89 (dk_at dksX1_clause_2 8 rfl rfl)
theorem dX1_clause_57 : decode cX1_clause 57 = .ok (.getfield 92, 3) := dk_180 0 92 (dk_at dksX1_clause_2 9 rfl rfl)
theorem dX1_clause_60 : decode cX1_clause 60 = .ok (.iconst 1, 1) := dk_4 (dk_at dksX1_clause_2 12 rfl rfl)
theorem dX1_clause_61 : decode cX1_clause 61 = .ok (.iadd, 1) := dk_96 (dk_at dksX1_clause_2 13 rfl rfl)
theorem dX1_clause_62 : decode cX1_clause 62 = .ok (.putfield 92, 3) := dk_181 0 92 (dk_at dksX1_clause_2 14 rfl rfl)
theorem dX1_clause_65 : decode cX1_clause 65 = .ok (.aload_n 0, 1) := dk_42 (dk_at dksX1_clause_2 17 rfl rfl)
theorem dX1_clause_66 : decode cX1_clause 66 = .ok (.invokevirtual 102, 3) := dk_182 0 102 (dk_at dksX1_clause_2 18 rfl rfl)
theorem dX1_clause_69 : decode cX1_clause 69 = .ok (.istore_n 2, 1) := dk_61 (dk_at dksX1_clause_2 21 rfl rfl)
theorem dX1_clause_70 : decode cX1_clause 70 = .ok (.iload_n 2, 1) := dk_28 (dk_at dksX1_clause_2 22 rfl rfl)
theorem dX1_clause_71 : decode cX1_clause 71 = .ok (.bipush 33, 2) := dk_16 33 (dk_at dksX1_clause_3 0 rfl rfl)
theorem dX1_clause_73 : decode cX1_clause 73 = .ok (.if_icmp .eq 9, 3) := dk_159 0 9 (dk_at dksX1_clause_3 2 rfl rfl)
theorem dX1_clause_76 : decode cX1_clause 76 = .ok (.iload_n 2, 1) := dk_28 (dk_at dksX1_clause_3 5 rfl rfl)
theorem dX1_clause_77 : decode cX1_clause 77 = .ok (.bipush 40, 2) := dk_16 40 (dk_at dksX1_clause_3 6 rfl rfl)
theorem dX1_clause_79 : decode cX1_clause 79 = .ok (.if_icmp .ne 7, 3) := dk_160 0 7 (dk_at dksX1_clause_3 8 rfl rfl)
theorem dX1_clause_82 : decode cX1_clause 82 = .ok (.aconst_null, 1) := dk_1 (dk_at dksX1_clause_3 11 rfl rfl)
theorem dX1_clause_83 : decode cX1_clause 83 = .ok (.goto 7, 3) := dk_167 0 7 (dk_at dksX1_clause_3 12 rfl rfl)
theorem dX1_clause_86 : decode cX1_clause 86 = .ok (.aload_n 0, 1) := dk_42 (dk_at dksX1_clause_3 15 rfl rfl)
theorem dX1_clause_87 : decode cX1_clause 87 = .ok (.invokevirtual 109, 3) := dk_182 0 109 (dk_at dksX1_clause_3 16 rfl rfl)
theorem dX1_clause_90 : decode cX1_clause 90 = .ok (.astore_n 3, 1) := dk_78 (dk_at dksX1_clause_3 19 rfl rfl)
theorem dX1_clause_91 : decode cX1_clause 91 = .ok (.aload_n 3, 1) := dk_45 (dk_at dksX1_clause_3 20 rfl rfl)
theorem dX1_clause_92 : decode cX1_clause 92 = .ok (.ifnull 24, 3) := dk_198 0 24 (dk_at dksX1_clause_3 21 rfl rfl)
theorem dX1_clause_95 : decode cX1_clause 95 = .ok (.aload_n 0, 1) := dk_42 (dk_at dksX1_clause_4 0 rfl rfl)
theorem dX1_clause_96 : decode cX1_clause 96 = .ok (.invokevirtual 102, 3) := dk_182 0 102 (dk_at dksX1_clause_4 1 rfl rfl)
theorem dX1_clause_99 : decode cX1_clause 99 = .ok (.invokestatic 151, 3) := dk_184 0 151 (dk_at dksX1_clause_4 4 rfl rfl)
theorem dX1_clause_102 : decode cX1_clause 102 = .ok (.ifCond .ne 14, 3) := dk_154 0 14 (dk_at dksX1_clause_4 7 rfl rfl)
theorem dX1_clause_105 : decode cX1_clause 105 = .ok (.new 45, 3) := dk_187 0 45 (dk_at dksX1_clause_4 10 rfl rfl)
theorem dX1_clause_108 : decode cX1_clause 108 = .ok (.dup, 1) := dk_89 (dk_at dksX1_clause_4 13 rfl rfl)
theorem dX1_clause_109 : decode cX1_clause 109 = .ok (.iload_n 1, 1) := dk_27 (dk_at dksX1_clause_4 14 rfl rfl)
theorem dX1_clause_110 : decode cX1_clause 110 = .ok (.aconst_null, 1) := dk_1 (dk_at dksX1_clause_4 15 rfl rfl)
theorem dX1_clause_111 : decode cX1_clause 111 = .ok (.aload_n 3, 1) := dk_45 (dk_at dksX1_clause_4 16 rfl rfl)
theorem dX1_clause_112 : decode cX1_clause 112 = .ok (.invokespecial 187, 3) := dk_183 0 187 (dk_at dksX1_clause_4 17 rfl rfl)
theorem dX1_clause_115 : decode cX1_clause 115 = .ok (.areturn, 1) := dk_176 (dk_at dksX1_clause_4 20 rfl rfl)
theorem dX1_clause_116 : decode cX1_clause 116 = .ok (.aload_n 0, 1) := dk_42 (dk_at dksX1_clause_4 21 rfl rfl)
theorem dX1_clause_117 : decode cX1_clause 117 = .ok (.aload_n 3, 1) := dk_45 (dk_at dksX1_clause_4 22 rfl rfl)
theorem dX1_clause_118 : decode cX1_clause 118 = .ok (.invokevirtual 168, 3) := dk_182 0 168 (dk_at dksX1_clause_5 0 rfl rfl)
theorem dX1_clause_121 : decode cX1_clause 121 = .ok (.astore 4, 2) := dk_58 4 (dk_at dksX1_clause_5 3 rfl rfl)
theorem dX1_clause_123 : decode cX1_clause 123 = .ok (.aload_n 0, 1) := dk_42 (dk_at dksX1_clause_5 5 rfl rfl)
theorem dX1_clause_124 : decode cX1_clause 124 = .ok (.aload_n 0, 1) := dk_42 (dk_at dksX1_clause_5 6 rfl rfl)
theorem dX1_clause_125 : decode cX1_clause 125 = .ok (.invokevirtual 102, 3) := dk_182 0 102 (dk_at dksX1_clause_5 7 rfl rfl)
theorem dX1_clause_128 : decode cX1_clause 128 = .ok (.bipush 63, 2) := dk_16 63 (dk_at dksX1_clause_5 10 rfl rfl)
theorem dX1_clause_130 : decode cX1_clause 130 = .ok (.if_icmp .ne 7, 3) := dk_160 0 7 (dk_at dksX1_clause_5 12 rfl rfl)
theorem dX1_clause_133 : decode cX1_clause 133 = .ok (.iconst 1, 1) := dk_4 (dk_at dksX1_clause_5 15 rfl rfl)
theorem dX1_clause_134 : decode cX1_clause 134 = .ok (.goto 4, 3) := dk_167 0 4 (dk_at dksX1_clause_5 16 rfl rfl)
theorem dX1_clause_137 : decode cX1_clause 137 = .ok (.iconst 0, 1) := dk_3 (dk_at dksX1_clause_5 19 rfl rfl)
theorem dX1_clause_138 : decode cX1_clause 138 = .ok (.invokevirtual 98, 3) := dk_182 0 98 (dk_at dksX1_clause_5 20 rfl rfl)
theorem dX1_clause_141 : decode cX1_clause 141 = .ok (.aload_n 0, 1) := dk_42 (dk_at dksX1_clause_5 23 rfl rfl)
theorem dX1_clause_142 : decode cX1_clause 142 = .ok (.dup, 1) := dk_89 (dk_at dksX1_clause_6 0 rfl rfl)
theorem dX1_clause_143 : decode cX1_clause 143 = .ok (.getfield 92, 3) := dk_180 0 92 (dk_at dksX1_clause_6 1 rfl rfl)
theorem dX1_clause_146 : decode cX1_clause 146 = .ok (.iconst 1, 1) := dk_4 (dk_at dksX1_clause_6 4 rfl rfl)
theorem dX1_clause_147 : decode cX1_clause 147 = .ok (.iadd, 1) := dk_96 (dk_at dksX1_clause_6 5 rfl rfl)
theorem dX1_clause_148 : decode cX1_clause 148 = .ok (.putfield 92, 3) := dk_181 0 92 (dk_at dksX1_clause_6 6 rfl rfl)
theorem dX1_clause_151 : decode cX1_clause 151 = .ok (.new 45, 3) := dk_187 0 45 (dk_at dksX1_clause_6 9 rfl rfl)
theorem dX1_clause_154 : decode cX1_clause 154 = .ok (.dup, 1) := dk_89 (dk_at dksX1_clause_6 12 rfl rfl)
theorem dX1_clause_155 : decode cX1_clause 155 = .ok (.iload_n 1, 1) := dk_27 (dk_at dksX1_clause_6 13 rfl rfl)
theorem dX1_clause_156 : decode cX1_clause 156 = .ok (.aload 4, 2) := dk_25 4 (dk_at dksX1_clause_6 14 rfl rfl)
theorem dX1_clause_158 : decode cX1_clause 158 = .ok (.aload_n 0, 1) := dk_42 (dk_at dksX1_clause_6 16 rfl rfl)
theorem dX1_clause_159 : decode cX1_clause 159 = .ok (.invokevirtual 109, 3) := dk_182 0 109 (dk_at dksX1_clause_6 17 rfl rfl)
theorem dX1_clause_162 : decode cX1_clause 162 = .ok (.invokespecial 187, 3) := dk_183 0 187 (dk_at dksX1_clause_6 20 rfl rfl)
theorem dX1_clause_165 : decode cX1_clause 165 = .ok (.areturn, 1) := dk_176 (dk_at dksX1_clause_6 23 rfl rfl)
abbrev cX1_look : ByteArray := prog_1_method_7_code
def yX1_look : MethodName := ⟨RX1, "look", "()I"⟩
def dkwX1_look_2 : List UInt8 := [162, 0, 19, 42, 180, 0, 16, 42, 180, 0, 92, 51, 17, 0, 255, 126, 167, 0, 4, 2, 172]
abbrev dktX1_look_2 : List UInt8 := dkwX1_look_2 ++ []
def dkwX1_look_1 : List UInt8 := [160, 0, 16, 42, 89, 180, 0, 92, 4, 96, 181, 0, 92, 167, 255, 221, 42, 180, 0, 92, 42, 180, 0, 89]
abbrev dktX1_look_1 : List UInt8 := dkwX1_look_1 ++ dktX1_look_2
def dkwX1_look_0 : List UInt8 := [42, 180, 0, 92, 42, 180, 0, 89, 162, 0, 30, 42, 180, 0, 16, 42, 180, 0, 92, 51, 16, 32]
abbrev dktX1_look_0 : List UInt8 := dkwX1_look_0 ++ dktX1_look_1
theorem dksX1_look_0 : cX1_look.data.toList.drop 0 = dktX1_look_0 := by decide +kernel
theorem dksX1_look_1 : cX1_look.data.toList.drop 22 = dktX1_look_1 := dk_seg dksX1_look_0 22 rfl rfl
theorem dksX1_look_2 : cX1_look.data.toList.drop 46 = dktX1_look_2 := dk_seg dksX1_look_1 24 rfl rfl
theorem dX1_look_0 : decode cX1_look 0 = .ok (.aload_n 0, 1) := dk_42 (dk_at dksX1_look_0 0 rfl rfl)
theorem dX1_look_1 : decode cX1_look 1 = .ok (.getfield 92, 3) := dk_180 0 92 (dk_at dksX1_look_0 1 rfl rfl)
theorem dX1_look_4 : decode cX1_look 4 = .ok (.aload_n 0, 1) := dk_42 (dk_at dksX1_look_0 4 rfl rfl)
theorem dX1_look_5 : decode cX1_look 5 = .ok (.getfield 89, 3) := dk_180 0 89 (dk_at dksX1_look_0 5 rfl rfl)
theorem dX1_look_8 : decode cX1_look 8 = .ok (.if_icmp .ge 30, 3) := dk_162 0 30 (dk_at dksX1_look_0 8 rfl rfl)
theorem dX1_look_11 : decode cX1_look 11 = .ok (.aload_n 0, 1) := dk_42 (dk_at dksX1_look_0 11 rfl rfl)
theorem dX1_look_12 : decode cX1_look 12 = .ok (.getfield 16, 3) := dk_180 0 16 (dk_at dksX1_look_0 12 rfl rfl)
theorem dX1_look_15 : decode cX1_look 15 = .ok (.aload_n 0, 1) := dk_42 (dk_at dksX1_look_0 15 rfl rfl)
theorem dX1_look_16 : decode cX1_look 16 = .ok (.getfield 92, 3) := dk_180 0 92 (dk_at dksX1_look_0 16 rfl rfl)
theorem dX1_look_19 : decode cX1_look 19 = .ok (.baload, 1) := dk_51 (dk_at dksX1_look_0 19 rfl rfl)
theorem dX1_look_20 : decode cX1_look 20 = .ok (.bipush 32, 2) := dk_16 32 (dk_at dksX1_look_0 20 rfl rfl)
theorem dX1_look_22 : decode cX1_look 22 = .ok (.if_icmp .ne 16, 3) := dk_160 0 16 (dk_at dksX1_look_1 0 rfl rfl)
theorem dX1_look_25 : decode cX1_look 25 = .ok (.aload_n 0, 1) := dk_42 (dk_at dksX1_look_1 3 rfl rfl)
theorem dX1_look_26 : decode cX1_look 26 = .ok (.dup, 1) := dk_89 (dk_at dksX1_look_1 4 rfl rfl)
theorem dX1_look_27 : decode cX1_look 27 = .ok (.getfield 92, 3) := dk_180 0 92 (dk_at dksX1_look_1 5 rfl rfl)
theorem dX1_look_30 : decode cX1_look 30 = .ok (.iconst 1, 1) := dk_4 (dk_at dksX1_look_1 8 rfl rfl)
theorem dX1_look_31 : decode cX1_look 31 = .ok (.iadd, 1) := dk_96 (dk_at dksX1_look_1 9 rfl rfl)
theorem dX1_look_32 : decode cX1_look 32 = .ok (.putfield 92, 3) := dk_181 0 92 (dk_at dksX1_look_1 10 rfl rfl)
theorem dX1_look_35 : decode cX1_look 35 = .ok (.goto (-35), 3) := dk_167 255 221 (dk_at dksX1_look_1 13 rfl rfl)
theorem dX1_look_38 : decode cX1_look 38 = .ok (.aload_n 0, 1) := dk_42 (dk_at dksX1_look_1 16 rfl rfl)
theorem dX1_look_39 : decode cX1_look 39 = .ok (.getfield 92, 3) := dk_180 0 92 (dk_at dksX1_look_1 17 rfl rfl)
theorem dX1_look_42 : decode cX1_look 42 = .ok (.aload_n 0, 1) := dk_42 (dk_at dksX1_look_1 20 rfl rfl)
theorem dX1_look_43 : decode cX1_look 43 = .ok (.getfield 89, 3) := dk_180 0 89 (dk_at dksX1_look_1 21 rfl rfl)
theorem dX1_look_46 : decode cX1_look 46 = .ok (.if_icmp .ge 19, 3) := dk_162 0 19 (dk_at dksX1_look_2 0 rfl rfl)
theorem dX1_look_49 : decode cX1_look 49 = .ok (.aload_n 0, 1) := dk_42 (dk_at dksX1_look_2 3 rfl rfl)
theorem dX1_look_50 : decode cX1_look 50 = .ok (.getfield 16, 3) := dk_180 0 16 (dk_at dksX1_look_2 4 rfl rfl)
theorem dX1_look_53 : decode cX1_look 53 = .ok (.aload_n 0, 1) := dk_42 (dk_at dksX1_look_2 7 rfl rfl)
theorem dX1_look_54 : decode cX1_look 54 = .ok (.getfield 92, 3) := dk_180 0 92 (dk_at dksX1_look_2 8 rfl rfl)
theorem dX1_look_57 : decode cX1_look 57 = .ok (.baload, 1) := dk_51 (dk_at dksX1_look_2 11 rfl rfl)
theorem dX1_look_58 : decode cX1_look 58 = .ok (.sipush 255, 3) := dk_17 0 255 (dk_at dksX1_look_2 12 rfl rfl)
theorem dX1_look_61 : decode cX1_look 61 = .ok (.iand, 1) := dk_126 (dk_at dksX1_look_2 15 rfl rfl)
theorem dX1_look_62 : decode cX1_look 62 = .ok (.goto 4, 3) := dk_167 0 4 (dk_at dksX1_look_2 16 rfl rfl)
theorem dX1_look_65 : decode cX1_look 65 = .ok (.iconst (-1), 1) := dk_2 (dk_at dksX1_look_2 19 rfl rfl)
theorem dX1_look_66 : decode cX1_look 66 = .ok (.ireturn, 1) := dk_172 (dk_at dksX1_look_2 20 rfl rfl)
abbrev cX1_need : ByteArray := prog_1_method_9_code
def yX1_need : MethodName := ⟨RX1, "need", "(Z)V"⟩
def dkwX1_need_0 : List UInt8 := [27, 154, 0, 8, 42, 180, 0, 12, 191, 177]
abbrev dktX1_need_0 : List UInt8 := dkwX1_need_0 ++ []
theorem dksX1_need_0 : cX1_need.data.toList.drop 0 = dktX1_need_0 := by decide +kernel
theorem dX1_need_0 : decode cX1_need 0 = .ok (.iload_n 1, 1) := dk_27 (dk_at dksX1_need_0 0 rfl rfl)
theorem dX1_need_1 : decode cX1_need 1 = .ok (.ifCond .ne 8, 3) := dk_154 0 8 (dk_at dksX1_need_0 1 rfl rfl)
theorem dX1_need_4 : decode cX1_need 4 = .ok (.aload_n 0, 1) := dk_42 (dk_at dksX1_need_0 4 rfl rfl)
theorem dX1_need_5 : decode cX1_need 5 = .ok (.getfield 12, 3) := dk_180 0 12 (dk_at dksX1_need_0 5 rfl rfl)
theorem dX1_need_8 : decode cX1_need 8 = .ok (.athrow, 1) := dk_191 (dk_at dksX1_need_0 8 rfl rfl)
theorem dX1_need_9 : decode cX1_need 9 = .ok (.return_, 1) := dk_177 (dk_at dksX1_need_0 9 rfl rfl)
abbrev cX1_sum : ByteArray := prog_1_method_14_code
def yX1_sum : MethodName := ⟨RX1, "sum", "()LLosersBooks$Sum;"⟩
def dkwX1_sum_3 : List UInt8 := [44, 176]
abbrev dktX1_sum_3 : List UInt8 := dkwX1_sum_3 ++ []
def dkwX1_sum_2 : List UInt8 := [29, 42, 182, 0, 148, 182, 0, 144, 42, 182, 0, 102, 62, 167, 255, 207, 44, 199, 0, 7, 43, 167, 0, 4]
abbrev dktX1_sum_2 : List UInt8 := dkwX1_sum_2 ++ dktX1_sum_3
def dkwX1_sum_1 : List UInt8 := [42, 89, 180, 0, 92, 4, 96, 181, 0, 92, 44, 199, 0, 12, 187, 0, 139, 89, 43, 183, 0, 141, 77, 44]
abbrev dktX1_sum_1 : List UInt8 := dkwX1_sum_1 ++ dktX1_sum_2
def dkwX1_sum_0 : List UInt8 := [42, 182, 0, 148, 76, 1, 77, 42, 182, 0, 102, 62, 29, 16, 43, 159, 0, 9, 29, 16, 45, 160, 0, 43]
abbrev dktX1_sum_0 : List UInt8 := dkwX1_sum_0 ++ dktX1_sum_1
theorem dksX1_sum_0 : cX1_sum.data.toList.drop 0 = dktX1_sum_0 := by decide +kernel
theorem dksX1_sum_1 : cX1_sum.data.toList.drop 24 = dktX1_sum_1 := dk_seg dksX1_sum_0 24 rfl rfl
theorem dksX1_sum_2 : cX1_sum.data.toList.drop 48 = dktX1_sum_2 := dk_seg dksX1_sum_1 24 rfl rfl
theorem dksX1_sum_3 : cX1_sum.data.toList.drop 72 = dktX1_sum_3 := dk_seg dksX1_sum_2 24 rfl rfl
theorem dX1_sum_0 : decode cX1_sum 0 = .ok (.aload_n 0, 1) := dk_42 (dk_at dksX1_sum_0 0 rfl rfl)
theorem dX1_sum_1 : decode cX1_sum 1 = .ok (.invokevirtual 148, 3) := dk_182 0 148 (dk_at dksX1_sum_0 1 rfl rfl)
theorem dX1_sum_4 : decode cX1_sum 4 = .ok (.astore_n 1, 1) := dk_76 (dk_at dksX1_sum_0 4 rfl rfl)
theorem dX1_sum_5 : decode cX1_sum 5 = .ok (.aconst_null, 1) := dk_1 (dk_at dksX1_sum_0 5 rfl rfl)
theorem dX1_sum_6 : decode cX1_sum 6 = .ok (.astore_n 2, 1) := dk_77 (dk_at dksX1_sum_0 6 rfl rfl)
theorem dX1_sum_7 : decode cX1_sum 7 = .ok (.aload_n 0, 1) := dk_42 (dk_at dksX1_sum_0 7 rfl rfl)
theorem dX1_sum_8 : decode cX1_sum 8 = .ok (.invokevirtual 102, 3) := dk_182 0 102 (dk_at dksX1_sum_0 8 rfl rfl)
theorem dX1_sum_11 : decode cX1_sum 11 = .ok (.istore_n 3, 1) := dk_62 (dk_at dksX1_sum_0 11 rfl rfl)
theorem dX1_sum_12 : decode cX1_sum 12 = .ok (.iload_n 3, 1) := dk_29 (dk_at dksX1_sum_0 12 rfl rfl)
theorem dX1_sum_13 : decode cX1_sum 13 = .ok (.bipush 43, 2) := dk_16 43 (dk_at dksX1_sum_0 13 rfl rfl)
theorem dX1_sum_15 : decode cX1_sum 15 = .ok (.if_icmp .eq 9, 3) := dk_159 0 9 (dk_at dksX1_sum_0 15 rfl rfl)
theorem dX1_sum_18 : decode cX1_sum 18 = .ok (.iload_n 3, 1) := dk_29 (dk_at dksX1_sum_0 18 rfl rfl)
theorem dX1_sum_19 : decode cX1_sum 19 = .ok (.bipush 45, 2) := dk_16 45 (dk_at dksX1_sum_0 19 rfl rfl)
theorem dX1_sum_21 : decode cX1_sum 21 = .ok (.if_icmp .ne 43, 3) := dk_160 0 43 (dk_at dksX1_sum_0 21 rfl rfl)
theorem dX1_sum_24 : decode cX1_sum 24 = .ok (.aload_n 0, 1) := dk_42 (dk_at dksX1_sum_1 0 rfl rfl)
theorem dX1_sum_25 : decode cX1_sum 25 = .ok (.dup, 1) := dk_89 (dk_at dksX1_sum_1 1 rfl rfl)
theorem dX1_sum_26 : decode cX1_sum 26 = .ok (.getfield 92, 3) := dk_180 0 92 (dk_at dksX1_sum_1 2 rfl rfl)
theorem dX1_sum_29 : decode cX1_sum 29 = .ok (.iconst 1, 1) := dk_4 (dk_at dksX1_sum_1 5 rfl rfl)
theorem dX1_sum_30 : decode cX1_sum 30 = .ok (.iadd, 1) := dk_96 (dk_at dksX1_sum_1 6 rfl rfl)
theorem dX1_sum_31 : decode cX1_sum 31 = .ok (.putfield 92, 3) := dk_181 0 92 (dk_at dksX1_sum_1 7 rfl rfl)
theorem dX1_sum_34 : decode cX1_sum 34 = .ok (.aload_n 2, 1) := dk_44 (dk_at dksX1_sum_1 10 rfl rfl)
theorem dX1_sum_35 : decode cX1_sum 35 = .ok (.ifnonnull 12, 3) := dk_199 0 12 (dk_at dksX1_sum_1 11 rfl rfl)
theorem dX1_sum_38 : decode cX1_sum 38 = .ok (.new 139, 3) := dk_187 0 139 (dk_at dksX1_sum_1 14 rfl rfl)
theorem dX1_sum_41 : decode cX1_sum 41 = .ok (.dup, 1) := dk_89 (dk_at dksX1_sum_1 17 rfl rfl)
theorem dX1_sum_42 : decode cX1_sum 42 = .ok (.aload_n 1, 1) := dk_43 (dk_at dksX1_sum_1 18 rfl rfl)
theorem dX1_sum_43 : decode cX1_sum 43 = .ok (.invokespecial 141, 3) := dk_183 0 141 (dk_at dksX1_sum_1 19 rfl rfl)
theorem dX1_sum_46 : decode cX1_sum 46 = .ok (.astore_n 2, 1) := dk_77 (dk_at dksX1_sum_1 22 rfl rfl)
theorem dX1_sum_47 : decode cX1_sum 47 = .ok (.aload_n 2, 1) := dk_44 (dk_at dksX1_sum_1 23 rfl rfl)
theorem dX1_sum_48 : decode cX1_sum 48 = .ok (.iload_n 3, 1) := dk_29 (dk_at dksX1_sum_2 0 rfl rfl)
theorem dX1_sum_49 : decode cX1_sum 49 = .ok (.aload_n 0, 1) := dk_42 (dk_at dksX1_sum_2 1 rfl rfl)
theorem dX1_sum_50 : decode cX1_sum 50 = .ok (.invokevirtual 148, 3) := dk_182 0 148 (dk_at dksX1_sum_2 2 rfl rfl)
theorem dX1_sum_53 : decode cX1_sum 53 = .ok (.invokevirtual 144, 3) := dk_182 0 144 (dk_at dksX1_sum_2 5 rfl rfl)
theorem dX1_sum_56 : decode cX1_sum 56 = .ok (.aload_n 0, 1) := dk_42 (dk_at dksX1_sum_2 8 rfl rfl)
theorem dX1_sum_57 : decode cX1_sum 57 = .ok (.invokevirtual 102, 3) := dk_182 0 102 (dk_at dksX1_sum_2 9 rfl rfl)
theorem dX1_sum_60 : decode cX1_sum 60 = .ok (.istore_n 3, 1) := dk_62 (dk_at dksX1_sum_2 12 rfl rfl)
theorem dX1_sum_61 : decode cX1_sum 61 = .ok (.goto (-49), 3) := dk_167 255 207 (dk_at dksX1_sum_2 13 rfl rfl)
theorem dX1_sum_64 : decode cX1_sum 64 = .ok (.aload_n 2, 1) := dk_44 (dk_at dksX1_sum_2 16 rfl rfl)
theorem dX1_sum_65 : decode cX1_sum 65 = .ok (.ifnonnull 7, 3) := dk_199 0 7 (dk_at dksX1_sum_2 17 rfl rfl)
theorem dX1_sum_68 : decode cX1_sum 68 = .ok (.aload_n 1, 1) := dk_43 (dk_at dksX1_sum_2 20 rfl rfl)
theorem dX1_sum_69 : decode cX1_sum 69 = .ok (.goto 4, 3) := dk_167 0 4 (dk_at dksX1_sum_2 21 rfl rfl)
theorem dX1_sum_72 : decode cX1_sum 72 = .ok (.aload_n 2, 1) := dk_44 (dk_at dksX1_sum_3 0 rfl rfl)
theorem dX1_sum_73 : decode cX1_sum 73 = .ok (.areturn, 1) := dk_176 (dk_at dksX1_sum_3 1 rfl rfl)
abbrev cX1_term : ByteArray := prog_1_method_13_code
def yX1_term : MethodName := ⟨RX1, "term", "()LLosersBooks$Sum;"⟩
def dkwX1_term_3 : List UInt8 := [44, 176]
abbrev dktX1_term_3 : List UInt8 := dkwX1_term_3 ++ []
def dkwX1_term_2 : List UInt8 := [29, 42, 182, 0, 136, 182, 0, 144, 42, 182, 0, 102, 62, 167, 255, 207, 44, 199, 0, 7, 43, 167, 0, 4]
abbrev dktX1_term_2 : List UInt8 := dkwX1_term_2 ++ dktX1_term_3
def dkwX1_term_1 : List UInt8 := [42, 89, 180, 0, 92, 4, 96, 181, 0, 92, 44, 199, 0, 12, 187, 0, 139, 89, 43, 183, 0, 141, 77, 44]
abbrev dktX1_term_1 : List UInt8 := dkwX1_term_1 ++ dktX1_term_2
def dkwX1_term_0 : List UInt8 := [42, 182, 0, 136, 76, 1, 77, 42, 182, 0, 102, 62, 29, 16, 42, 159, 0, 9, 29, 16, 47, 160, 0, 43]
abbrev dktX1_term_0 : List UInt8 := dkwX1_term_0 ++ dktX1_term_1
theorem dksX1_term_0 : cX1_term.data.toList.drop 0 = dktX1_term_0 := by decide +kernel
theorem dksX1_term_1 : cX1_term.data.toList.drop 24 = dktX1_term_1 := dk_seg dksX1_term_0 24 rfl rfl
theorem dksX1_term_2 : cX1_term.data.toList.drop 48 = dktX1_term_2 := dk_seg dksX1_term_1 24 rfl rfl
theorem dksX1_term_3 : cX1_term.data.toList.drop 72 = dktX1_term_3 := dk_seg dksX1_term_2 24 rfl rfl
theorem dX1_term_0 : decode cX1_term 0 = .ok (.aload_n 0, 1) := dk_42 (dk_at dksX1_term_0 0 rfl rfl)
theorem dX1_term_1 : decode cX1_term 1 = .ok (.invokevirtual 136, 3) := dk_182 0 136 (dk_at dksX1_term_0 1 rfl rfl)
theorem dX1_term_4 : decode cX1_term 4 = .ok (.astore_n 1, 1) := dk_76 (dk_at dksX1_term_0 4 rfl rfl)
theorem dX1_term_5 : decode cX1_term 5 = .ok (.aconst_null, 1) := dk_1 (dk_at dksX1_term_0 5 rfl rfl)
theorem dX1_term_6 : decode cX1_term 6 = .ok (.astore_n 2, 1) := dk_77 (dk_at dksX1_term_0 6 rfl rfl)
theorem dX1_term_7 : decode cX1_term 7 = .ok (.aload_n 0, 1) := dk_42 (dk_at dksX1_term_0 7 rfl rfl)
theorem dX1_term_8 : decode cX1_term 8 = .ok (.invokevirtual 102, 3) := dk_182 0 102 (dk_at dksX1_term_0 8 rfl rfl)
theorem dX1_term_11 : decode cX1_term 11 = .ok (.istore_n 3, 1) := dk_62 (dk_at dksX1_term_0 11 rfl rfl)
theorem dX1_term_12 : decode cX1_term 12 = .ok (.iload_n 3, 1) := dk_29 (dk_at dksX1_term_0 12 rfl rfl)
theorem dX1_term_13 : decode cX1_term 13 = .ok (.bipush 42, 2) := dk_16 42 (dk_at dksX1_term_0 13 rfl rfl)
theorem dX1_term_15 : decode cX1_term 15 = .ok (.if_icmp .eq 9, 3) := dk_159 0 9 (dk_at dksX1_term_0 15 rfl rfl)
theorem dX1_term_18 : decode cX1_term 18 = .ok (.iload_n 3, 1) := dk_29 (dk_at dksX1_term_0 18 rfl rfl)
theorem dX1_term_19 : decode cX1_term 19 = .ok (.bipush 47, 2) := dk_16 47 (dk_at dksX1_term_0 19 rfl rfl)
theorem dX1_term_21 : decode cX1_term 21 = .ok (.if_icmp .ne 43, 3) := dk_160 0 43 (dk_at dksX1_term_0 21 rfl rfl)
theorem dX1_term_24 : decode cX1_term 24 = .ok (.aload_n 0, 1) := dk_42 (dk_at dksX1_term_1 0 rfl rfl)
theorem dX1_term_25 : decode cX1_term 25 = .ok (.dup, 1) := dk_89 (dk_at dksX1_term_1 1 rfl rfl)
theorem dX1_term_26 : decode cX1_term 26 = .ok (.getfield 92, 3) := dk_180 0 92 (dk_at dksX1_term_1 2 rfl rfl)
theorem dX1_term_29 : decode cX1_term 29 = .ok (.iconst 1, 1) := dk_4 (dk_at dksX1_term_1 5 rfl rfl)
theorem dX1_term_30 : decode cX1_term 30 = .ok (.iadd, 1) := dk_96 (dk_at dksX1_term_1 6 rfl rfl)
theorem dX1_term_31 : decode cX1_term 31 = .ok (.putfield 92, 3) := dk_181 0 92 (dk_at dksX1_term_1 7 rfl rfl)
theorem dX1_term_34 : decode cX1_term 34 = .ok (.aload_n 2, 1) := dk_44 (dk_at dksX1_term_1 10 rfl rfl)
theorem dX1_term_35 : decode cX1_term 35 = .ok (.ifnonnull 12, 3) := dk_199 0 12 (dk_at dksX1_term_1 11 rfl rfl)
theorem dX1_term_38 : decode cX1_term 38 = .ok (.new 139, 3) := dk_187 0 139 (dk_at dksX1_term_1 14 rfl rfl)
theorem dX1_term_41 : decode cX1_term 41 = .ok (.dup, 1) := dk_89 (dk_at dksX1_term_1 17 rfl rfl)
theorem dX1_term_42 : decode cX1_term 42 = .ok (.aload_n 1, 1) := dk_43 (dk_at dksX1_term_1 18 rfl rfl)
theorem dX1_term_43 : decode cX1_term 43 = .ok (.invokespecial 141, 3) := dk_183 0 141 (dk_at dksX1_term_1 19 rfl rfl)
theorem dX1_term_46 : decode cX1_term 46 = .ok (.astore_n 2, 1) := dk_77 (dk_at dksX1_term_1 22 rfl rfl)
theorem dX1_term_47 : decode cX1_term 47 = .ok (.aload_n 2, 1) := dk_44 (dk_at dksX1_term_1 23 rfl rfl)
theorem dX1_term_48 : decode cX1_term 48 = .ok (.iload_n 3, 1) := dk_29 (dk_at dksX1_term_2 0 rfl rfl)
theorem dX1_term_49 : decode cX1_term 49 = .ok (.aload_n 0, 1) := dk_42 (dk_at dksX1_term_2 1 rfl rfl)
theorem dX1_term_50 : decode cX1_term 50 = .ok (.invokevirtual 136, 3) := dk_182 0 136 (dk_at dksX1_term_2 2 rfl rfl)
theorem dX1_term_53 : decode cX1_term 53 = .ok (.invokevirtual 144, 3) := dk_182 0 144 (dk_at dksX1_term_2 5 rfl rfl)
theorem dX1_term_56 : decode cX1_term 56 = .ok (.aload_n 0, 1) := dk_42 (dk_at dksX1_term_2 8 rfl rfl)
theorem dX1_term_57 : decode cX1_term 57 = .ok (.invokevirtual 102, 3) := dk_182 0 102 (dk_at dksX1_term_2 9 rfl rfl)
theorem dX1_term_60 : decode cX1_term 60 = .ok (.istore_n 3, 1) := dk_62 (dk_at dksX1_term_2 12 rfl rfl)
theorem dX1_term_61 : decode cX1_term 61 = .ok (.goto (-49), 3) := dk_167 255 207 (dk_at dksX1_term_2 13 rfl rfl)
theorem dX1_term_64 : decode cX1_term 64 = .ok (.aload_n 2, 1) := dk_44 (dk_at dksX1_term_2 16 rfl rfl)
theorem dX1_term_65 : decode cX1_term 65 = .ok (.ifnonnull 7, 3) := dk_199 0 7 (dk_at dksX1_term_2 17 rfl rfl)
theorem dX1_term_68 : decode cX1_term 68 = .ok (.aload_n 1, 1) := dk_43 (dk_at dksX1_term_2 20 rfl rfl)
theorem dX1_term_69 : decode cX1_term 69 = .ok (.goto 4, 3) := dk_167 0 4 (dk_at dksX1_term_2 21 rfl rfl)
theorem dX1_term_72 : decode cX1_term 72 = .ok (.aload_n 2, 1) := dk_44 (dk_at dksX1_term_3 0 rfl rfl)
theorem dX1_term_73 : decode cX1_term 73 = .ok (.areturn, 1) := dk_176 (dk_at dksX1_term_3 1 rfl rfl)
abbrev cX1_atom : ByteArray := prog_1_method_12_code
def yX1_atom : MethodName := ⟨RX1, "atom", "()LLosersBooks$Sum;"⟩
def dkwX1_atom_6 : List UInt8 := [132, 3, 1, 167, 255, 185, 187, 0, 133, 89, 28, 183, 0, 135, 176]
abbrev dktX1_atom_6 : List UInt8 := dkwX1_atom_6 ++ []
def dkwX1_atom_5 : List UInt8 := [180, 0, 16, 42, 180, 0, 92, 51, 96, 16, 48, 100, 61, 42, 89, 180, 0, 92, 4, 96, 181, 0, 92]
abbrev dktX1_atom_5 : List UInt8 := dkwX1_atom_5 ++ dktX1_atom_6
def dkwX1_atom_4 : List UInt8 := [153, 0, 51, 42, 29, 7, 162, 0, 7, 4, 167, 0, 4, 3, 182, 0, 98, 16, 10, 28, 104, 42]
abbrev dktX1_atom_4 : List UInt8 := dkwX1_atom_4 ++ dktX1_atom_5
def dkwX1_atom_3 : List UInt8 := [62, 42, 180, 0, 92, 42, 180, 0, 89, 162, 0, 66, 42, 180, 0, 16, 42, 180, 0, 92, 51, 184, 0, 129]
abbrev dktX1_atom_3 : List UInt8 := dkwX1_atom_3 ++ dktX1_atom_4
def dkwX1_atom_2 : List UInt8 := [96, 181, 0, 92, 187, 0, 125, 89, 27, 183, 0, 127, 176, 42, 27, 184, 0, 129, 182, 0, 98, 3, 61, 3]
abbrev dktX1_atom_2 : List UInt8 := dkwX1_atom_2 ++ dktX1_atom_3
def dkwX1_atom_1 : List UInt8 := [182, 0, 113, 44, 176, 27, 158, 0, 31, 18, 117, 27, 182, 0, 119, 155, 0, 22, 42, 89, 180, 0, 92, 4]
abbrev dktX1_atom_1 : List UInt8 := dkwX1_atom_1 ++ dktX1_atom_2
def dkwX1_atom_0 : List UInt8 := [42, 182, 0, 102, 60, 27, 16, 91, 160, 0, 20, 42, 182, 0, 106, 42, 182, 0, 109, 77, 42, 16, 93]
abbrev dktX1_atom_0 : List UInt8 := dkwX1_atom_0 ++ dktX1_atom_1
theorem dksX1_atom_0 : cX1_atom.data.toList.drop 0 = dktX1_atom_0 := by decide +kernel
theorem dksX1_atom_1 : cX1_atom.data.toList.drop 23 = dktX1_atom_1 := dk_seg dksX1_atom_0 23 rfl rfl
theorem dksX1_atom_2 : cX1_atom.data.toList.drop 47 = dktX1_atom_2 := dk_seg dksX1_atom_1 24 rfl rfl
theorem dksX1_atom_3 : cX1_atom.data.toList.drop 71 = dktX1_atom_3 := dk_seg dksX1_atom_2 24 rfl rfl
theorem dksX1_atom_4 : cX1_atom.data.toList.drop 95 = dktX1_atom_4 := dk_seg dksX1_atom_3 24 rfl rfl
theorem dksX1_atom_5 : cX1_atom.data.toList.drop 117 = dktX1_atom_5 := dk_seg dksX1_atom_4 22 rfl rfl
theorem dksX1_atom_6 : cX1_atom.data.toList.drop 140 = dktX1_atom_6 := dk_seg dksX1_atom_5 23 rfl rfl
theorem dX1_atom_0 : decode cX1_atom 0 = .ok (.aload_n 0, 1) := dk_42 (dk_at dksX1_atom_0 0 rfl rfl)
theorem dX1_atom_1 : decode cX1_atom 1 = .ok (.invokevirtual 102, 3) := dk_182 0 102 (dk_at dksX1_atom_0 1 rfl rfl)
theorem dX1_atom_4 : decode cX1_atom 4 = .ok (.istore_n 1, 1) := dk_60 (dk_at dksX1_atom_0 4 rfl rfl)
theorem dX1_atom_5 : decode cX1_atom 5 = .ok (.iload_n 1, 1) := dk_27 (dk_at dksX1_atom_0 5 rfl rfl)
theorem dX1_atom_6 : decode cX1_atom 6 = .ok (.bipush 91, 2) := dk_16 91 (dk_at dksX1_atom_0 6 rfl rfl)
theorem dX1_atom_8 : decode cX1_atom 8 = .ok (.if_icmp .ne 20, 3) := dk_160 0 20 (dk_at dksX1_atom_0 8 rfl rfl)
theorem dX1_atom_11 : decode cX1_atom 11 = .ok (.aload_n 0, 1) := dk_42 (dk_at dksX1_atom_0 11 rfl rfl)
theorem dX1_atom_12 : decode cX1_atom 12 = .ok (.invokevirtual 106, 3) := dk_182 0 106 (dk_at dksX1_atom_0 12 rfl rfl)
theorem dX1_atom_15 : decode cX1_atom 15 = .ok (.aload_n 0, 1) := dk_42 (dk_at dksX1_atom_0 15 rfl rfl)
theorem dX1_atom_16 : decode cX1_atom 16 = .ok (.invokevirtual 109, 3) := dk_182 0 109 (dk_at dksX1_atom_0 16 rfl rfl)
theorem dX1_atom_19 : decode cX1_atom 19 = .ok (.astore_n 2, 1) := dk_77 (dk_at dksX1_atom_0 19 rfl rfl)
theorem dX1_atom_20 : decode cX1_atom 20 = .ok (.aload_n 0, 1) := dk_42 (dk_at dksX1_atom_0 20 rfl rfl)
theorem dX1_atom_21 : decode cX1_atom 21 = .ok (.bipush 93, 2) := dk_16 93 (dk_at dksX1_atom_0 21 rfl rfl)
theorem dX1_atom_23 : decode cX1_atom 23 = .ok (.invokevirtual 113, 3) := dk_182 0 113 (dk_at dksX1_atom_1 0 rfl rfl)
theorem dX1_atom_26 : decode cX1_atom 26 = .ok (.aload_n 2, 1) := dk_44 (dk_at dksX1_atom_1 3 rfl rfl)
theorem dX1_atom_27 : decode cX1_atom 27 = .ok (.areturn, 1) := dk_176 (dk_at dksX1_atom_1 4 rfl rfl)
theorem dX1_atom_28 : decode cX1_atom 28 = .ok (.iload_n 1, 1) := dk_27 (dk_at dksX1_atom_1 5 rfl rfl)
theorem dX1_atom_29 : decode cX1_atom 29 = .ok (.ifCond .le 31, 3) := dk_158 0 31 (dk_at dksX1_atom_1 6 rfl rfl)
theorem dX1_atom_32 : decode cX1_atom 32 = .ok (.ldc 117, 2) := dk_18 117 (dk_at dksX1_atom_1 9 rfl rfl)
theorem dX1_atom_34 : decode cX1_atom 34 = .ok (.iload_n 1, 1) := dk_27 (dk_at dksX1_atom_1 11 rfl rfl)
theorem dX1_atom_35 : decode cX1_atom 35 = .ok (.invokevirtual 119, 3) := dk_182 0 119 (dk_at dksX1_atom_1 12 rfl rfl)
theorem dX1_atom_38 : decode cX1_atom 38 = .ok (.ifCond .lt 22, 3) := dk_155 0 22 (dk_at dksX1_atom_1 15 rfl rfl)
theorem dX1_atom_41 : decode cX1_atom 41 = .ok (.aload_n 0, 1) := dk_42 (dk_at dksX1_atom_1 18 rfl rfl)
theorem dX1_atom_42 : decode cX1_atom 42 = .ok (.dup, 1) := dk_89 (dk_at dksX1_atom_1 19 rfl rfl)
theorem dX1_atom_43 : decode cX1_atom 43 = .ok (.getfield 92, 3) := dk_180 0 92 (dk_at dksX1_atom_1 20 rfl rfl)
theorem dX1_atom_46 : decode cX1_atom 46 = .ok (.iconst 1, 1) := dk_4 (dk_at dksX1_atom_1 23 rfl rfl)
theorem dX1_atom_47 : decode cX1_atom 47 = .ok (.iadd, 1) := dk_96 (dk_at dksX1_atom_2 0 rfl rfl)
theorem dX1_atom_48 : decode cX1_atom 48 = .ok (.putfield 92, 3) := dk_181 0 92 (dk_at dksX1_atom_2 1 rfl rfl)
theorem dX1_atom_51 : decode cX1_atom 51 = .ok (.new 125, 3) := dk_187 0 125 (dk_at dksX1_atom_2 4 rfl rfl)
theorem dX1_atom_54 : decode cX1_atom 54 = .ok (.dup, 1) := dk_89 (dk_at dksX1_atom_2 7 rfl rfl)
theorem dX1_atom_55 : decode cX1_atom 55 = .ok (.iload_n 1, 1) := dk_27 (dk_at dksX1_atom_2 8 rfl rfl)
theorem dX1_atom_56 : decode cX1_atom 56 = .ok (.invokespecial 127, 3) := dk_183 0 127 (dk_at dksX1_atom_2 9 rfl rfl)
theorem dX1_atom_59 : decode cX1_atom 59 = .ok (.areturn, 1) := dk_176 (dk_at dksX1_atom_2 12 rfl rfl)
theorem dX1_atom_60 : decode cX1_atom 60 = .ok (.aload_n 0, 1) := dk_42 (dk_at dksX1_atom_2 13 rfl rfl)
theorem dX1_atom_61 : decode cX1_atom 61 = .ok (.iload_n 1, 1) := dk_27 (dk_at dksX1_atom_2 14 rfl rfl)
theorem dX1_atom_62 : decode cX1_atom 62 = .ok (.invokestatic 129, 3) := dk_184 0 129 (dk_at dksX1_atom_2 15 rfl rfl)
theorem dX1_atom_65 : decode cX1_atom 65 = .ok (.invokevirtual 98, 3) := dk_182 0 98 (dk_at dksX1_atom_2 18 rfl rfl)
theorem dX1_atom_68 : decode cX1_atom 68 = .ok (.iconst 0, 1) := dk_3 (dk_at dksX1_atom_2 21 rfl rfl)
theorem dX1_atom_69 : decode cX1_atom 69 = .ok (.istore_n 2, 1) := dk_61 (dk_at dksX1_atom_2 22 rfl rfl)
theorem dX1_atom_70 : decode cX1_atom 70 = .ok (.iconst 0, 1) := dk_3 (dk_at dksX1_atom_2 23 rfl rfl)
theorem dX1_atom_71 : decode cX1_atom 71 = .ok (.istore_n 3, 1) := dk_62 (dk_at dksX1_atom_3 0 rfl rfl)
theorem dX1_atom_72 : decode cX1_atom 72 = .ok (.aload_n 0, 1) := dk_42 (dk_at dksX1_atom_3 1 rfl rfl)
theorem dX1_atom_73 : decode cX1_atom 73 = .ok (.getfield 92, 3) := dk_180 0 92 (dk_at dksX1_atom_3 2 rfl rfl)
theorem dX1_atom_76 : decode cX1_atom 76 = .ok (.aload_n 0, 1) := dk_42 (dk_at dksX1_atom_3 5 rfl rfl)
theorem dX1_atom_77 : decode cX1_atom 77 = .ok (.getfield 89, 3) := dk_180 0 89 (dk_at dksX1_atom_3 6 rfl rfl)
theorem dX1_atom_80 : decode cX1_atom 80 = .ok (.if_icmp .ge 66, 3) := dk_162 0 66 (dk_at dksX1_atom_3 9 rfl rfl)
theorem dX1_atom_83 : decode cX1_atom 83 = .ok (.aload_n 0, 1) := dk_42 (dk_at dksX1_atom_3 12 rfl rfl)
theorem dX1_atom_84 : decode cX1_atom 84 = .ok (.getfield 16, 3) := dk_180 0 16 (dk_at dksX1_atom_3 13 rfl rfl)
theorem dX1_atom_87 : decode cX1_atom 87 = .ok (.aload_n 0, 1) := dk_42 (dk_at dksX1_atom_3 16 rfl rfl)
theorem dX1_atom_88 : decode cX1_atom 88 = .ok (.getfield 92, 3) := dk_180 0 92 (dk_at dksX1_atom_3 17 rfl rfl)
theorem dX1_atom_91 : decode cX1_atom 91 = .ok (.baload, 1) := dk_51 (dk_at dksX1_atom_3 20 rfl rfl)
theorem dX1_atom_92 : decode cX1_atom 92 = .ok (.invokestatic 129, 3) := dk_184 0 129 (dk_at dksX1_atom_3 21 rfl rfl)
theorem dX1_atom_95 : decode cX1_atom 95 = .ok (.ifCond .eq 51, 3) := dk_153 0 51 (dk_at dksX1_atom_4 0 rfl rfl)
theorem dX1_atom_98 : decode cX1_atom 98 = .ok (.aload_n 0, 1) := dk_42 (dk_at dksX1_atom_4 3 rfl rfl)
theorem dX1_atom_99 : decode cX1_atom 99 = .ok (.iload_n 3, 1) := dk_29 (dk_at dksX1_atom_4 4 rfl rfl)
theorem dX1_atom_100 : decode cX1_atom 100 = .ok (.iconst 4, 1) := dk_7 (dk_at dksX1_atom_4 5 rfl rfl)
theorem dX1_atom_101 : decode cX1_atom 101 = .ok (.if_icmp .ge 7, 3) := dk_162 0 7 (dk_at dksX1_atom_4 6 rfl rfl)
theorem dX1_atom_104 : decode cX1_atom 104 = .ok (.iconst 1, 1) := dk_4 (dk_at dksX1_atom_4 9 rfl rfl)
theorem dX1_atom_105 : decode cX1_atom 105 = .ok (.goto 4, 3) := dk_167 0 4 (dk_at dksX1_atom_4 10 rfl rfl)
theorem dX1_atom_108 : decode cX1_atom 108 = .ok (.iconst 0, 1) := dk_3 (dk_at dksX1_atom_4 13 rfl rfl)
theorem dX1_atom_109 : decode cX1_atom 109 = .ok (.invokevirtual 98, 3) := dk_182 0 98 (dk_at dksX1_atom_4 14 rfl rfl)
theorem dX1_atom_112 : decode cX1_atom 112 = .ok (.bipush 10, 2) := dk_16 10 (dk_at dksX1_atom_4 17 rfl rfl)
theorem dX1_atom_114 : decode cX1_atom 114 = .ok (.iload_n 2, 1) := dk_28 (dk_at dksX1_atom_4 19 rfl rfl)
theorem dX1_atom_115 : decode cX1_atom 115 = .ok (.imul, 1) := dk_104 (dk_at dksX1_atom_4 20 rfl rfl)
theorem dX1_atom_116 : decode cX1_atom 116 = .ok (.aload_n 0, 1) := dk_42 (dk_at dksX1_atom_4 21 rfl rfl)
theorem dX1_atom_117 : decode cX1_atom 117 = .ok (.getfield 16, 3) := dk_180 0 16 (dk_at dksX1_atom_5 0 rfl rfl)
theorem dX1_atom_120 : decode cX1_atom 120 = .ok (.aload_n 0, 1) := dk_42 (dk_at dksX1_atom_5 3 rfl rfl)
theorem dX1_atom_121 : decode cX1_atom 121 = .ok (.getfield 92, 3) := dk_180 0 92 (dk_at dksX1_atom_5 4 rfl rfl)
theorem dX1_atom_124 : decode cX1_atom 124 = .ok (.baload, 1) := dk_51 (dk_at dksX1_atom_5 7 rfl rfl)
theorem dX1_atom_125 : decode cX1_atom 125 = .ok (.iadd, 1) := dk_96 (dk_at dksX1_atom_5 8 rfl rfl)
theorem dX1_atom_126 : decode cX1_atom 126 = .ok (.bipush 48, 2) := dk_16 48 (dk_at dksX1_atom_5 9 rfl rfl)
theorem dX1_atom_128 : decode cX1_atom 128 = .ok (.isub, 1) := dk_100 (dk_at dksX1_atom_5 11 rfl rfl)
theorem dX1_atom_129 : decode cX1_atom 129 = .ok (.istore_n 2, 1) := dk_61 (dk_at dksX1_atom_5 12 rfl rfl)
theorem dX1_atom_130 : decode cX1_atom 130 = .ok (.aload_n 0, 1) := dk_42 (dk_at dksX1_atom_5 13 rfl rfl)
theorem dX1_atom_131 : decode cX1_atom 131 = .ok (.dup, 1) := dk_89 (dk_at dksX1_atom_5 14 rfl rfl)
theorem dX1_atom_132 : decode cX1_atom 132 = .ok (.getfield 92, 3) := dk_180 0 92 (dk_at dksX1_atom_5 15 rfl rfl)
theorem dX1_atom_135 : decode cX1_atom 135 = .ok (.iconst 1, 1) := dk_4 (dk_at dksX1_atom_5 18 rfl rfl)
theorem dX1_atom_136 : decode cX1_atom 136 = .ok (.iadd, 1) := dk_96 (dk_at dksX1_atom_5 19 rfl rfl)
theorem dX1_atom_137 : decode cX1_atom 137 = .ok (.putfield 92, 3) := dk_181 0 92 (dk_at dksX1_atom_5 20 rfl rfl)
theorem dX1_atom_140 : decode cX1_atom 140 = .ok (.iinc 3 1, 3) := dk_132 3 1 (dk_at dksX1_atom_6 0 rfl rfl)
theorem dX1_atom_143 : decode cX1_atom 143 = .ok (.goto (-71), 3) := dk_167 255 185 (dk_at dksX1_atom_6 3 rfl rfl)
theorem dX1_atom_146 : decode cX1_atom 146 = .ok (.new 133, 3) := dk_187 0 133 (dk_at dksX1_atom_6 6 rfl rfl)
theorem dX1_atom_149 : decode cX1_atom 149 = .ok (.dup, 1) := dk_89 (dk_at dksX1_atom_6 9 rfl rfl)
theorem dX1_atom_150 : decode cX1_atom 150 = .ok (.iload_n 2, 1) := dk_28 (dk_at dksX1_atom_6 10 rfl rfl)
theorem dX1_atom_151 : decode cX1_atom 151 = .ok (.invokespecial 135, 3) := dk_183 0 135 (dk_at dksX1_atom_6 11 rfl rfl)
theorem dX1_atom_154 : decode cX1_atom 154 = .ok (.areturn, 1) := dk_176 (dk_at dksX1_atom_6 14 rfl rfl)
abbrev cX1_opens : ByteArray := prog_1_method_10_code
def yX1_opens : MethodName := ⟨RX1, "opens", "()V"⟩
def dkwX1_opens_1 : List UInt8 := [96, 181, 0, 95, 42, 89, 180, 0, 92, 4, 96, 181, 0, 92, 177]
abbrev dktX1_opens_1 : List UInt8 := dkwX1_opens_1 ++ []
def dkwX1_opens_0 : List UInt8 := [42, 42, 180, 0, 95, 16, 6, 162, 0, 7, 4, 167, 0, 4, 3, 182, 0, 98, 42, 89, 180, 0, 95, 4]
abbrev dktX1_opens_0 : List UInt8 := dkwX1_opens_0 ++ dktX1_opens_1
theorem dksX1_opens_0 : cX1_opens.data.toList.drop 0 = dktX1_opens_0 := by decide +kernel
theorem dksX1_opens_1 : cX1_opens.data.toList.drop 24 = dktX1_opens_1 := dk_seg dksX1_opens_0 24 rfl rfl
theorem dX1_opens_0 : decode cX1_opens 0 = .ok (.aload_n 0, 1) := dk_42 (dk_at dksX1_opens_0 0 rfl rfl)
theorem dX1_opens_1 : decode cX1_opens 1 = .ok (.aload_n 0, 1) := dk_42 (dk_at dksX1_opens_0 1 rfl rfl)
theorem dX1_opens_2 : decode cX1_opens 2 = .ok (.getfield 95, 3) := dk_180 0 95 (dk_at dksX1_opens_0 2 rfl rfl)
theorem dX1_opens_5 : decode cX1_opens 5 = .ok (.bipush 6, 2) := dk_16 6 (dk_at dksX1_opens_0 5 rfl rfl)
theorem dX1_opens_7 : decode cX1_opens 7 = .ok (.if_icmp .ge 7, 3) := dk_162 0 7 (dk_at dksX1_opens_0 7 rfl rfl)
theorem dX1_opens_10 : decode cX1_opens 10 = .ok (.iconst 1, 1) := dk_4 (dk_at dksX1_opens_0 10 rfl rfl)
theorem dX1_opens_11 : decode cX1_opens 11 = .ok (.goto 4, 3) := dk_167 0 4 (dk_at dksX1_opens_0 11 rfl rfl)
theorem dX1_opens_14 : decode cX1_opens 14 = .ok (.iconst 0, 1) := dk_3 (dk_at dksX1_opens_0 14 rfl rfl)
theorem dX1_opens_15 : decode cX1_opens 15 = .ok (.invokevirtual 98, 3) := dk_182 0 98 (dk_at dksX1_opens_0 15 rfl rfl)
theorem dX1_opens_18 : decode cX1_opens 18 = .ok (.aload_n 0, 1) := dk_42 (dk_at dksX1_opens_0 18 rfl rfl)
theorem dX1_opens_19 : decode cX1_opens 19 = .ok (.dup, 1) := dk_89 (dk_at dksX1_opens_0 19 rfl rfl)
theorem dX1_opens_20 : decode cX1_opens 20 = .ok (.getfield 95, 3) := dk_180 0 95 (dk_at dksX1_opens_0 20 rfl rfl)
theorem dX1_opens_23 : decode cX1_opens 23 = .ok (.iconst 1, 1) := dk_4 (dk_at dksX1_opens_0 23 rfl rfl)
theorem dX1_opens_24 : decode cX1_opens 24 = .ok (.iadd, 1) := dk_96 (dk_at dksX1_opens_1 0 rfl rfl)
theorem dX1_opens_25 : decode cX1_opens 25 = .ok (.putfield 95, 3) := dk_181 0 95 (dk_at dksX1_opens_1 1 rfl rfl)
theorem dX1_opens_28 : decode cX1_opens 28 = .ok (.aload_n 0, 1) := dk_42 (dk_at dksX1_opens_1 4 rfl rfl)
theorem dX1_opens_29 : decode cX1_opens 29 = .ok (.dup, 1) := dk_89 (dk_at dksX1_opens_1 5 rfl rfl)
theorem dX1_opens_30 : decode cX1_opens 30 = .ok (.getfield 92, 3) := dk_180 0 92 (dk_at dksX1_opens_1 6 rfl rfl)
theorem dX1_opens_33 : decode cX1_opens 33 = .ok (.iconst 1, 1) := dk_4 (dk_at dksX1_opens_1 9 rfl rfl)
theorem dX1_opens_34 : decode cX1_opens 34 = .ok (.iadd, 1) := dk_96 (dk_at dksX1_opens_1 10 rfl rfl)
theorem dX1_opens_35 : decode cX1_opens 35 = .ok (.putfield 92, 3) := dk_181 0 92 (dk_at dksX1_opens_1 11 rfl rfl)
theorem dX1_opens_38 : decode cX1_opens 38 = .ok (.return_, 1) := dk_177 (dk_at dksX1_opens_1 14 rfl rfl)
abbrev cX1_closes : ByteArray := prog_1_method_11_code
def yX1_closes : MethodName := ⟨RX1, "closes", "(I)V"⟩
def dkwX1_closes_1 : List UInt8 := [181, 0, 92, 42, 89, 180, 0, 95, 4, 100, 181, 0, 95, 177]
abbrev dktX1_closes_1 : List UInt8 := dkwX1_closes_1 ++ []
def dkwX1_closes_0 : List UInt8 := [42, 42, 182, 0, 102, 27, 160, 0, 7, 4, 167, 0, 4, 3, 182, 0, 98, 42, 89, 180, 0, 92, 4, 96]
abbrev dktX1_closes_0 : List UInt8 := dkwX1_closes_0 ++ dktX1_closes_1
theorem dksX1_closes_0 : cX1_closes.data.toList.drop 0 = dktX1_closes_0 := by decide +kernel
theorem dksX1_closes_1 : cX1_closes.data.toList.drop 24 = dktX1_closes_1 := dk_seg dksX1_closes_0 24 rfl rfl
theorem dX1_closes_0 : decode cX1_closes 0 = .ok (.aload_n 0, 1) := dk_42 (dk_at dksX1_closes_0 0 rfl rfl)
theorem dX1_closes_1 : decode cX1_closes 1 = .ok (.aload_n 0, 1) := dk_42 (dk_at dksX1_closes_0 1 rfl rfl)
theorem dX1_closes_2 : decode cX1_closes 2 = .ok (.invokevirtual 102, 3) := dk_182 0 102 (dk_at dksX1_closes_0 2 rfl rfl)
theorem dX1_closes_5 : decode cX1_closes 5 = .ok (.iload_n 1, 1) := dk_27 (dk_at dksX1_closes_0 5 rfl rfl)
theorem dX1_closes_6 : decode cX1_closes 6 = .ok (.if_icmp .ne 7, 3) := dk_160 0 7 (dk_at dksX1_closes_0 6 rfl rfl)
theorem dX1_closes_9 : decode cX1_closes 9 = .ok (.iconst 1, 1) := dk_4 (dk_at dksX1_closes_0 9 rfl rfl)
theorem dX1_closes_10 : decode cX1_closes 10 = .ok (.goto 4, 3) := dk_167 0 4 (dk_at dksX1_closes_0 10 rfl rfl)
theorem dX1_closes_13 : decode cX1_closes 13 = .ok (.iconst 0, 1) := dk_3 (dk_at dksX1_closes_0 13 rfl rfl)
theorem dX1_closes_14 : decode cX1_closes 14 = .ok (.invokevirtual 98, 3) := dk_182 0 98 (dk_at dksX1_closes_0 14 rfl rfl)
theorem dX1_closes_17 : decode cX1_closes 17 = .ok (.aload_n 0, 1) := dk_42 (dk_at dksX1_closes_0 17 rfl rfl)
theorem dX1_closes_18 : decode cX1_closes 18 = .ok (.dup, 1) := dk_89 (dk_at dksX1_closes_0 18 rfl rfl)
theorem dX1_closes_19 : decode cX1_closes 19 = .ok (.getfield 92, 3) := dk_180 0 92 (dk_at dksX1_closes_0 19 rfl rfl)
theorem dX1_closes_22 : decode cX1_closes 22 = .ok (.iconst 1, 1) := dk_4 (dk_at dksX1_closes_0 22 rfl rfl)
theorem dX1_closes_23 : decode cX1_closes 23 = .ok (.iadd, 1) := dk_96 (dk_at dksX1_closes_0 23 rfl rfl)
theorem dX1_closes_24 : decode cX1_closes 24 = .ok (.putfield 92, 3) := dk_181 0 92 (dk_at dksX1_closes_1 0 rfl rfl)
theorem dX1_closes_27 : decode cX1_closes 27 = .ok (.aload_n 0, 1) := dk_42 (dk_at dksX1_closes_1 3 rfl rfl)
theorem dX1_closes_28 : decode cX1_closes 28 = .ok (.dup, 1) := dk_89 (dk_at dksX1_closes_1 4 rfl rfl)
theorem dX1_closes_29 : decode cX1_closes 29 = .ok (.getfield 95, 3) := dk_180 0 95 (dk_at dksX1_closes_1 5 rfl rfl)
theorem dX1_closes_32 : decode cX1_closes 32 = .ok (.iconst 1, 1) := dk_4 (dk_at dksX1_closes_1 8 rfl rfl)
theorem dX1_closes_33 : decode cX1_closes 33 = .ok (.isub, 1) := dk_100 (dk_at dksX1_closes_1 9 rfl rfl)
theorem dX1_closes_34 : decode cX1_closes 34 = .ok (.putfield 95, 3) := dk_181 0 95 (dk_at dksX1_closes_1 10 rfl rfl)
theorem dX1_closes_37 : decode cX1_closes 37 = .ok (.return_, 1) := dk_177 (dk_at dksX1_closes_1 13 rfl rfl)
abbrev cX1_isDigit : ByteArray := prog_1_method_8_code
def yX1_isDigit : MethodName := ⟨RX1, "isDigit", "(I)Z"⟩
def dkwX1_isDigit_0 : List UInt8 := [26, 16, 48, 161, 0, 13, 26, 16, 57, 163, 0, 7, 4, 167, 0, 4, 3, 172]
abbrev dktX1_isDigit_0 : List UInt8 := dkwX1_isDigit_0 ++ []
theorem dksX1_isDigit_0 : cX1_isDigit.data.toList.drop 0 = dktX1_isDigit_0 := by decide +kernel
theorem dX1_isDigit_0 : decode cX1_isDigit 0 = .ok (.iload_n 0, 1) := dk_26 (dk_at dksX1_isDigit_0 0 rfl rfl)
theorem dX1_isDigit_1 : decode cX1_isDigit 1 = .ok (.bipush 48, 2) := dk_16 48 (dk_at dksX1_isDigit_0 1 rfl rfl)
theorem dX1_isDigit_3 : decode cX1_isDigit 3 = .ok (.if_icmp .lt 13, 3) := dk_161 0 13 (dk_at dksX1_isDigit_0 3 rfl rfl)
theorem dX1_isDigit_6 : decode cX1_isDigit 6 = .ok (.iload_n 0, 1) := dk_26 (dk_at dksX1_isDigit_0 6 rfl rfl)
theorem dX1_isDigit_7 : decode cX1_isDigit 7 = .ok (.bipush 57, 2) := dk_16 57 (dk_at dksX1_isDigit_0 7 rfl rfl)
theorem dX1_isDigit_9 : decode cX1_isDigit 9 = .ok (.if_icmp .gt 7, 3) := dk_163 0 7 (dk_at dksX1_isDigit_0 9 rfl rfl)
theorem dX1_isDigit_12 : decode cX1_isDigit 12 = .ok (.iconst 1, 1) := dk_4 (dk_at dksX1_isDigit_0 12 rfl rfl)
theorem dX1_isDigit_13 : decode cX1_isDigit 13 = .ok (.goto 4, 3) := dk_167 0 4 (dk_at dksX1_isDigit_0 13 rfl rfl)
theorem dX1_isDigit_16 : decode cX1_isDigit 16 = .ok (.iconst 0, 1) := dk_3 (dk_at dksX1_isDigit_0 16 rfl rfl)
theorem dX1_isDigit_17 : decode cX1_isDigit 17 = .ok (.ireturn, 1) := dk_172 (dk_at dksX1_isDigit_0 17 rfl rfl)
abbrev cX1_isSign : ByteArray := prog_1_method_15_code
def yX1_isSign : MethodName := ⟨RX1, "isSign", "(I)Z"⟩
def dkwX1_isSign_0 : List UInt8 := [26, 16, 61, 159, 0, 15, 26, 16, 60, 159, 0, 9, 26, 16, 62, 160, 0, 7, 4, 167, 0, 4, 3, 172]
abbrev dktX1_isSign_0 : List UInt8 := dkwX1_isSign_0 ++ []
theorem dksX1_isSign_0 : cX1_isSign.data.toList.drop 0 = dktX1_isSign_0 := by decide +kernel
theorem dX1_isSign_0 : decode cX1_isSign 0 = .ok (.iload_n 0, 1) := dk_26 (dk_at dksX1_isSign_0 0 rfl rfl)
theorem dX1_isSign_1 : decode cX1_isSign 1 = .ok (.bipush 61, 2) := dk_16 61 (dk_at dksX1_isSign_0 1 rfl rfl)
theorem dX1_isSign_3 : decode cX1_isSign 3 = .ok (.if_icmp .eq 15, 3) := dk_159 0 15 (dk_at dksX1_isSign_0 3 rfl rfl)
theorem dX1_isSign_6 : decode cX1_isSign 6 = .ok (.iload_n 0, 1) := dk_26 (dk_at dksX1_isSign_0 6 rfl rfl)
theorem dX1_isSign_7 : decode cX1_isSign 7 = .ok (.bipush 60, 2) := dk_16 60 (dk_at dksX1_isSign_0 7 rfl rfl)
theorem dX1_isSign_9 : decode cX1_isSign 9 = .ok (.if_icmp .eq 9, 3) := dk_159 0 9 (dk_at dksX1_isSign_0 9 rfl rfl)
theorem dX1_isSign_12 : decode cX1_isSign 12 = .ok (.iload_n 0, 1) := dk_26 (dk_at dksX1_isSign_0 12 rfl rfl)
theorem dX1_isSign_13 : decode cX1_isSign 13 = .ok (.bipush 62, 2) := dk_16 62 (dk_at dksX1_isSign_0 13 rfl rfl)
theorem dX1_isSign_15 : decode cX1_isSign 15 = .ok (.if_icmp .ne 7, 3) := dk_160 0 7 (dk_at dksX1_isSign_0 15 rfl rfl)
theorem dX1_isSign_18 : decode cX1_isSign 18 = .ok (.iconst 1, 1) := dk_4 (dk_at dksX1_isSign_0 18 rfl rfl)
theorem dX1_isSign_19 : decode cX1_isSign 19 = .ok (.goto 4, 3) := dk_167 0 4 (dk_at dksX1_isSign_0 19 rfl rfl)
theorem dX1_isSign_22 : decode cX1_isSign 22 = .ok (.iconst 0, 1) := dk_3 (dk_at dksX1_isSign_0 22 rfl rfl)
theorem dX1_isSign_23 : decode cX1_isSign 23 = .ok (.ireturn, 1) := dk_172 (dk_at dksX1_isSign_0 23 rfl rfl)
abbrev cX1_condition : ByteArray := prog_1_method_19_code
def yX1_condition : MethodName := ⟨RX1, "condition", "(LLosersBooks$Sum;)LLosersBooks$Test;"⟩
def dkwX1_condition_2 : List UInt8 := [182, 0, 180, 167, 255, 214, 45, 199, 0, 7, 44, 167, 0, 4, 45, 176]
abbrev dktX1_condition_2 : List UInt8 := dkwX1_condition_2 ++ []
def dkwX1_condition_1 : List UInt8 := [181, 0, 92, 45, 199, 0, 13, 187, 0, 175, 89, 3, 44, 183, 0, 177, 78, 45, 42, 1, 182, 0, 182]
abbrev dktX1_condition_1 : List UInt8 := dkwX1_condition_1 ++ dktX1_condition_2
def dkwX1_condition_0 : List UInt8 := [42, 43, 182, 0, 182, 77, 1, 78, 42, 182, 0, 102, 16, 124, 160, 0, 39, 42, 89, 180, 0, 92, 4, 96]
abbrev dktX1_condition_0 : List UInt8 := dkwX1_condition_0 ++ dktX1_condition_1
theorem dksX1_condition_0 : cX1_condition.data.toList.drop 0 = dktX1_condition_0 := by decide +kernel
theorem dksX1_condition_1 : cX1_condition.data.toList.drop 24 = dktX1_condition_1 := dk_seg dksX1_condition_0 24 rfl rfl
theorem dksX1_condition_2 : cX1_condition.data.toList.drop 47 = dktX1_condition_2 := dk_seg dksX1_condition_1 23 rfl rfl
theorem dX1_condition_0 : decode cX1_condition 0 = .ok (.aload_n 0, 1) := dk_42 (dk_at dksX1_condition_0 0 rfl rfl)
theorem dX1_condition_1 : decode cX1_condition 1 = .ok (.aload_n 1, 1) := dk_43 (dk_at dksX1_condition_0 1 rfl rfl)
theorem dX1_condition_2 : decode cX1_condition 2 = .ok (.invokevirtual 182, 3) := dk_182 0 182 (dk_at dksX1_condition_0 2 rfl rfl)
theorem dX1_condition_5 : decode cX1_condition 5 = .ok (.astore_n 2, 1) := dk_77 (dk_at dksX1_condition_0 5 rfl rfl)
theorem dX1_condition_6 : decode cX1_condition 6 = .ok (.aconst_null, 1) := dk_1 (dk_at dksX1_condition_0 6 rfl rfl)
theorem dX1_condition_7 : decode cX1_condition 7 = .ok (.astore_n 3, 1) := dk_78 (dk_at dksX1_condition_0 7 rfl rfl)
theorem dX1_condition_8 : decode cX1_condition 8 = .ok (.aload_n 0, 1) := dk_42 (dk_at dksX1_condition_0 8 rfl rfl)
theorem dX1_condition_9 : decode cX1_condition 9 = .ok (.invokevirtual 102, 3) := dk_182 0 102 (dk_at dksX1_condition_0 9 rfl rfl)
theorem dX1_condition_12 : decode cX1_condition 12 = .ok (.bipush 124, 2) := dk_16 124 (dk_at dksX1_condition_0 12 rfl rfl)
theorem dX1_condition_14 : decode cX1_condition 14 = .ok (.if_icmp .ne 39, 3) := dk_160 0 39 (dk_at dksX1_condition_0 14 rfl rfl)
theorem dX1_condition_17 : decode cX1_condition 17 = .ok (.aload_n 0, 1) := dk_42 (dk_at dksX1_condition_0 17 rfl rfl)
theorem dX1_condition_18 : decode cX1_condition 18 = .ok (.dup, 1) := dk_89 (dk_at dksX1_condition_0 18 rfl rfl)
theorem dX1_condition_19 : decode cX1_condition 19 = .ok (.getfield 92, 3) := dk_180 0 92 (dk_at dksX1_condition_0 19 rfl rfl)
theorem dX1_condition_22 : decode cX1_condition 22 = .ok (.iconst 1, 1) := dk_4 (dk_at dksX1_condition_0 22 rfl rfl)
theorem dX1_condition_23 : decode cX1_condition 23 = .ok (.iadd, 1) := dk_96 (dk_at dksX1_condition_0 23 rfl rfl)
theorem dX1_condition_24 : decode cX1_condition 24 = .ok (.putfield 92, 3) := dk_181 0 92 (dk_at dksX1_condition_1 0 rfl rfl)
theorem dX1_condition_27 : decode cX1_condition 27 = .ok (.aload_n 3, 1) := dk_45 (dk_at dksX1_condition_1 3 rfl rfl)
theorem dX1_condition_28 : decode cX1_condition 28 = .ok (.ifnonnull 13, 3) := dk_199 0 13 (dk_at dksX1_condition_1 4 rfl rfl)
theorem dX1_condition_31 : decode cX1_condition 31 = .ok (.new 175, 3) := dk_187 0 175 (dk_at dksX1_condition_1 7 rfl rfl)
theorem dX1_condition_34 : decode cX1_condition 34 = .ok (.dup, 1) := dk_89 (dk_at dksX1_condition_1 10 rfl rfl)
theorem dX1_condition_35 : decode cX1_condition 35 = .ok (.iconst 0, 1) := dk_3 (dk_at dksX1_condition_1 11 rfl rfl)
theorem dX1_condition_36 : decode cX1_condition 36 = .ok (.aload_n 2, 1) := dk_44 (dk_at dksX1_condition_1 12 rfl rfl)
theorem dX1_condition_37 : decode cX1_condition 37 = .ok (.invokespecial 177, 3) := dk_183 0 177 (dk_at dksX1_condition_1 13 rfl rfl)
theorem dX1_condition_40 : decode cX1_condition 40 = .ok (.astore_n 3, 1) := dk_78 (dk_at dksX1_condition_1 16 rfl rfl)
theorem dX1_condition_41 : decode cX1_condition 41 = .ok (.aload_n 3, 1) := dk_45 (dk_at dksX1_condition_1 17 rfl rfl)
theorem dX1_condition_42 : decode cX1_condition 42 = .ok (.aload_n 0, 1) := dk_42 (dk_at dksX1_condition_1 18 rfl rfl)
theorem dX1_condition_43 : decode cX1_condition 43 = .ok (.aconst_null, 1) := dk_1 (dk_at dksX1_condition_1 19 rfl rfl)
theorem dX1_condition_44 : decode cX1_condition 44 = .ok (.invokevirtual 182, 3) := dk_182 0 182 (dk_at dksX1_condition_1 20 rfl rfl)
theorem dX1_condition_47 : decode cX1_condition 47 = .ok (.invokevirtual 180, 3) := dk_182 0 180 (dk_at dksX1_condition_2 0 rfl rfl)
theorem dX1_condition_50 : decode cX1_condition 50 = .ok (.goto (-42), 3) := dk_167 255 214 (dk_at dksX1_condition_2 3 rfl rfl)
theorem dX1_condition_53 : decode cX1_condition 53 = .ok (.aload_n 3, 1) := dk_45 (dk_at dksX1_condition_2 6 rfl rfl)
theorem dX1_condition_54 : decode cX1_condition 54 = .ok (.ifnonnull 7, 3) := dk_199 0 7 (dk_at dksX1_condition_2 7 rfl rfl)
theorem dX1_condition_57 : decode cX1_condition 57 = .ok (.aload_n 2, 1) := dk_44 (dk_at dksX1_condition_2 10 rfl rfl)
theorem dX1_condition_58 : decode cX1_condition 58 = .ok (.goto 4, 3) := dk_167 0 4 (dk_at dksX1_condition_2 11 rfl rfl)
theorem dX1_condition_61 : decode cX1_condition 61 = .ok (.aload_n 3, 1) := dk_45 (dk_at dksX1_condition_2 14 rfl rfl)
theorem dX1_condition_62 : decode cX1_condition 62 = .ok (.areturn, 1) := dk_176 (dk_at dksX1_condition_2 15 rfl rfl)
abbrev cX1_part : ByteArray := prog_1_method_18_code
def yX1_part : MethodName := ⟨RX1, "part", "(LLosersBooks$Sum;)LLosersBooks$Test;"⟩
def dkwX1_part_3 : List UInt8 := [45, 176]
abbrev dktX1_part_3 : List UInt8 := dkwX1_part_3 ++ []
def dkwX1_part_2 : List UInt8 := [44, 183, 0, 177, 78, 45, 42, 182, 0, 159, 182, 0, 180, 167, 255, 215, 45, 199, 0, 7, 44, 167, 0, 4]
abbrev dktX1_part_2 : List UInt8 := dkwX1_part_2 ++ dktX1_part_3
def dkwX1_part_1 : List UInt8 := [16, 38, 160, 0, 38, 42, 89, 180, 0, 92, 4, 96, 181, 0, 92, 45, 199, 0, 13, 187, 0, 175, 89, 4]
abbrev dktX1_part_1 : List UInt8 := dkwX1_part_1 ++ dktX1_part_2
def dkwX1_part_0 : List UInt8 := [43, 199, 0, 10, 42, 182, 0, 159, 167, 0, 8, 42, 43, 182, 0, 172, 77, 1, 78, 42, 182, 0, 102]
abbrev dktX1_part_0 : List UInt8 := dkwX1_part_0 ++ dktX1_part_1
theorem dksX1_part_0 : cX1_part.data.toList.drop 0 = dktX1_part_0 := by decide +kernel
theorem dksX1_part_1 : cX1_part.data.toList.drop 23 = dktX1_part_1 := dk_seg dksX1_part_0 23 rfl rfl
theorem dksX1_part_2 : cX1_part.data.toList.drop 47 = dktX1_part_2 := dk_seg dksX1_part_1 24 rfl rfl
theorem dksX1_part_3 : cX1_part.data.toList.drop 71 = dktX1_part_3 := dk_seg dksX1_part_2 24 rfl rfl
theorem dX1_part_0 : decode cX1_part 0 = .ok (.aload_n 1, 1) := dk_43 (dk_at dksX1_part_0 0 rfl rfl)
theorem dX1_part_1 : decode cX1_part 1 = .ok (.ifnonnull 10, 3) := dk_199 0 10 (dk_at dksX1_part_0 1 rfl rfl)
theorem dX1_part_4 : decode cX1_part 4 = .ok (.aload_n 0, 1) := dk_42 (dk_at dksX1_part_0 4 rfl rfl)
theorem dX1_part_5 : decode cX1_part 5 = .ok (.invokevirtual 159, 3) := dk_182 0 159 (dk_at dksX1_part_0 5 rfl rfl)
theorem dX1_part_8 : decode cX1_part 8 = .ok (.goto 8, 3) := dk_167 0 8 (dk_at dksX1_part_0 8 rfl rfl)
theorem dX1_part_11 : decode cX1_part 11 = .ok (.aload_n 0, 1) := dk_42 (dk_at dksX1_part_0 11 rfl rfl)
theorem dX1_part_12 : decode cX1_part 12 = .ok (.aload_n 1, 1) := dk_43 (dk_at dksX1_part_0 12 rfl rfl)
theorem dX1_part_13 : decode cX1_part 13 = .ok (.invokevirtual 172, 3) := dk_182 0 172 (dk_at dksX1_part_0 13 rfl rfl)
theorem dX1_part_16 : decode cX1_part 16 = .ok (.astore_n 2, 1) := dk_77 (dk_at dksX1_part_0 16 rfl rfl)
theorem dX1_part_17 : decode cX1_part 17 = .ok (.aconst_null, 1) := dk_1 (dk_at dksX1_part_0 17 rfl rfl)
theorem dX1_part_18 : decode cX1_part 18 = .ok (.astore_n 3, 1) := dk_78 (dk_at dksX1_part_0 18 rfl rfl)
theorem dX1_part_19 : decode cX1_part 19 = .ok (.aload_n 0, 1) := dk_42 (dk_at dksX1_part_0 19 rfl rfl)
theorem dX1_part_20 : decode cX1_part 20 = .ok (.invokevirtual 102, 3) := dk_182 0 102 (dk_at dksX1_part_0 20 rfl rfl)
theorem dX1_part_23 : decode cX1_part 23 = .ok (.bipush 38, 2) := dk_16 38 (dk_at dksX1_part_1 0 rfl rfl)
theorem dX1_part_25 : decode cX1_part 25 = .ok (.if_icmp .ne 38, 3) := dk_160 0 38 (dk_at dksX1_part_1 2 rfl rfl)
theorem dX1_part_28 : decode cX1_part 28 = .ok (.aload_n 0, 1) := dk_42 (dk_at dksX1_part_1 5 rfl rfl)
theorem dX1_part_29 : decode cX1_part 29 = .ok (.dup, 1) := dk_89 (dk_at dksX1_part_1 6 rfl rfl)
theorem dX1_part_30 : decode cX1_part 30 = .ok (.getfield 92, 3) := dk_180 0 92 (dk_at dksX1_part_1 7 rfl rfl)
theorem dX1_part_33 : decode cX1_part 33 = .ok (.iconst 1, 1) := dk_4 (dk_at dksX1_part_1 10 rfl rfl)
theorem dX1_part_34 : decode cX1_part 34 = .ok (.iadd, 1) := dk_96 (dk_at dksX1_part_1 11 rfl rfl)
theorem dX1_part_35 : decode cX1_part 35 = .ok (.putfield 92, 3) := dk_181 0 92 (dk_at dksX1_part_1 12 rfl rfl)
theorem dX1_part_38 : decode cX1_part 38 = .ok (.aload_n 3, 1) := dk_45 (dk_at dksX1_part_1 15 rfl rfl)
theorem dX1_part_39 : decode cX1_part 39 = .ok (.ifnonnull 13, 3) := dk_199 0 13 (dk_at dksX1_part_1 16 rfl rfl)
theorem dX1_part_42 : decode cX1_part 42 = .ok (.new 175, 3) := dk_187 0 175 (dk_at dksX1_part_1 19 rfl rfl)
theorem dX1_part_45 : decode cX1_part 45 = .ok (.dup, 1) := dk_89 (dk_at dksX1_part_1 22 rfl rfl)
theorem dX1_part_46 : decode cX1_part 46 = .ok (.iconst 1, 1) := dk_4 (dk_at dksX1_part_1 23 rfl rfl)
theorem dX1_part_47 : decode cX1_part 47 = .ok (.aload_n 2, 1) := dk_44 (dk_at dksX1_part_2 0 rfl rfl)
theorem dX1_part_48 : decode cX1_part 48 = .ok (.invokespecial 177, 3) := dk_183 0 177 (dk_at dksX1_part_2 1 rfl rfl)
theorem dX1_part_51 : decode cX1_part 51 = .ok (.astore_n 3, 1) := dk_78 (dk_at dksX1_part_2 4 rfl rfl)
theorem dX1_part_52 : decode cX1_part 52 = .ok (.aload_n 3, 1) := dk_45 (dk_at dksX1_part_2 5 rfl rfl)
theorem dX1_part_53 : decode cX1_part 53 = .ok (.aload_n 0, 1) := dk_42 (dk_at dksX1_part_2 6 rfl rfl)
theorem dX1_part_54 : decode cX1_part 54 = .ok (.invokevirtual 159, 3) := dk_182 0 159 (dk_at dksX1_part_2 7 rfl rfl)
theorem dX1_part_57 : decode cX1_part 57 = .ok (.invokevirtual 180, 3) := dk_182 0 180 (dk_at dksX1_part_2 10 rfl rfl)
theorem dX1_part_60 : decode cX1_part 60 = .ok (.goto (-41), 3) := dk_167 255 215 (dk_at dksX1_part_2 13 rfl rfl)
theorem dX1_part_63 : decode cX1_part 63 = .ok (.aload_n 3, 1) := dk_45 (dk_at dksX1_part_2 16 rfl rfl)
theorem dX1_part_64 : decode cX1_part 64 = .ok (.ifnonnull 7, 3) := dk_199 0 7 (dk_at dksX1_part_2 17 rfl rfl)
theorem dX1_part_67 : decode cX1_part 67 = .ok (.aload_n 2, 1) := dk_44 (dk_at dksX1_part_2 20 rfl rfl)
theorem dX1_part_68 : decode cX1_part 68 = .ok (.goto 4, 3) := dk_167 0 4 (dk_at dksX1_part_2 21 rfl rfl)
theorem dX1_part_71 : decode cX1_part 71 = .ok (.aload_n 3, 1) := dk_45 (dk_at dksX1_part_3 0 rfl rfl)
theorem dX1_part_72 : decode cX1_part 72 = .ok (.areturn, 1) := dk_176 (dk_at dksX1_part_3 1 rfl rfl)
abbrev cX1_unit : ByteArray := prog_1_method_17_code
def yX1_unit : MethodName := ⟨RX1, "unit", "()LLosersBooks$Test;"⟩
def dkwX1_unit_3 : List UInt8 := [182, 0, 172, 176]
abbrev dktX1_unit_3 : List UInt8 := dkwX1_unit_3 ++ []
def dkwX1_unit_2 : List UInt8 := [182, 0, 106, 42, 1, 182, 0, 168, 77, 42, 16, 41, 182, 0, 113, 44, 176, 42, 42, 182, 0, 109]
abbrev dktX1_unit_2 : List UInt8 := dkwX1_unit_2 ++ dktX1_unit_3
def dkwX1_unit_1 : List UInt8 := [180, 0, 95, 4, 100, 181, 0, 95, 187, 0, 163, 89, 44, 183, 0, 165, 176, 27, 16, 40, 160, 0, 21, 42]
abbrev dktX1_unit_1 : List UInt8 := dkwX1_unit_1 ++ dktX1_unit_2
def dkwX1_unit_0 : List UInt8 := [42, 182, 0, 102, 60, 27, 16, 33, 160, 0, 31, 42, 182, 0, 106, 42, 182, 0, 159, 77, 42, 89]
abbrev dktX1_unit_0 : List UInt8 := dkwX1_unit_0 ++ dktX1_unit_1
theorem dksX1_unit_0 : cX1_unit.data.toList.drop 0 = dktX1_unit_0 := by decide +kernel
theorem dksX1_unit_1 : cX1_unit.data.toList.drop 22 = dktX1_unit_1 := dk_seg dksX1_unit_0 22 rfl rfl
theorem dksX1_unit_2 : cX1_unit.data.toList.drop 46 = dktX1_unit_2 := dk_seg dksX1_unit_1 24 rfl rfl
theorem dksX1_unit_3 : cX1_unit.data.toList.drop 68 = dktX1_unit_3 := dk_seg dksX1_unit_2 22 rfl rfl
theorem dX1_unit_0 : decode cX1_unit 0 = .ok (.aload_n 0, 1) := dk_42 (dk_at dksX1_unit_0 0 rfl rfl)
theorem dX1_unit_1 : decode cX1_unit 1 = .ok (.invokevirtual 102, 3) := dk_182 0 102 (dk_at dksX1_unit_0 1 rfl rfl)
theorem dX1_unit_4 : decode cX1_unit 4 = .ok (.istore_n 1, 1) := dk_60 (dk_at dksX1_unit_0 4 rfl rfl)
theorem dX1_unit_5 : decode cX1_unit 5 = .ok (.iload_n 1, 1) := dk_27 (dk_at dksX1_unit_0 5 rfl rfl)
theorem dX1_unit_6 : decode cX1_unit 6 = .ok (.bipush 33, 2) := dk_16 33 (dk_at dksX1_unit_0 6 rfl rfl)
theorem dX1_unit_8 : decode cX1_unit 8 = .ok (.if_icmp .ne 31, 3) := dk_160 0 31 (dk_at dksX1_unit_0 8 rfl rfl)
theorem dX1_unit_11 : decode cX1_unit 11 = .ok (.aload_n 0, 1) := dk_42 (dk_at dksX1_unit_0 11 rfl rfl)
theorem dX1_unit_12 : decode cX1_unit 12 = .ok (.invokevirtual 106, 3) := dk_182 0 106 (dk_at dksX1_unit_0 12 rfl rfl)
theorem dX1_unit_15 : decode cX1_unit 15 = .ok (.aload_n 0, 1) := dk_42 (dk_at dksX1_unit_0 15 rfl rfl)
theorem dX1_unit_16 : decode cX1_unit 16 = .ok (.invokevirtual 159, 3) := dk_182 0 159 (dk_at dksX1_unit_0 16 rfl rfl)
theorem dX1_unit_19 : decode cX1_unit 19 = .ok (.astore_n 2, 1) := dk_77 (dk_at dksX1_unit_0 19 rfl rfl)
theorem dX1_unit_20 : decode cX1_unit 20 = .ok (.aload_n 0, 1) := dk_42 (dk_at dksX1_unit_0 20 rfl rfl)
theorem dX1_unit_21 : decode cX1_unit 21 = .ok (.dup, 1) := dk_89 (dk_at dksX1_unit_0 21 rfl rfl)
theorem dX1_unit_22 : decode cX1_unit 22 = .ok (.getfield 95, 3) := dk_180 0 95 (dk_at dksX1_unit_1 0 rfl rfl)
theorem dX1_unit_25 : decode cX1_unit 25 = .ok (.iconst 1, 1) := dk_4 (dk_at dksX1_unit_1 3 rfl rfl)
theorem dX1_unit_26 : decode cX1_unit 26 = .ok (.isub, 1) := dk_100 (dk_at dksX1_unit_1 4 rfl rfl)
theorem dX1_unit_27 : decode cX1_unit 27 = .ok (.putfield 95, 3) := dk_181 0 95 (dk_at dksX1_unit_1 5 rfl rfl)
theorem dX1_unit_30 : decode cX1_unit 30 = .ok (.new 163, 3) := dk_187 0 163 (dk_at dksX1_unit_1 8 rfl rfl)
theorem dX1_unit_33 : decode cX1_unit 33 = .ok (.dup, 1) := dk_89 (dk_at dksX1_unit_1 11 rfl rfl)
theorem dX1_unit_34 : decode cX1_unit 34 = .ok (.aload_n 2, 1) := dk_44 (dk_at dksX1_unit_1 12 rfl rfl)
theorem dX1_unit_35 : decode cX1_unit 35 = .ok (.invokespecial 165, 3) := dk_183 0 165 (dk_at dksX1_unit_1 13 rfl rfl)
theorem dX1_unit_38 : decode cX1_unit 38 = .ok (.areturn, 1) := dk_176 (dk_at dksX1_unit_1 16 rfl rfl)
theorem dX1_unit_39 : decode cX1_unit 39 = .ok (.iload_n 1, 1) := dk_27 (dk_at dksX1_unit_1 17 rfl rfl)
theorem dX1_unit_40 : decode cX1_unit 40 = .ok (.bipush 40, 2) := dk_16 40 (dk_at dksX1_unit_1 18 rfl rfl)
theorem dX1_unit_42 : decode cX1_unit 42 = .ok (.if_icmp .ne 21, 3) := dk_160 0 21 (dk_at dksX1_unit_1 20 rfl rfl)
theorem dX1_unit_45 : decode cX1_unit 45 = .ok (.aload_n 0, 1) := dk_42 (dk_at dksX1_unit_1 23 rfl rfl)
theorem dX1_unit_46 : decode cX1_unit 46 = .ok (.invokevirtual 106, 3) := dk_182 0 106 (dk_at dksX1_unit_2 0 rfl rfl)
theorem dX1_unit_49 : decode cX1_unit 49 = .ok (.aload_n 0, 1) := dk_42 (dk_at dksX1_unit_2 3 rfl rfl)
theorem dX1_unit_50 : decode cX1_unit 50 = .ok (.aconst_null, 1) := dk_1 (dk_at dksX1_unit_2 4 rfl rfl)
theorem dX1_unit_51 : decode cX1_unit 51 = .ok (.invokevirtual 168, 3) := dk_182 0 168 (dk_at dksX1_unit_2 5 rfl rfl)
theorem dX1_unit_54 : decode cX1_unit 54 = .ok (.astore_n 2, 1) := dk_77 (dk_at dksX1_unit_2 8 rfl rfl)
theorem dX1_unit_55 : decode cX1_unit 55 = .ok (.aload_n 0, 1) := dk_42 (dk_at dksX1_unit_2 9 rfl rfl)
theorem dX1_unit_56 : decode cX1_unit 56 = .ok (.bipush 41, 2) := dk_16 41 (dk_at dksX1_unit_2 10 rfl rfl)
theorem dX1_unit_58 : decode cX1_unit 58 = .ok (.invokevirtual 113, 3) := dk_182 0 113 (dk_at dksX1_unit_2 12 rfl rfl)
theorem dX1_unit_61 : decode cX1_unit 61 = .ok (.aload_n 2, 1) := dk_44 (dk_at dksX1_unit_2 15 rfl rfl)
theorem dX1_unit_62 : decode cX1_unit 62 = .ok (.areturn, 1) := dk_176 (dk_at dksX1_unit_2 16 rfl rfl)
theorem dX1_unit_63 : decode cX1_unit 63 = .ok (.aload_n 0, 1) := dk_42 (dk_at dksX1_unit_2 17 rfl rfl)
theorem dX1_unit_64 : decode cX1_unit 64 = .ok (.aload_n 0, 1) := dk_42 (dk_at dksX1_unit_2 18 rfl rfl)
theorem dX1_unit_65 : decode cX1_unit 65 = .ok (.invokevirtual 109, 3) := dk_182 0 109 (dk_at dksX1_unit_2 19 rfl rfl)
theorem dX1_unit_68 : decode cX1_unit 68 = .ok (.invokevirtual 172, 3) := dk_182 0 172 (dk_at dksX1_unit_3 0 rfl rfl)
theorem dX1_unit_71 : decode cX1_unit 71 = .ok (.areturn, 1) := dk_176 (dk_at dksX1_unit_3 3 rfl rfl)
abbrev cX1_compare : ByteArray := prog_1_method_16_code
def yX1_compare : MethodName := ⟨RX1, "compare", "(LLosersBooks$Sum;)LLosersBooks$Test;"⟩
def dkwX1_compare_1 : List UInt8 := [187, 0, 154, 89, 28, 43, 42, 182, 0, 109, 183, 0, 156, 176]
abbrev dktX1_compare_1 : List UInt8 := dkwX1_compare_1 ++ []
def dkwX1_compare_0 : List UInt8 := [42, 182, 0, 102, 61, 42, 28, 184, 0, 151, 182, 0, 98, 42, 89, 180, 0, 92, 4, 96, 181, 0, 92]
abbrev dktX1_compare_0 : List UInt8 := dkwX1_compare_0 ++ dktX1_compare_1
theorem dksX1_compare_0 : cX1_compare.data.toList.drop 0 = dktX1_compare_0 := by decide +kernel
theorem dksX1_compare_1 : cX1_compare.data.toList.drop 23 = dktX1_compare_1 := dk_seg dksX1_compare_0 23 rfl rfl
theorem dX1_compare_0 : decode cX1_compare 0 = .ok (.aload_n 0, 1) := dk_42 (dk_at dksX1_compare_0 0 rfl rfl)
theorem dX1_compare_1 : decode cX1_compare 1 = .ok (.invokevirtual 102, 3) := dk_182 0 102 (dk_at dksX1_compare_0 1 rfl rfl)
theorem dX1_compare_4 : decode cX1_compare 4 = .ok (.istore_n 2, 1) := dk_61 (dk_at dksX1_compare_0 4 rfl rfl)
theorem dX1_compare_5 : decode cX1_compare 5 = .ok (.aload_n 0, 1) := dk_42 (dk_at dksX1_compare_0 5 rfl rfl)
theorem dX1_compare_6 : decode cX1_compare 6 = .ok (.iload_n 2, 1) := dk_28 (dk_at dksX1_compare_0 6 rfl rfl)
theorem dX1_compare_7 : decode cX1_compare 7 = .ok (.invokestatic 151, 3) := dk_184 0 151 (dk_at dksX1_compare_0 7 rfl rfl)
theorem dX1_compare_10 : decode cX1_compare 10 = .ok (.invokevirtual 98, 3) := dk_182 0 98 (dk_at dksX1_compare_0 10 rfl rfl)
theorem dX1_compare_13 : decode cX1_compare 13 = .ok (.aload_n 0, 1) := dk_42 (dk_at dksX1_compare_0 13 rfl rfl)
theorem dX1_compare_14 : decode cX1_compare 14 = .ok (.dup, 1) := dk_89 (dk_at dksX1_compare_0 14 rfl rfl)
theorem dX1_compare_15 : decode cX1_compare 15 = .ok (.getfield 92, 3) := dk_180 0 92 (dk_at dksX1_compare_0 15 rfl rfl)
theorem dX1_compare_18 : decode cX1_compare 18 = .ok (.iconst 1, 1) := dk_4 (dk_at dksX1_compare_0 18 rfl rfl)
theorem dX1_compare_19 : decode cX1_compare 19 = .ok (.iadd, 1) := dk_96 (dk_at dksX1_compare_0 19 rfl rfl)
theorem dX1_compare_20 : decode cX1_compare 20 = .ok (.putfield 92, 3) := dk_181 0 92 (dk_at dksX1_compare_0 20 rfl rfl)
theorem dX1_compare_23 : decode cX1_compare 23 = .ok (.new 154, 3) := dk_187 0 154 (dk_at dksX1_compare_1 0 rfl rfl)
theorem dX1_compare_26 : decode cX1_compare 26 = .ok (.dup, 1) := dk_89 (dk_at dksX1_compare_1 3 rfl rfl)
theorem dX1_compare_27 : decode cX1_compare 27 = .ok (.iload_n 2, 1) := dk_28 (dk_at dksX1_compare_1 4 rfl rfl)
theorem dX1_compare_28 : decode cX1_compare 28 = .ok (.aload_n 1, 1) := dk_43 (dk_at dksX1_compare_1 5 rfl rfl)
theorem dX1_compare_29 : decode cX1_compare 29 = .ok (.aload_n 0, 1) := dk_42 (dk_at dksX1_compare_1 6 rfl rfl)
theorem dX1_compare_30 : decode cX1_compare 30 = .ok (.invokevirtual 109, 3) := dk_182 0 109 (dk_at dksX1_compare_1 7 rfl rfl)
theorem dX1_compare_33 : decode cX1_compare 33 = .ok (.invokespecial 156, 3) := dk_183 0 156 (dk_at dksX1_compare_1 10 rfl rfl)
theorem dX1_compare_36 : decode cX1_compare 36 = .ok (.areturn, 1) := dk_176 (dk_at dksX1_compare_1 13 rfl rfl)
abbrev cX1_readAs : ByteArray := prog_1_method_35_code
def yX1_readAs : MethodName := ⟨RX1, "readAs", "(I)V"⟩
def dkwX1_readAs_0 : List UInt8 := [27, 154, 0, 10, 42, 182, 1, 23, 167, 0, 8, 42, 7, 182, 1, 26, 177]
abbrev dktX1_readAs_0 : List UInt8 := dkwX1_readAs_0 ++ []
theorem dksX1_readAs_0 : cX1_readAs.data.toList.drop 0 = dktX1_readAs_0 := by decide +kernel
theorem dX1_readAs_0 : decode cX1_readAs 0 = .ok (.iload_n 1, 1) := dk_27 (dk_at dksX1_readAs_0 0 rfl rfl)
theorem dX1_readAs_1 : decode cX1_readAs 1 = .ok (.ifCond .ne 10, 3) := dk_154 0 10 (dk_at dksX1_readAs_0 1 rfl rfl)
theorem dX1_readAs_4 : decode cX1_readAs 4 = .ok (.aload_n 0, 1) := dk_42 (dk_at dksX1_readAs_0 4 rfl rfl)
theorem dX1_readAs_5 : decode cX1_readAs 5 = .ok (.invokevirtual 279, 3) := dk_182 1 23 (dk_at dksX1_readAs_0 5 rfl rfl)
theorem dX1_readAs_8 : decode cX1_readAs 8 = .ok (.goto 8, 3) := dk_167 0 8 (dk_at dksX1_readAs_0 8 rfl rfl)
theorem dX1_readAs_11 : decode cX1_readAs 11 = .ok (.aload_n 0, 1) := dk_42 (dk_at dksX1_readAs_0 11 rfl rfl)
theorem dX1_readAs_12 : decode cX1_readAs 12 = .ok (.iconst 4, 1) := dk_7 (dk_at dksX1_readAs_0 12 rfl rfl)
theorem dX1_readAs_13 : decode cX1_readAs 13 = .ok (.invokevirtual 282, 3) := dk_182 1 26 (dk_at dksX1_readAs_0 13 rfl rfl)
theorem dX1_readAs_16 : decode cX1_readAs 16 = .ok (.return_, 1) := dk_177 (dk_at dksX1_readAs_0 16 rfl rfl)
abbrev cX1_wholeRealm : ByteArray := prog_1_method_32_code
def yX1_wholeRealm : MethodName := ⟨RX1, "wholeRealm", "()V"⟩
def dkwX1_wholeRealm_10 : List UInt8 := [182, 1, 14, 153, 0, 7, 4, 167, 0, 4, 3, 182, 0, 98, 177]
abbrev dktX1_wholeRealm_10 : List UInt8 := dkwX1_wholeRealm_10 ++ []
def dkwX1_wholeRealm_9 : List UInt8 := [42, 89, 180, 0, 92, 4, 96, 181, 0, 92, 167, 255, 77, 42, 42, 182, 0, 102, 2, 160, 0, 14, 42]
abbrev dktX1_wholeRealm_9 : List UInt8 := dkwX1_wholeRealm_9 ++ dktX1_wholeRealm_10
def dkwX1_wholeRealm_8 : List UInt8 := [4, 96, 181, 1, 7, 42, 182, 0, 102, 16, 59, 160, 0, 7, 4, 167, 0, 4, 3, 61, 28, 153, 0, 13]
abbrev dktX1_wholeRealm_8 : List UInt8 := dkwX1_wholeRealm_8 ++ dktX1_wholeRealm_9
def dkwX1_wholeRealm_7 : List UInt8 := [167, 0, 29, 42, 29, 42, 180, 0, 30, 7, 42, 180, 1, 7, 104, 7, 182, 1, 10, 42, 89, 180, 1, 7]
abbrev dktX1_wholeRealm_7 : List UInt8 := dkwX1_wholeRealm_7 ++ dktX1_wholeRealm_8
def dkwX1_wholeRealm_6 : List UInt8 := [180, 0, 27, 6, 42, 180, 1, 4, 104, 6, 182, 1, 10, 42, 89, 180, 1, 4, 4, 96, 181, 1, 4]
abbrev dktX1_wholeRealm_6 : List UInt8 := dkwX1_wholeRealm_6 ++ dktX1_wholeRealm_7
def dkwX1_wholeRealm_5 : List UInt8 := [60, 42, 29, 42, 180, 0, 24, 3, 5, 182, 1, 10, 167, 0, 64, 29, 16, 107, 160, 0, 32, 42, 29, 42]
abbrev dktX1_wholeRealm_5 : List UInt8 := dkwX1_wholeRealm_5 ++ dktX1_wholeRealm_6
def dkwX1_wholeRealm_4 : List UInt8 := [167, 0, 4, 3, 182, 0, 98, 42, 89, 180, 0, 92, 4, 96, 181, 0, 92, 29, 16, 115, 160, 0, 19, 4]
abbrev dktX1_wholeRealm_4 : List UInt8 := dkwX1_wholeRealm_4 ++ dktX1_wholeRealm_5
def dkwX1_wholeRealm_3 : List UInt8 := [180, 1, 4, 7, 161, 0, 18, 29, 16, 102, 160, 0, 16, 42, 180, 1, 7, 16, 8, 162, 0, 7, 4]
abbrev dktX1_wholeRealm_3 : List UInt8 := dkwX1_wholeRealm_3 ++ dktX1_wholeRealm_4
def dkwX1_wholeRealm_2 : List UInt8 := [42, 182, 0, 102, 62, 42, 29, 16, 115, 160, 0, 7, 27, 153, 0, 32, 29, 16, 107, 160, 0, 11, 42]
abbrev dktX1_wholeRealm_2 : List UInt8 := dkwX1_wholeRealm_2 ++ dktX1_wholeRealm_3
def dkwX1_wholeRealm_1 : List UInt8 := [42, 180, 0, 24, 28, 16, 115, 28, 184, 0, 243, 79, 132, 2, 1, 167, 255, 236, 4, 61, 28, 153, 0, 181]
abbrev dktX1_wholeRealm_1 : List UInt8 := dkwX1_wholeRealm_1 ++ dktX1_wholeRealm_2
def dkwX1_wholeRealm_0 : List UInt8 := [42, 3, 181, 0, 92, 42, 3, 181, 1, 4, 42, 3, 181, 1, 7, 3, 60, 3, 61, 28, 5, 162, 0, 21]
abbrev dktX1_wholeRealm_0 : List UInt8 := dkwX1_wholeRealm_0 ++ dktX1_wholeRealm_1
theorem dksX1_wholeRealm_0 : cX1_wholeRealm.data.toList.drop 0 = dktX1_wholeRealm_0 := by decide +kernel
theorem dksX1_wholeRealm_1 : cX1_wholeRealm.data.toList.drop 24 = dktX1_wholeRealm_1 := dk_seg dksX1_wholeRealm_0 24 rfl rfl
theorem dksX1_wholeRealm_2 : cX1_wholeRealm.data.toList.drop 48 = dktX1_wholeRealm_2 := dk_seg dksX1_wholeRealm_1 24 rfl rfl
theorem dksX1_wholeRealm_3 : cX1_wholeRealm.data.toList.drop 71 = dktX1_wholeRealm_3 := dk_seg dksX1_wholeRealm_2 23 rfl rfl
theorem dksX1_wholeRealm_4 : cX1_wholeRealm.data.toList.drop 94 = dktX1_wholeRealm_4 := dk_seg dksX1_wholeRealm_3 23 rfl rfl
theorem dksX1_wholeRealm_5 : cX1_wholeRealm.data.toList.drop 118 = dktX1_wholeRealm_5 := dk_seg dksX1_wholeRealm_4 24 rfl rfl
theorem dksX1_wholeRealm_6 : cX1_wholeRealm.data.toList.drop 142 = dktX1_wholeRealm_6 := dk_seg dksX1_wholeRealm_5 24 rfl rfl
theorem dksX1_wholeRealm_7 : cX1_wholeRealm.data.toList.drop 165 = dktX1_wholeRealm_7 := dk_seg dksX1_wholeRealm_6 23 rfl rfl
theorem dksX1_wholeRealm_8 : cX1_wholeRealm.data.toList.drop 189 = dktX1_wholeRealm_8 := dk_seg dksX1_wholeRealm_7 24 rfl rfl
theorem dksX1_wholeRealm_9 : cX1_wholeRealm.data.toList.drop 213 = dktX1_wholeRealm_9 := dk_seg dksX1_wholeRealm_8 24 rfl rfl
theorem dksX1_wholeRealm_10 : cX1_wholeRealm.data.toList.drop 236 = dktX1_wholeRealm_10 := dk_seg dksX1_wholeRealm_9 23 rfl rfl
theorem dX1_wholeRealm_0 : decode cX1_wholeRealm 0 = .ok (.aload_n 0, 1) := dk_42 (dk_at dksX1_wholeRealm_0 0 rfl rfl)
theorem dX1_wholeRealm_1 : decode cX1_wholeRealm 1 = .ok (.iconst 0, 1) := dk_3 (dk_at dksX1_wholeRealm_0 1 rfl rfl)
theorem dX1_wholeRealm_2 : decode cX1_wholeRealm 2 = .ok (.putfield 92, 3) := dk_181 0 92 (dk_at dksX1_wholeRealm_0 2 rfl rfl)
theorem dX1_wholeRealm_5 : decode cX1_wholeRealm 5 = .ok (.aload_n 0, 1) := dk_42 (dk_at dksX1_wholeRealm_0 5 rfl rfl)
theorem dX1_wholeRealm_6 : decode cX1_wholeRealm 6 = .ok (.iconst 0, 1) := dk_3 (dk_at dksX1_wholeRealm_0 6 rfl rfl)
theorem dX1_wholeRealm_7 : decode cX1_wholeRealm 7 = .ok (.putfield 260, 3) := dk_181 1 4 (dk_at dksX1_wholeRealm_0 7 rfl rfl)
theorem dX1_wholeRealm_10 : decode cX1_wholeRealm 10 = .ok (.aload_n 0, 1) := dk_42 (dk_at dksX1_wholeRealm_0 10 rfl rfl)
theorem dX1_wholeRealm_11 : decode cX1_wholeRealm 11 = .ok (.iconst 0, 1) := dk_3 (dk_at dksX1_wholeRealm_0 11 rfl rfl)
theorem dX1_wholeRealm_12 : decode cX1_wholeRealm 12 = .ok (.putfield 263, 3) := dk_181 1 7 (dk_at dksX1_wholeRealm_0 12 rfl rfl)
theorem dX1_wholeRealm_15 : decode cX1_wholeRealm 15 = .ok (.iconst 0, 1) := dk_3 (dk_at dksX1_wholeRealm_0 15 rfl rfl)
theorem dX1_wholeRealm_16 : decode cX1_wholeRealm 16 = .ok (.istore_n 1, 1) := dk_60 (dk_at dksX1_wholeRealm_0 16 rfl rfl)
theorem dX1_wholeRealm_17 : decode cX1_wholeRealm 17 = .ok (.iconst 0, 1) := dk_3 (dk_at dksX1_wholeRealm_0 17 rfl rfl)
theorem dX1_wholeRealm_18 : decode cX1_wholeRealm 18 = .ok (.istore_n 2, 1) := dk_61 (dk_at dksX1_wholeRealm_0 18 rfl rfl)
theorem dX1_wholeRealm_19 : decode cX1_wholeRealm 19 = .ok (.iload_n 2, 1) := dk_28 (dk_at dksX1_wholeRealm_0 19 rfl rfl)
theorem dX1_wholeRealm_20 : decode cX1_wholeRealm 20 = .ok (.iconst 2, 1) := dk_5 (dk_at dksX1_wholeRealm_0 20 rfl rfl)
theorem dX1_wholeRealm_21 : decode cX1_wholeRealm 21 = .ok (.if_icmp .ge 21, 3) := dk_162 0 21 (dk_at dksX1_wholeRealm_0 21 rfl rfl)
theorem dX1_wholeRealm_24 : decode cX1_wholeRealm 24 = .ok (.aload_n 0, 1) := dk_42 (dk_at dksX1_wholeRealm_1 0 rfl rfl)
theorem dX1_wholeRealm_25 : decode cX1_wholeRealm 25 = .ok (.getfield 24, 3) := dk_180 0 24 (dk_at dksX1_wholeRealm_1 1 rfl rfl)
theorem dX1_wholeRealm_28 : decode cX1_wholeRealm 28 = .ok (.iload_n 2, 1) := dk_28 (dk_at dksX1_wholeRealm_1 4 rfl rfl)
theorem dX1_wholeRealm_29 : decode cX1_wholeRealm 29 = .ok (.bipush 115, 2) := dk_16 115 (dk_at dksX1_wholeRealm_1 5 rfl rfl)
theorem dX1_wholeRealm_31 : decode cX1_wholeRealm 31 = .ok (.iload_n 2, 1) := dk_28 (dk_at dksX1_wholeRealm_1 7 rfl rfl)
theorem dX1_wholeRealm_32 : decode cX1_wholeRealm 32 = .ok (.invokestatic 243, 3) := dk_184 0 243 (dk_at dksX1_wholeRealm_1 8 rfl rfl)
theorem dX1_wholeRealm_35 : decode cX1_wholeRealm 35 = .ok (.iastore, 1) := dk_79 (dk_at dksX1_wholeRealm_1 11 rfl rfl)
theorem dX1_wholeRealm_36 : decode cX1_wholeRealm 36 = .ok (.iinc 2 1, 3) := dk_132 2 1 (dk_at dksX1_wholeRealm_1 12 rfl rfl)
theorem dX1_wholeRealm_39 : decode cX1_wholeRealm 39 = .ok (.goto (-20), 3) := dk_167 255 236 (dk_at dksX1_wholeRealm_1 15 rfl rfl)
theorem dX1_wholeRealm_42 : decode cX1_wholeRealm 42 = .ok (.iconst 1, 1) := dk_4 (dk_at dksX1_wholeRealm_1 18 rfl rfl)
theorem dX1_wholeRealm_43 : decode cX1_wholeRealm 43 = .ok (.istore_n 2, 1) := dk_61 (dk_at dksX1_wholeRealm_1 19 rfl rfl)
theorem dX1_wholeRealm_44 : decode cX1_wholeRealm 44 = .ok (.iload_n 2, 1) := dk_28 (dk_at dksX1_wholeRealm_1 20 rfl rfl)
theorem dX1_wholeRealm_45 : decode cX1_wholeRealm 45 = .ok (.ifCond .eq 181, 3) := dk_153 0 181 (dk_at dksX1_wholeRealm_1 21 rfl rfl)
theorem dX1_wholeRealm_48 : decode cX1_wholeRealm 48 = .ok (.aload_n 0, 1) := dk_42 (dk_at dksX1_wholeRealm_2 0 rfl rfl)
theorem dX1_wholeRealm_49 : decode cX1_wholeRealm 49 = .ok (.invokevirtual 102, 3) := dk_182 0 102 (dk_at dksX1_wholeRealm_2 1 rfl rfl)
theorem dX1_wholeRealm_52 : decode cX1_wholeRealm 52 = .ok (.istore_n 3, 1) := dk_62 (dk_at dksX1_wholeRealm_2 4 rfl rfl)
theorem dX1_wholeRealm_53 : decode cX1_wholeRealm 53 = .ok (.aload_n 0, 1) := dk_42 (dk_at dksX1_wholeRealm_2 5 rfl rfl)
theorem dX1_wholeRealm_54 : decode cX1_wholeRealm 54 = .ok (.iload_n 3, 1) := dk_29 (dk_at dksX1_wholeRealm_2 6 rfl rfl)
theorem dX1_wholeRealm_55 : decode cX1_wholeRealm 55 = .ok (.bipush 115, 2) := dk_16 115 (dk_at dksX1_wholeRealm_2 7 rfl rfl)
theorem dX1_wholeRealm_57 : decode cX1_wholeRealm 57 = .ok (.if_icmp .ne 7, 3) := dk_160 0 7 (dk_at dksX1_wholeRealm_2 9 rfl rfl)
theorem dX1_wholeRealm_60 : decode cX1_wholeRealm 60 = .ok (.iload_n 1, 1) := dk_27 (dk_at dksX1_wholeRealm_2 12 rfl rfl)
theorem dX1_wholeRealm_61 : decode cX1_wholeRealm 61 = .ok (.ifCond .eq 32, 3) := dk_153 0 32 (dk_at dksX1_wholeRealm_2 13 rfl rfl)
theorem dX1_wholeRealm_64 : decode cX1_wholeRealm 64 = .ok (.iload_n 3, 1) := dk_29 (dk_at dksX1_wholeRealm_2 16 rfl rfl)
theorem dX1_wholeRealm_65 : decode cX1_wholeRealm 65 = .ok (.bipush 107, 2) := dk_16 107 (dk_at dksX1_wholeRealm_2 17 rfl rfl)
theorem dX1_wholeRealm_67 : decode cX1_wholeRealm 67 = .ok (.if_icmp .ne 11, 3) := dk_160 0 11 (dk_at dksX1_wholeRealm_2 19 rfl rfl)
theorem dX1_wholeRealm_70 : decode cX1_wholeRealm 70 = .ok (.aload_n 0, 1) := dk_42 (dk_at dksX1_wholeRealm_2 22 rfl rfl)
theorem dX1_wholeRealm_71 : decode cX1_wholeRealm 71 = .ok (.getfield 260, 3) := dk_180 1 4 (dk_at dksX1_wholeRealm_3 0 rfl rfl)
theorem dX1_wholeRealm_74 : decode cX1_wholeRealm 74 = .ok (.iconst 4, 1) := dk_7 (dk_at dksX1_wholeRealm_3 3 rfl rfl)
theorem dX1_wholeRealm_75 : decode cX1_wholeRealm 75 = .ok (.if_icmp .lt 18, 3) := dk_161 0 18 (dk_at dksX1_wholeRealm_3 4 rfl rfl)
theorem dX1_wholeRealm_78 : decode cX1_wholeRealm 78 = .ok (.iload_n 3, 1) := dk_29 (dk_at dksX1_wholeRealm_3 7 rfl rfl)
theorem dX1_wholeRealm_79 : decode cX1_wholeRealm 79 = .ok (.bipush 102, 2) := dk_16 102 (dk_at dksX1_wholeRealm_3 8 rfl rfl)
theorem dX1_wholeRealm_81 : decode cX1_wholeRealm 81 = .ok (.if_icmp .ne 16, 3) := dk_160 0 16 (dk_at dksX1_wholeRealm_3 10 rfl rfl)
theorem dX1_wholeRealm_84 : decode cX1_wholeRealm 84 = .ok (.aload_n 0, 1) := dk_42 (dk_at dksX1_wholeRealm_3 13 rfl rfl)
theorem dX1_wholeRealm_85 : decode cX1_wholeRealm 85 = .ok (.getfield 263, 3) := dk_180 1 7 (dk_at dksX1_wholeRealm_3 14 rfl rfl)
theorem dX1_wholeRealm_88 : decode cX1_wholeRealm 88 = .ok (.bipush 8, 2) := dk_16 8 (dk_at dksX1_wholeRealm_3 17 rfl rfl)
theorem dX1_wholeRealm_90 : decode cX1_wholeRealm 90 = .ok (.if_icmp .ge 7, 3) := dk_162 0 7 (dk_at dksX1_wholeRealm_3 19 rfl rfl)
theorem dX1_wholeRealm_93 : decode cX1_wholeRealm 93 = .ok (.iconst 1, 1) := dk_4 (dk_at dksX1_wholeRealm_3 22 rfl rfl)
theorem dX1_wholeRealm_94 : decode cX1_wholeRealm 94 = .ok (.goto 4, 3) := dk_167 0 4 (dk_at dksX1_wholeRealm_4 0 rfl rfl)
theorem dX1_wholeRealm_97 : decode cX1_wholeRealm 97 = .ok (.iconst 0, 1) := dk_3 (dk_at dksX1_wholeRealm_4 3 rfl rfl)
theorem dX1_wholeRealm_98 : decode cX1_wholeRealm 98 = .ok (.invokevirtual 98, 3) := dk_182 0 98 (dk_at dksX1_wholeRealm_4 4 rfl rfl)
theorem dX1_wholeRealm_101 : decode cX1_wholeRealm 101 = .ok (.aload_n 0, 1) := dk_42 (dk_at dksX1_wholeRealm_4 7 rfl rfl)
theorem dX1_wholeRealm_102 : decode cX1_wholeRealm 102 = .ok (.dup, 1) := dk_89 (dk_at dksX1_wholeRealm_4 8 rfl rfl)
theorem dX1_wholeRealm_103 : decode cX1_wholeRealm 103 = .ok (.getfield 92, 3) := dk_180 0 92 (dk_at dksX1_wholeRealm_4 9 rfl rfl)
theorem dX1_wholeRealm_106 : decode cX1_wholeRealm 106 = .ok (.iconst 1, 1) := dk_4 (dk_at dksX1_wholeRealm_4 12 rfl rfl)
theorem dX1_wholeRealm_107 : decode cX1_wholeRealm 107 = .ok (.iadd, 1) := dk_96 (dk_at dksX1_wholeRealm_4 13 rfl rfl)
theorem dX1_wholeRealm_108 : decode cX1_wholeRealm 108 = .ok (.putfield 92, 3) := dk_181 0 92 (dk_at dksX1_wholeRealm_4 14 rfl rfl)
theorem dX1_wholeRealm_111 : decode cX1_wholeRealm 111 = .ok (.iload_n 3, 1) := dk_29 (dk_at dksX1_wholeRealm_4 17 rfl rfl)
theorem dX1_wholeRealm_112 : decode cX1_wholeRealm 112 = .ok (.bipush 115, 2) := dk_16 115 (dk_at dksX1_wholeRealm_4 18 rfl rfl)
theorem dX1_wholeRealm_114 : decode cX1_wholeRealm 114 = .ok (.if_icmp .ne 19, 3) := dk_160 0 19 (dk_at dksX1_wholeRealm_4 20 rfl rfl)
theorem dX1_wholeRealm_117 : decode cX1_wholeRealm 117 = .ok (.iconst 1, 1) := dk_4 (dk_at dksX1_wholeRealm_4 23 rfl rfl)
theorem dX1_wholeRealm_118 : decode cX1_wholeRealm 118 = .ok (.istore_n 1, 1) := dk_60 (dk_at dksX1_wholeRealm_5 0 rfl rfl)
theorem dX1_wholeRealm_119 : decode cX1_wholeRealm 119 = .ok (.aload_n 0, 1) := dk_42 (dk_at dksX1_wholeRealm_5 1 rfl rfl)
theorem dX1_wholeRealm_120 : decode cX1_wholeRealm 120 = .ok (.iload_n 3, 1) := dk_29 (dk_at dksX1_wholeRealm_5 2 rfl rfl)
theorem dX1_wholeRealm_121 : decode cX1_wholeRealm 121 = .ok (.aload_n 0, 1) := dk_42 (dk_at dksX1_wholeRealm_5 3 rfl rfl)
theorem dX1_wholeRealm_122 : decode cX1_wholeRealm 122 = .ok (.getfield 24, 3) := dk_180 0 24 (dk_at dksX1_wholeRealm_5 4 rfl rfl)
theorem dX1_wholeRealm_125 : decode cX1_wholeRealm 125 = .ok (.iconst 0, 1) := dk_3 (dk_at dksX1_wholeRealm_5 7 rfl rfl)
theorem dX1_wholeRealm_126 : decode cX1_wholeRealm 126 = .ok (.iconst 2, 1) := dk_5 (dk_at dksX1_wholeRealm_5 8 rfl rfl)
theorem dX1_wholeRealm_127 : decode cX1_wholeRealm 127 = .ok (.invokevirtual 266, 3) := dk_182 1 10 (dk_at dksX1_wholeRealm_5 9 rfl rfl)
theorem dX1_wholeRealm_130 : decode cX1_wholeRealm 130 = .ok (.goto 64, 3) := dk_167 0 64 (dk_at dksX1_wholeRealm_5 12 rfl rfl)
theorem dX1_wholeRealm_133 : decode cX1_wholeRealm 133 = .ok (.iload_n 3, 1) := dk_29 (dk_at dksX1_wholeRealm_5 15 rfl rfl)
theorem dX1_wholeRealm_134 : decode cX1_wholeRealm 134 = .ok (.bipush 107, 2) := dk_16 107 (dk_at dksX1_wholeRealm_5 16 rfl rfl)
theorem dX1_wholeRealm_136 : decode cX1_wholeRealm 136 = .ok (.if_icmp .ne 32, 3) := dk_160 0 32 (dk_at dksX1_wholeRealm_5 18 rfl rfl)
theorem dX1_wholeRealm_139 : decode cX1_wholeRealm 139 = .ok (.aload_n 0, 1) := dk_42 (dk_at dksX1_wholeRealm_5 21 rfl rfl)
theorem dX1_wholeRealm_140 : decode cX1_wholeRealm 140 = .ok (.iload_n 3, 1) := dk_29 (dk_at dksX1_wholeRealm_5 22 rfl rfl)
theorem dX1_wholeRealm_141 : decode cX1_wholeRealm 141 = .ok (.aload_n 0, 1) := dk_42 (dk_at dksX1_wholeRealm_5 23 rfl rfl)
theorem dX1_wholeRealm_142 : decode cX1_wholeRealm 142 = .ok (.getfield 27, 3) := dk_180 0 27 (dk_at dksX1_wholeRealm_6 0 rfl rfl)
theorem dX1_wholeRealm_145 : decode cX1_wholeRealm 145 = .ok (.iconst 3, 1) := dk_6 (dk_at dksX1_wholeRealm_6 3 rfl rfl)
theorem dX1_wholeRealm_146 : decode cX1_wholeRealm 146 = .ok (.aload_n 0, 1) := dk_42 (dk_at dksX1_wholeRealm_6 4 rfl rfl)
theorem dX1_wholeRealm_147 : decode cX1_wholeRealm 147 = .ok (.getfield 260, 3) := dk_180 1 4 (dk_at dksX1_wholeRealm_6 5 rfl rfl)
theorem dX1_wholeRealm_150 : decode cX1_wholeRealm 150 = .ok (.imul, 1) := dk_104 (dk_at dksX1_wholeRealm_6 8 rfl rfl)
theorem dX1_wholeRealm_151 : decode cX1_wholeRealm 151 = .ok (.iconst 3, 1) := dk_6 (dk_at dksX1_wholeRealm_6 9 rfl rfl)
theorem dX1_wholeRealm_152 : decode cX1_wholeRealm 152 = .ok (.invokevirtual 266, 3) := dk_182 1 10 (dk_at dksX1_wholeRealm_6 10 rfl rfl)
theorem dX1_wholeRealm_155 : decode cX1_wholeRealm 155 = .ok (.aload_n 0, 1) := dk_42 (dk_at dksX1_wholeRealm_6 13 rfl rfl)
theorem dX1_wholeRealm_156 : decode cX1_wholeRealm 156 = .ok (.dup, 1) := dk_89 (dk_at dksX1_wholeRealm_6 14 rfl rfl)
theorem dX1_wholeRealm_157 : decode cX1_wholeRealm 157 = .ok (.getfield 260, 3) := dk_180 1 4 (dk_at dksX1_wholeRealm_6 15 rfl rfl)
theorem dX1_wholeRealm_160 : decode cX1_wholeRealm 160 = .ok (.iconst 1, 1) := dk_4 (dk_at dksX1_wholeRealm_6 18 rfl rfl)
theorem dX1_wholeRealm_161 : decode cX1_wholeRealm 161 = .ok (.iadd, 1) := dk_96 (dk_at dksX1_wholeRealm_6 19 rfl rfl)
theorem dX1_wholeRealm_162 : decode cX1_wholeRealm 162 = .ok (.putfield 260, 3) := dk_181 1 4 (dk_at dksX1_wholeRealm_6 20 rfl rfl)
theorem dX1_wholeRealm_165 : decode cX1_wholeRealm 165 = .ok (.goto 29, 3) := dk_167 0 29 (dk_at dksX1_wholeRealm_7 0 rfl rfl)
theorem dX1_wholeRealm_168 : decode cX1_wholeRealm 168 = .ok (.aload_n 0, 1) := dk_42 (dk_at dksX1_wholeRealm_7 3 rfl rfl)
theorem dX1_wholeRealm_169 : decode cX1_wholeRealm 169 = .ok (.iload_n 3, 1) := dk_29 (dk_at dksX1_wholeRealm_7 4 rfl rfl)
theorem dX1_wholeRealm_170 : decode cX1_wholeRealm 170 = .ok (.aload_n 0, 1) := dk_42 (dk_at dksX1_wholeRealm_7 5 rfl rfl)
theorem dX1_wholeRealm_171 : decode cX1_wholeRealm 171 = .ok (.getfield 30, 3) := dk_180 0 30 (dk_at dksX1_wholeRealm_7 6 rfl rfl)
theorem dX1_wholeRealm_174 : decode cX1_wholeRealm 174 = .ok (.iconst 4, 1) := dk_7 (dk_at dksX1_wholeRealm_7 9 rfl rfl)
theorem dX1_wholeRealm_175 : decode cX1_wholeRealm 175 = .ok (.aload_n 0, 1) := dk_42 (dk_at dksX1_wholeRealm_7 10 rfl rfl)
theorem dX1_wholeRealm_176 : decode cX1_wholeRealm 176 = .ok (.getfield 263, 3) := dk_180 1 7 (dk_at dksX1_wholeRealm_7 11 rfl rfl)
theorem dX1_wholeRealm_179 : decode cX1_wholeRealm 179 = .ok (.imul, 1) := dk_104 (dk_at dksX1_wholeRealm_7 14 rfl rfl)
theorem dX1_wholeRealm_180 : decode cX1_wholeRealm 180 = .ok (.iconst 4, 1) := dk_7 (dk_at dksX1_wholeRealm_7 15 rfl rfl)
theorem dX1_wholeRealm_181 : decode cX1_wholeRealm 181 = .ok (.invokevirtual 266, 3) := dk_182 1 10 (dk_at dksX1_wholeRealm_7 16 rfl rfl)
theorem dX1_wholeRealm_184 : decode cX1_wholeRealm 184 = .ok (.aload_n 0, 1) := dk_42 (dk_at dksX1_wholeRealm_7 19 rfl rfl)
theorem dX1_wholeRealm_185 : decode cX1_wholeRealm 185 = .ok (.dup, 1) := dk_89 (dk_at dksX1_wholeRealm_7 20 rfl rfl)
theorem dX1_wholeRealm_186 : decode cX1_wholeRealm 186 = .ok (.getfield 263, 3) := dk_180 1 7 (dk_at dksX1_wholeRealm_7 21 rfl rfl)
theorem dX1_wholeRealm_189 : decode cX1_wholeRealm 189 = .ok (.iconst 1, 1) := dk_4 (dk_at dksX1_wholeRealm_8 0 rfl rfl)
theorem dX1_wholeRealm_190 : decode cX1_wholeRealm 190 = .ok (.iadd, 1) := dk_96 (dk_at dksX1_wholeRealm_8 1 rfl rfl)
theorem dX1_wholeRealm_191 : decode cX1_wholeRealm 191 = .ok (.putfield 263, 3) := dk_181 1 7 (dk_at dksX1_wholeRealm_8 2 rfl rfl)
theorem dX1_wholeRealm_194 : decode cX1_wholeRealm 194 = .ok (.aload_n 0, 1) := dk_42 (dk_at dksX1_wholeRealm_8 5 rfl rfl)
theorem dX1_wholeRealm_195 : decode cX1_wholeRealm 195 = .ok (.invokevirtual 102, 3) := dk_182 0 102 (dk_at dksX1_wholeRealm_8 6 rfl rfl)
theorem dX1_wholeRealm_198 : decode cX1_wholeRealm 198 = .ok (.bipush 59, 2) := dk_16 59 (dk_at dksX1_wholeRealm_8 9 rfl rfl)
theorem dX1_wholeRealm_200 : decode cX1_wholeRealm 200 = .ok (.if_icmp .ne 7, 3) := dk_160 0 7 (dk_at dksX1_wholeRealm_8 11 rfl rfl)
theorem dX1_wholeRealm_203 : decode cX1_wholeRealm 203 = .ok (.iconst 1, 1) := dk_4 (dk_at dksX1_wholeRealm_8 14 rfl rfl)
theorem dX1_wholeRealm_204 : decode cX1_wholeRealm 204 = .ok (.goto 4, 3) := dk_167 0 4 (dk_at dksX1_wholeRealm_8 15 rfl rfl)
theorem dX1_wholeRealm_207 : decode cX1_wholeRealm 207 = .ok (.iconst 0, 1) := dk_3 (dk_at dksX1_wholeRealm_8 18 rfl rfl)
theorem dX1_wholeRealm_208 : decode cX1_wholeRealm 208 = .ok (.istore_n 2, 1) := dk_61 (dk_at dksX1_wholeRealm_8 19 rfl rfl)
theorem dX1_wholeRealm_209 : decode cX1_wholeRealm 209 = .ok (.iload_n 2, 1) := dk_28 (dk_at dksX1_wholeRealm_8 20 rfl rfl)
theorem dX1_wholeRealm_210 : decode cX1_wholeRealm 210 = .ok (.ifCond .eq 13, 3) := dk_153 0 13 (dk_at dksX1_wholeRealm_8 21 rfl rfl)
theorem dX1_wholeRealm_213 : decode cX1_wholeRealm 213 = .ok (.aload_n 0, 1) := dk_42 (dk_at dksX1_wholeRealm_9 0 rfl rfl)
theorem dX1_wholeRealm_214 : decode cX1_wholeRealm 214 = .ok (.dup, 1) := dk_89 (dk_at dksX1_wholeRealm_9 1 rfl rfl)
theorem dX1_wholeRealm_215 : decode cX1_wholeRealm 215 = .ok (.getfield 92, 3) := dk_180 0 92 (dk_at dksX1_wholeRealm_9 2 rfl rfl)
theorem dX1_wholeRealm_218 : decode cX1_wholeRealm 218 = .ok (.iconst 1, 1) := dk_4 (dk_at dksX1_wholeRealm_9 5 rfl rfl)
theorem dX1_wholeRealm_219 : decode cX1_wholeRealm 219 = .ok (.iadd, 1) := dk_96 (dk_at dksX1_wholeRealm_9 6 rfl rfl)
theorem dX1_wholeRealm_220 : decode cX1_wholeRealm 220 = .ok (.putfield 92, 3) := dk_181 0 92 (dk_at dksX1_wholeRealm_9 7 rfl rfl)
theorem dX1_wholeRealm_223 : decode cX1_wholeRealm 223 = .ok (.goto (-179), 3) := dk_167 255 77 (dk_at dksX1_wholeRealm_9 10 rfl rfl)
theorem dX1_wholeRealm_226 : decode cX1_wholeRealm 226 = .ok (.aload_n 0, 1) := dk_42 (dk_at dksX1_wholeRealm_9 13 rfl rfl)
theorem dX1_wholeRealm_227 : decode cX1_wholeRealm 227 = .ok (.aload_n 0, 1) := dk_42 (dk_at dksX1_wholeRealm_9 14 rfl rfl)
theorem dX1_wholeRealm_228 : decode cX1_wholeRealm 228 = .ok (.invokevirtual 102, 3) := dk_182 0 102 (dk_at dksX1_wholeRealm_9 15 rfl rfl)
theorem dX1_wholeRealm_231 : decode cX1_wholeRealm 231 = .ok (.iconst (-1), 1) := dk_2 (dk_at dksX1_wholeRealm_9 18 rfl rfl)
theorem dX1_wholeRealm_232 : decode cX1_wholeRealm 232 = .ok (.if_icmp .ne 14, 3) := dk_160 0 14 (dk_at dksX1_wholeRealm_9 19 rfl rfl)
theorem dX1_wholeRealm_235 : decode cX1_wholeRealm 235 = .ok (.aload_n 0, 1) := dk_42 (dk_at dksX1_wholeRealm_9 22 rfl rfl)
theorem dX1_wholeRealm_236 : decode cX1_wholeRealm 236 = .ok (.invokevirtual 270, 3) := dk_182 1 14 (dk_at dksX1_wholeRealm_10 0 rfl rfl)
theorem dX1_wholeRealm_239 : decode cX1_wholeRealm 239 = .ok (.ifCond .eq 7, 3) := dk_153 0 7 (dk_at dksX1_wholeRealm_10 3 rfl rfl)
theorem dX1_wholeRealm_242 : decode cX1_wholeRealm 242 = .ok (.iconst 1, 1) := dk_4 (dk_at dksX1_wholeRealm_10 6 rfl rfl)
theorem dX1_wholeRealm_243 : decode cX1_wholeRealm 243 = .ok (.goto 4, 3) := dk_167 0 4 (dk_at dksX1_wholeRealm_10 7 rfl rfl)
theorem dX1_wholeRealm_246 : decode cX1_wholeRealm 246 = .ok (.iconst 0, 1) := dk_3 (dk_at dksX1_wholeRealm_10 10 rfl rfl)
theorem dX1_wholeRealm_247 : decode cX1_wholeRealm 247 = .ok (.invokevirtual 98, 3) := dk_182 0 98 (dk_at dksX1_wholeRealm_10 11 rfl rfl)
theorem dX1_wholeRealm_250 : decode cX1_wholeRealm 250 = .ok (.return_, 1) := dk_177 (dk_at dksX1_wholeRealm_10 14 rfl rfl)
abbrev cX1_usual : ByteArray := prog_1_method_29_code
def yX1_usual : MethodName := ⟨RX1, "usual", "(II)I"⟩
def dkwX1_usual_4 : List UInt8 := [16, 7, 167, 0, 4, 3, 172]
abbrev dktX1_usual_4 : List UInt8 := dkwX1_usual_4 ++ []
def dkwX1_usual_3 : List UInt8 := [160, 0, 7, 5, 167, 0, 4, 6, 172, 27, 4, 160, 0, 7, 4, 167, 0, 14, 27, 6, 160, 0, 8]
abbrev dktX1_usual_3 : List UInt8 := dkwX1_usual_3 ++ dktX1_usual_4
def dkwX1_usual_2 : List UInt8 := [27, 154, 0, 7, 4, 167, 0, 5, 16, 20, 172, 27, 154, 0, 8, 16, 8, 167, 0, 13, 27, 4]
abbrev dktX1_usual_2 : List UInt8 := dkwX1_usual_2 ++ dktX1_usual_3
def dkwX1_usual_1 : List UInt8 := [171, 0, 0, 0, 0, 0, 58, 0, 0, 0, 2, 0, 0, 0, 107, 0, 0, 0, 38, 0, 0, 0, 115, 0, 0, 0, 27]
abbrev dktX1_usual_1 : List UInt8 := dkwX1_usual_1 ++ dktX1_usual_2
def dkwX1_usual_0 : List UInt8 := [26]
abbrev dktX1_usual_0 : List UInt8 := dkwX1_usual_0 ++ dktX1_usual_1
theorem dksX1_usual_0 : cX1_usual.data.toList.drop 0 = dktX1_usual_0 := by decide +kernel
theorem dksX1_usual_1 : cX1_usual.data.toList.drop 1 = dktX1_usual_1 := dk_seg dksX1_usual_0 1 rfl rfl
theorem dksX1_usual_2 : cX1_usual.data.toList.drop 28 = dktX1_usual_2 := dk_seg dksX1_usual_1 27 rfl rfl
theorem dksX1_usual_3 : cX1_usual.data.toList.drop 50 = dktX1_usual_3 := dk_seg dksX1_usual_2 22 rfl rfl
theorem dksX1_usual_4 : cX1_usual.data.toList.drop 73 = dktX1_usual_4 := dk_seg dksX1_usual_3 23 rfl rfl
theorem dX1_usual_0 : decode cX1_usual 0 = .ok (.iload_n 0, 1) := dk_26 (dk_at dksX1_usual_0 0 rfl rfl)
theorem dX1_usual_1 : decode cX1_usual 1 = .ok (.lookupswitch 58 #[(107, 38), (115, 27)], 27) := by decide +kernel
theorem dX1_usual_28 : decode cX1_usual 28 = .ok (.iload_n 1, 1) := dk_27 (dk_at dksX1_usual_2 0 rfl rfl)
theorem dX1_usual_29 : decode cX1_usual 29 = .ok (.ifCond .ne 7, 3) := dk_154 0 7 (dk_at dksX1_usual_2 1 rfl rfl)
theorem dX1_usual_32 : decode cX1_usual 32 = .ok (.iconst 1, 1) := dk_4 (dk_at dksX1_usual_2 4 rfl rfl)
theorem dX1_usual_33 : decode cX1_usual 33 = .ok (.goto 5, 3) := dk_167 0 5 (dk_at dksX1_usual_2 5 rfl rfl)
theorem dX1_usual_36 : decode cX1_usual 36 = .ok (.bipush 20, 2) := dk_16 20 (dk_at dksX1_usual_2 8 rfl rfl)
theorem dX1_usual_38 : decode cX1_usual 38 = .ok (.ireturn, 1) := dk_172 (dk_at dksX1_usual_2 10 rfl rfl)
theorem dX1_usual_39 : decode cX1_usual 39 = .ok (.iload_n 1, 1) := dk_27 (dk_at dksX1_usual_2 11 rfl rfl)
theorem dX1_usual_40 : decode cX1_usual 40 = .ok (.ifCond .ne 8, 3) := dk_154 0 8 (dk_at dksX1_usual_2 12 rfl rfl)
theorem dX1_usual_43 : decode cX1_usual 43 = .ok (.bipush 8, 2) := dk_16 8 (dk_at dksX1_usual_2 15 rfl rfl)
theorem dX1_usual_45 : decode cX1_usual 45 = .ok (.goto 13, 3) := dk_167 0 13 (dk_at dksX1_usual_2 17 rfl rfl)
theorem dX1_usual_48 : decode cX1_usual 48 = .ok (.iload_n 1, 1) := dk_27 (dk_at dksX1_usual_2 20 rfl rfl)
theorem dX1_usual_49 : decode cX1_usual 49 = .ok (.iconst 1, 1) := dk_4 (dk_at dksX1_usual_2 21 rfl rfl)
theorem dX1_usual_50 : decode cX1_usual 50 = .ok (.if_icmp .ne 7, 3) := dk_160 0 7 (dk_at dksX1_usual_3 0 rfl rfl)
theorem dX1_usual_53 : decode cX1_usual 53 = .ok (.iconst 2, 1) := dk_5 (dk_at dksX1_usual_3 3 rfl rfl)
theorem dX1_usual_54 : decode cX1_usual 54 = .ok (.goto 4, 3) := dk_167 0 4 (dk_at dksX1_usual_3 4 rfl rfl)
theorem dX1_usual_57 : decode cX1_usual 57 = .ok (.iconst 3, 1) := dk_6 (dk_at dksX1_usual_3 7 rfl rfl)
theorem dX1_usual_58 : decode cX1_usual 58 = .ok (.ireturn, 1) := dk_172 (dk_at dksX1_usual_3 8 rfl rfl)
theorem dX1_usual_59 : decode cX1_usual 59 = .ok (.iload_n 1, 1) := dk_27 (dk_at dksX1_usual_3 9 rfl rfl)
theorem dX1_usual_60 : decode cX1_usual 60 = .ok (.iconst 1, 1) := dk_4 (dk_at dksX1_usual_3 10 rfl rfl)
theorem dX1_usual_61 : decode cX1_usual 61 = .ok (.if_icmp .ne 7, 3) := dk_160 0 7 (dk_at dksX1_usual_3 11 rfl rfl)
theorem dX1_usual_64 : decode cX1_usual 64 = .ok (.iconst 1, 1) := dk_4 (dk_at dksX1_usual_3 14 rfl rfl)
theorem dX1_usual_65 : decode cX1_usual 65 = .ok (.goto 14, 3) := dk_167 0 14 (dk_at dksX1_usual_3 15 rfl rfl)
theorem dX1_usual_68 : decode cX1_usual 68 = .ok (.iload_n 1, 1) := dk_27 (dk_at dksX1_usual_3 18 rfl rfl)
theorem dX1_usual_69 : decode cX1_usual 69 = .ok (.iconst 3, 1) := dk_6 (dk_at dksX1_usual_3 19 rfl rfl)
theorem dX1_usual_70 : decode cX1_usual 70 = .ok (.if_icmp .ne 8, 3) := dk_160 0 8 (dk_at dksX1_usual_3 20 rfl rfl)
theorem dX1_usual_73 : decode cX1_usual 73 = .ok (.bipush 7, 2) := dk_16 7 (dk_at dksX1_usual_4 0 rfl rfl)
theorem dX1_usual_75 : decode cX1_usual 75 = .ok (.goto 4, 3) := dk_167 0 4 (dk_at dksX1_usual_4 2 rfl rfl)
theorem dX1_usual_78 : decode cX1_usual 78 = .ok (.iconst 0, 1) := dk_3 (dk_at dksX1_usual_4 5 rfl rfl)
theorem dX1_usual_79 : decode cX1_usual 79 = .ok (.ireturn, 1) := dk_172 (dk_at dksX1_usual_4 6 rfl rfl)
abbrev cX1_items : ByteArray := prog_1_method_30_code
def yX1_items : MethodName := ⟨RX1, "items", "(I[III)V"⟩
def dkwX1_items_4 : List UInt8 := [181, 0, 92, 44, 29, 21, 6, 96, 42, 3, 27, 21, 6, 184, 0, 254, 182, 1, 1, 79, 167, 255, 175, 177]
abbrev dktX1_items_4 : List UInt8 := dkwX1_items_4 ++ []
def dkwX1_items_3 : List UInt8 := [182, 0, 230, 184, 0, 247, 54, 6, 21, 5, 4, 21, 6, 120, 128, 54, 5, 42, 89, 180, 0, 92, 4, 96]
abbrev dktX1_items_3 : List UInt8 := dkwX1_items_3 ++ dktX1_items_4
def dkwX1_items_2 : List UInt8 := [184, 0, 247, 155, 0, 68, 21, 5, 27, 42, 182, 0, 230, 184, 0, 247, 184, 0, 250, 154, 0, 52, 27, 42]
abbrev dktX1_items_2 : List UInt8 := dkwX1_items_2 ++ dktX1_items_3
def dkwX1_items_1 : List UInt8 := [132, 5, 1, 167, 255, 234, 3, 54, 5, 42, 182, 0, 102, 2, 159, 0, 79, 27, 42, 182, 0, 230]
abbrev dktX1_items_1 : List UInt8 := dkwX1_items_1 ++ dktX1_items_2
def dkwX1_items_0 : List UInt8 := [3, 54, 5, 21, 5, 21, 4, 162, 0, 21, 44, 29, 21, 5, 96, 27, 21, 5, 184, 0, 243, 79]
abbrev dktX1_items_0 : List UInt8 := dkwX1_items_0 ++ dktX1_items_1
theorem dksX1_items_0 : cX1_items.data.toList.drop 0 = dktX1_items_0 := by decide +kernel
theorem dksX1_items_1 : cX1_items.data.toList.drop 22 = dktX1_items_1 := dk_seg dksX1_items_0 22 rfl rfl
theorem dksX1_items_2 : cX1_items.data.toList.drop 44 = dktX1_items_2 := dk_seg dksX1_items_1 22 rfl rfl
theorem dksX1_items_3 : cX1_items.data.toList.drop 68 = dktX1_items_3 := dk_seg dksX1_items_2 24 rfl rfl
theorem dksX1_items_4 : cX1_items.data.toList.drop 92 = dktX1_items_4 := dk_seg dksX1_items_3 24 rfl rfl
theorem dX1_items_0 : decode cX1_items 0 = .ok (.iconst 0, 1) := dk_3 (dk_at dksX1_items_0 0 rfl rfl)
theorem dX1_items_1 : decode cX1_items 1 = .ok (.istore 5, 2) := dk_54 5 (dk_at dksX1_items_0 1 rfl rfl)
theorem dX1_items_3 : decode cX1_items 3 = .ok (.iload 5, 2) := dk_21 5 (dk_at dksX1_items_0 3 rfl rfl)
theorem dX1_items_5 : decode cX1_items 5 = .ok (.iload 4, 2) := dk_21 4 (dk_at dksX1_items_0 5 rfl rfl)
theorem dX1_items_7 : decode cX1_items 7 = .ok (.if_icmp .ge 21, 3) := dk_162 0 21 (dk_at dksX1_items_0 7 rfl rfl)
theorem dX1_items_10 : decode cX1_items 10 = .ok (.aload_n 2, 1) := dk_44 (dk_at dksX1_items_0 10 rfl rfl)
theorem dX1_items_11 : decode cX1_items 11 = .ok (.iload_n 3, 1) := dk_29 (dk_at dksX1_items_0 11 rfl rfl)
theorem dX1_items_12 : decode cX1_items 12 = .ok (.iload 5, 2) := dk_21 5 (dk_at dksX1_items_0 12 rfl rfl)
theorem dX1_items_14 : decode cX1_items 14 = .ok (.iadd, 1) := dk_96 (dk_at dksX1_items_0 14 rfl rfl)
theorem dX1_items_15 : decode cX1_items 15 = .ok (.iload_n 1, 1) := dk_27 (dk_at dksX1_items_0 15 rfl rfl)
theorem dX1_items_16 : decode cX1_items 16 = .ok (.iload 5, 2) := dk_21 5 (dk_at dksX1_items_0 16 rfl rfl)
theorem dX1_items_18 : decode cX1_items 18 = .ok (.invokestatic 243, 3) := dk_184 0 243 (dk_at dksX1_items_0 18 rfl rfl)
theorem dX1_items_21 : decode cX1_items 21 = .ok (.iastore, 1) := dk_79 (dk_at dksX1_items_0 21 rfl rfl)
theorem dX1_items_22 : decode cX1_items 22 = .ok (.iinc 5 1, 3) := dk_132 5 1 (dk_at dksX1_items_1 0 rfl rfl)
theorem dX1_items_25 : decode cX1_items 25 = .ok (.goto (-22), 3) := dk_167 255 234 (dk_at dksX1_items_1 3 rfl rfl)
theorem dX1_items_28 : decode cX1_items 28 = .ok (.iconst 0, 1) := dk_3 (dk_at dksX1_items_1 6 rfl rfl)
theorem dX1_items_29 : decode cX1_items 29 = .ok (.istore 5, 2) := dk_54 5 (dk_at dksX1_items_1 7 rfl rfl)
theorem dX1_items_31 : decode cX1_items 31 = .ok (.aload_n 0, 1) := dk_42 (dk_at dksX1_items_1 9 rfl rfl)
theorem dX1_items_32 : decode cX1_items 32 = .ok (.invokevirtual 102, 3) := dk_182 0 102 (dk_at dksX1_items_1 10 rfl rfl)
theorem dX1_items_35 : decode cX1_items 35 = .ok (.iconst (-1), 1) := dk_2 (dk_at dksX1_items_1 13 rfl rfl)
theorem dX1_items_36 : decode cX1_items 36 = .ok (.if_icmp .eq 79, 3) := dk_159 0 79 (dk_at dksX1_items_1 14 rfl rfl)
theorem dX1_items_39 : decode cX1_items 39 = .ok (.iload_n 1, 1) := dk_27 (dk_at dksX1_items_1 17 rfl rfl)
theorem dX1_items_40 : decode cX1_items 40 = .ok (.aload_n 0, 1) := dk_42 (dk_at dksX1_items_1 18 rfl rfl)
theorem dX1_items_41 : decode cX1_items 41 = .ok (.invokevirtual 230, 3) := dk_182 0 230 (dk_at dksX1_items_1 19 rfl rfl)
theorem dX1_items_44 : decode cX1_items 44 = .ok (.invokestatic 247, 3) := dk_184 0 247 (dk_at dksX1_items_2 0 rfl rfl)
theorem dX1_items_47 : decode cX1_items 47 = .ok (.ifCond .lt 68, 3) := dk_155 0 68 (dk_at dksX1_items_2 3 rfl rfl)
theorem dX1_items_50 : decode cX1_items 50 = .ok (.iload 5, 2) := dk_21 5 (dk_at dksX1_items_2 6 rfl rfl)
theorem dX1_items_52 : decode cX1_items 52 = .ok (.iload_n 1, 1) := dk_27 (dk_at dksX1_items_2 8 rfl rfl)
theorem dX1_items_53 : decode cX1_items 53 = .ok (.aload_n 0, 1) := dk_42 (dk_at dksX1_items_2 9 rfl rfl)
theorem dX1_items_54 : decode cX1_items 54 = .ok (.invokevirtual 230, 3) := dk_182 0 230 (dk_at dksX1_items_2 10 rfl rfl)
theorem dX1_items_57 : decode cX1_items 57 = .ok (.invokestatic 247, 3) := dk_184 0 247 (dk_at dksX1_items_2 13 rfl rfl)
theorem dX1_items_60 : decode cX1_items 60 = .ok (.invokestatic 250, 3) := dk_184 0 250 (dk_at dksX1_items_2 16 rfl rfl)
theorem dX1_items_63 : decode cX1_items 63 = .ok (.ifCond .ne 52, 3) := dk_154 0 52 (dk_at dksX1_items_2 19 rfl rfl)
theorem dX1_items_66 : decode cX1_items 66 = .ok (.iload_n 1, 1) := dk_27 (dk_at dksX1_items_2 22 rfl rfl)
theorem dX1_items_67 : decode cX1_items 67 = .ok (.aload_n 0, 1) := dk_42 (dk_at dksX1_items_2 23 rfl rfl)
theorem dX1_items_68 : decode cX1_items 68 = .ok (.invokevirtual 230, 3) := dk_182 0 230 (dk_at dksX1_items_3 0 rfl rfl)
theorem dX1_items_71 : decode cX1_items 71 = .ok (.invokestatic 247, 3) := dk_184 0 247 (dk_at dksX1_items_3 3 rfl rfl)
theorem dX1_items_74 : decode cX1_items 74 = .ok (.istore 6, 2) := dk_54 6 (dk_at dksX1_items_3 6 rfl rfl)
theorem dX1_items_76 : decode cX1_items 76 = .ok (.iload 5, 2) := dk_21 5 (dk_at dksX1_items_3 8 rfl rfl)
theorem dX1_items_78 : decode cX1_items 78 = .ok (.iconst 1, 1) := dk_4 (dk_at dksX1_items_3 10 rfl rfl)
theorem dX1_items_79 : decode cX1_items 79 = .ok (.iload 6, 2) := dk_21 6 (dk_at dksX1_items_3 11 rfl rfl)
theorem dX1_items_81 : decode cX1_items 81 = .ok (.ishl, 1) := dk_120 (dk_at dksX1_items_3 13 rfl rfl)
theorem dX1_items_82 : decode cX1_items 82 = .ok (.ior, 1) := dk_128 (dk_at dksX1_items_3 14 rfl rfl)
theorem dX1_items_83 : decode cX1_items 83 = .ok (.istore 5, 2) := dk_54 5 (dk_at dksX1_items_3 15 rfl rfl)
theorem dX1_items_85 : decode cX1_items 85 = .ok (.aload_n 0, 1) := dk_42 (dk_at dksX1_items_3 17 rfl rfl)
theorem dX1_items_86 : decode cX1_items 86 = .ok (.dup, 1) := dk_89 (dk_at dksX1_items_3 18 rfl rfl)
theorem dX1_items_87 : decode cX1_items 87 = .ok (.getfield 92, 3) := dk_180 0 92 (dk_at dksX1_items_3 19 rfl rfl)
theorem dX1_items_90 : decode cX1_items 90 = .ok (.iconst 1, 1) := dk_4 (dk_at dksX1_items_3 22 rfl rfl)
theorem dX1_items_91 : decode cX1_items 91 = .ok (.iadd, 1) := dk_96 (dk_at dksX1_items_3 23 rfl rfl)
theorem dX1_items_92 : decode cX1_items 92 = .ok (.putfield 92, 3) := dk_181 0 92 (dk_at dksX1_items_4 0 rfl rfl)
theorem dX1_items_95 : decode cX1_items 95 = .ok (.aload_n 2, 1) := dk_44 (dk_at dksX1_items_4 3 rfl rfl)
theorem dX1_items_96 : decode cX1_items 96 = .ok (.iload_n 3, 1) := dk_29 (dk_at dksX1_items_4 4 rfl rfl)
theorem dX1_items_97 : decode cX1_items 97 = .ok (.iload 6, 2) := dk_21 6 (dk_at dksX1_items_4 5 rfl rfl)
theorem dX1_items_99 : decode cX1_items 99 = .ok (.iadd, 1) := dk_96 (dk_at dksX1_items_4 7 rfl rfl)
theorem dX1_items_100 : decode cX1_items 100 = .ok (.aload_n 0, 1) := dk_42 (dk_at dksX1_items_4 8 rfl rfl)
theorem dX1_items_101 : decode cX1_items 101 = .ok (.iconst 0, 1) := dk_3 (dk_at dksX1_items_4 9 rfl rfl)
theorem dX1_items_102 : decode cX1_items 102 = .ok (.iload_n 1, 1) := dk_27 (dk_at dksX1_items_4 10 rfl rfl)
theorem dX1_items_103 : decode cX1_items 103 = .ok (.iload 6, 2) := dk_21 6 (dk_at dksX1_items_4 11 rfl rfl)
theorem dX1_items_105 : decode cX1_items 105 = .ok (.invokestatic 254, 3) := dk_184 0 254 (dk_at dksX1_items_4 13 rfl rfl)
theorem dX1_items_108 : decode cX1_items 108 = .ok (.invokevirtual 257, 3) := dk_182 1 1 (dk_at dksX1_items_4 16 rfl rfl)
theorem dX1_items_111 : decode cX1_items 111 = .ok (.iastore, 1) := dk_79 (dk_at dksX1_items_4 19 rfl rfl)
theorem dX1_items_112 : decode cX1_items 112 = .ok (.goto (-81), 3) := dk_167 255 175 (dk_at dksX1_items_4 20 rfl rfl)
theorem dX1_items_115 : decode cX1_items 115 = .ok (.return_, 1) := dk_177 (dk_at dksX1_items_4 23 rfl rfl)
abbrev cX1_byteHere : ByteArray := prog_1_method_25_code
def yX1_byteHere : MethodName := ⟨RX1, "byteHere", "()I"⟩
def dkwX1_byteHere_1 : List UInt8 := [167, 0, 4, 2, 172]
abbrev dktX1_byteHere_1 : List UInt8 := dkwX1_byteHere_1 ++ []
def dkwX1_byteHere_0 : List UInt8 := [42, 180, 0, 92, 42, 180, 0, 89, 162, 0, 19, 42, 180, 0, 16, 42, 180, 0, 92, 51, 17, 0, 255, 126]
abbrev dktX1_byteHere_0 : List UInt8 := dkwX1_byteHere_0 ++ dktX1_byteHere_1
theorem dksX1_byteHere_0 : cX1_byteHere.data.toList.drop 0 = dktX1_byteHere_0 := by decide +kernel
theorem dksX1_byteHere_1 : cX1_byteHere.data.toList.drop 24 = dktX1_byteHere_1 := dk_seg dksX1_byteHere_0 24 rfl rfl
theorem dX1_byteHere_0 : decode cX1_byteHere 0 = .ok (.aload_n 0, 1) := dk_42 (dk_at dksX1_byteHere_0 0 rfl rfl)
theorem dX1_byteHere_1 : decode cX1_byteHere 1 = .ok (.getfield 92, 3) := dk_180 0 92 (dk_at dksX1_byteHere_0 1 rfl rfl)
theorem dX1_byteHere_4 : decode cX1_byteHere 4 = .ok (.aload_n 0, 1) := dk_42 (dk_at dksX1_byteHere_0 4 rfl rfl)
theorem dX1_byteHere_5 : decode cX1_byteHere 5 = .ok (.getfield 89, 3) := dk_180 0 89 (dk_at dksX1_byteHere_0 5 rfl rfl)
theorem dX1_byteHere_8 : decode cX1_byteHere 8 = .ok (.if_icmp .ge 19, 3) := dk_162 0 19 (dk_at dksX1_byteHere_0 8 rfl rfl)
theorem dX1_byteHere_11 : decode cX1_byteHere 11 = .ok (.aload_n 0, 1) := dk_42 (dk_at dksX1_byteHere_0 11 rfl rfl)
theorem dX1_byteHere_12 : decode cX1_byteHere 12 = .ok (.getfield 16, 3) := dk_180 0 16 (dk_at dksX1_byteHere_0 12 rfl rfl)
theorem dX1_byteHere_15 : decode cX1_byteHere 15 = .ok (.aload_n 0, 1) := dk_42 (dk_at dksX1_byteHere_0 15 rfl rfl)
theorem dX1_byteHere_16 : decode cX1_byteHere 16 = .ok (.getfield 92, 3) := dk_180 0 92 (dk_at dksX1_byteHere_0 16 rfl rfl)
theorem dX1_byteHere_19 : decode cX1_byteHere 19 = .ok (.baload, 1) := dk_51 (dk_at dksX1_byteHere_0 19 rfl rfl)
theorem dX1_byteHere_20 : decode cX1_byteHere 20 = .ok (.sipush 255, 3) := dk_17 0 255 (dk_at dksX1_byteHere_0 20 rfl rfl)
theorem dX1_byteHere_23 : decode cX1_byteHere 23 = .ok (.iand, 1) := dk_126 (dk_at dksX1_byteHere_0 23 rfl rfl)
theorem dX1_byteHere_24 : decode cX1_byteHere 24 = .ok (.goto 4, 3) := dk_167 0 4 (dk_at dksX1_byteHere_1 0 rfl rfl)
theorem dX1_byteHere_27 : decode cX1_byteHere 27 = .ok (.iconst (-1), 1) := dk_2 (dk_at dksX1_byteHere_1 3 rfl rfl)
theorem dX1_byteHere_28 : decode cX1_byteHere 28 = .ok (.ireturn, 1) := dk_172 (dk_at dksX1_byteHere_1 4 rfl rfl)
abbrev cX1_item : ByteArray := prog_1_method_27_code
def yX1_item : MethodName := ⟨RX1, "item", "(II)I"⟩
def dkwX1_item_1 : List UInt8 := [27, 182, 0, 119, 172]
abbrev dktX1_item_1 : List UInt8 := dkwX1_item_1 ++ []
def dkwX1_item_0 : List UInt8 := [26, 16, 115, 160, 0, 8, 18, 237, 167, 0, 16, 26, 16, 107, 160, 0, 8, 18, 239, 167, 0, 5, 18, 241]
abbrev dktX1_item_0 : List UInt8 := dkwX1_item_0 ++ dktX1_item_1
theorem dksX1_item_0 : cX1_item.data.toList.drop 0 = dktX1_item_0 := by decide +kernel
theorem dksX1_item_1 : cX1_item.data.toList.drop 24 = dktX1_item_1 := dk_seg dksX1_item_0 24 rfl rfl
theorem dX1_item_0 : decode cX1_item 0 = .ok (.iload_n 0, 1) := dk_26 (dk_at dksX1_item_0 0 rfl rfl)
theorem dX1_item_1 : decode cX1_item 1 = .ok (.bipush 115, 2) := dk_16 115 (dk_at dksX1_item_0 1 rfl rfl)
theorem dX1_item_3 : decode cX1_item 3 = .ok (.if_icmp .ne 8, 3) := dk_160 0 8 (dk_at dksX1_item_0 3 rfl rfl)
theorem dX1_item_6 : decode cX1_item 6 = .ok (.ldc 237, 2) := dk_18 237 (dk_at dksX1_item_0 6 rfl rfl)
theorem dX1_item_8 : decode cX1_item 8 = .ok (.goto 16, 3) := dk_167 0 16 (dk_at dksX1_item_0 8 rfl rfl)
theorem dX1_item_11 : decode cX1_item 11 = .ok (.iload_n 0, 1) := dk_26 (dk_at dksX1_item_0 11 rfl rfl)
theorem dX1_item_12 : decode cX1_item 12 = .ok (.bipush 107, 2) := dk_16 107 (dk_at dksX1_item_0 12 rfl rfl)
theorem dX1_item_14 : decode cX1_item 14 = .ok (.if_icmp .ne 8, 3) := dk_160 0 8 (dk_at dksX1_item_0 14 rfl rfl)
theorem dX1_item_17 : decode cX1_item 17 = .ok (.ldc 239, 2) := dk_18 239 (dk_at dksX1_item_0 17 rfl rfl)
theorem dX1_item_19 : decode cX1_item 19 = .ok (.goto 5, 3) := dk_167 0 5 (dk_at dksX1_item_0 19 rfl rfl)
theorem dX1_item_22 : decode cX1_item 22 = .ok (.ldc 241, 2) := dk_18 241 (dk_at dksX1_item_0 22 rfl rfl)
theorem dX1_item_24 : decode cX1_item 24 = .ok (.iload_n 1, 1) := dk_27 (dk_at dksX1_item_1 0 rfl rfl)
theorem dX1_item_25 : decode cX1_item 25 = .ok (.invokevirtual 119, 3) := dk_182 0 119 (dk_at dksX1_item_1 1 rfl rfl)
theorem dX1_item_28 : decode cX1_item 28 = .ok (.ireturn, 1) := dk_172 (dk_at dksX1_item_1 4 rfl rfl)
abbrev cX1_has : ByteArray := prog_1_method_2_code
def yX1_has : MethodName := ⟨RX1, "has", "(II)Z"⟩
def dkwX1_has_0 : List UInt8 := [26, 27, 122, 4, 126, 4, 160, 0, 7, 4, 167, 0, 4, 3, 172]
abbrev dktX1_has_0 : List UInt8 := dkwX1_has_0 ++ []
theorem dksX1_has_0 : cX1_has.data.toList.drop 0 = dktX1_has_0 := by decide +kernel
theorem dX1_has_0 : decode cX1_has 0 = .ok (.iload_n 0, 1) := dk_26 (dk_at dksX1_has_0 0 rfl rfl)
theorem dX1_has_1 : decode cX1_has 1 = .ok (.iload_n 1, 1) := dk_27 (dk_at dksX1_has_0 1 rfl rfl)
theorem dX1_has_2 : decode cX1_has 2 = .ok (.ishr, 1) := dk_122 (dk_at dksX1_has_0 2 rfl rfl)
theorem dX1_has_3 : decode cX1_has 3 = .ok (.iconst 1, 1) := dk_4 (dk_at dksX1_has_0 3 rfl rfl)
theorem dX1_has_4 : decode cX1_has 4 = .ok (.iand, 1) := dk_126 (dk_at dksX1_has_0 4 rfl rfl)
theorem dX1_has_5 : decode cX1_has 5 = .ok (.iconst 1, 1) := dk_4 (dk_at dksX1_has_0 5 rfl rfl)
theorem dX1_has_6 : decode cX1_has 6 = .ok (.if_icmp .ne 7, 3) := dk_160 0 7 (dk_at dksX1_has_0 6 rfl rfl)
theorem dX1_has_9 : decode cX1_has 9 = .ok (.iconst 1, 1) := dk_4 (dk_at dksX1_has_0 9 rfl rfl)
theorem dX1_has_10 : decode cX1_has 10 = .ok (.goto 4, 3) := dk_167 0 4 (dk_at dksX1_has_0 10 rfl rfl)
theorem dX1_has_13 : decode cX1_has 13 = .ok (.iconst 0, 1) := dk_3 (dk_at dksX1_has_0 13 rfl rfl)
theorem dX1_has_14 : decode cX1_has 14 = .ok (.ireturn, 1) := dk_172 (dk_at dksX1_has_0 14 rfl rfl)
abbrev cX1_highest : ByteArray := prog_1_method_28_code
def yX1_highest : MethodName := ⟨RX1, "highest", "(II)I"⟩
def dkwX1_highest_3 : List UInt8 := [27, 5, 160, 0, 8, 16, 9, 167, 0, 14, 27, 6, 160, 0, 8, 16, 20, 167, 0, 4, 6, 172]
abbrev dktX1_highest_3 : List UInt8 := dkwX1_highest_3 ++ []
def dkwX1_highest_2 : List UInt8 := [27, 154, 0, 8, 16, 9, 167, 0, 5, 16, 99, 172, 27, 154, 0, 8, 16, 30, 167, 0, 5, 16, 9, 172]
abbrev dktX1_highest_2 : List UInt8 := dkwX1_highest_2 ++ dktX1_highest_3
def dkwX1_highest_1 : List UInt8 := [171, 0, 0, 0, 0, 0, 51, 0, 0, 0, 2, 0, 0, 0, 107, 0, 0, 0, 39, 0, 0, 0, 115, 0, 0, 0, 27]
abbrev dktX1_highest_1 : List UInt8 := dkwX1_highest_1 ++ dktX1_highest_2
def dkwX1_highest_0 : List UInt8 := [26]
abbrev dktX1_highest_0 : List UInt8 := dkwX1_highest_0 ++ dktX1_highest_1
theorem dksX1_highest_0 : cX1_highest.data.toList.drop 0 = dktX1_highest_0 := by decide +kernel
theorem dksX1_highest_1 : cX1_highest.data.toList.drop 1 = dktX1_highest_1 := dk_seg dksX1_highest_0 1 rfl rfl
theorem dksX1_highest_2 : cX1_highest.data.toList.drop 28 = dktX1_highest_2 := dk_seg dksX1_highest_1 27 rfl rfl
theorem dksX1_highest_3 : cX1_highest.data.toList.drop 52 = dktX1_highest_3 := dk_seg dksX1_highest_2 24 rfl rfl
theorem dX1_highest_0 : decode cX1_highest 0 = .ok (.iload_n 0, 1) := dk_26 (dk_at dksX1_highest_0 0 rfl rfl)
theorem dX1_highest_1 : decode cX1_highest 1 = .ok (.lookupswitch 51 #[(107, 39), (115, 27)], 27) := by decide +kernel
theorem dX1_highest_28 : decode cX1_highest 28 = .ok (.iload_n 1, 1) := dk_27 (dk_at dksX1_highest_2 0 rfl rfl)
theorem dX1_highest_29 : decode cX1_highest 29 = .ok (.ifCond .ne 8, 3) := dk_154 0 8 (dk_at dksX1_highest_2 1 rfl rfl)
theorem dX1_highest_32 : decode cX1_highest 32 = .ok (.bipush 9, 2) := dk_16 9 (dk_at dksX1_highest_2 4 rfl rfl)
theorem dX1_highest_34 : decode cX1_highest 34 = .ok (.goto 5, 3) := dk_167 0 5 (dk_at dksX1_highest_2 6 rfl rfl)
theorem dX1_highest_37 : decode cX1_highest 37 = .ok (.bipush 99, 2) := dk_16 99 (dk_at dksX1_highest_2 9 rfl rfl)
theorem dX1_highest_39 : decode cX1_highest 39 = .ok (.ireturn, 1) := dk_172 (dk_at dksX1_highest_2 11 rfl rfl)
theorem dX1_highest_40 : decode cX1_highest 40 = .ok (.iload_n 1, 1) := dk_27 (dk_at dksX1_highest_2 12 rfl rfl)
theorem dX1_highest_41 : decode cX1_highest 41 = .ok (.ifCond .ne 8, 3) := dk_154 0 8 (dk_at dksX1_highest_2 13 rfl rfl)
theorem dX1_highest_44 : decode cX1_highest 44 = .ok (.bipush 30, 2) := dk_16 30 (dk_at dksX1_highest_2 16 rfl rfl)
theorem dX1_highest_46 : decode cX1_highest 46 = .ok (.goto 5, 3) := dk_167 0 5 (dk_at dksX1_highest_2 18 rfl rfl)
theorem dX1_highest_49 : decode cX1_highest 49 = .ok (.bipush 9, 2) := dk_16 9 (dk_at dksX1_highest_2 21 rfl rfl)
theorem dX1_highest_51 : decode cX1_highest 51 = .ok (.ireturn, 1) := dk_172 (dk_at dksX1_highest_2 23 rfl rfl)
theorem dX1_highest_52 : decode cX1_highest 52 = .ok (.iload_n 1, 1) := dk_27 (dk_at dksX1_highest_3 0 rfl rfl)
theorem dX1_highest_53 : decode cX1_highest 53 = .ok (.iconst 2, 1) := dk_5 (dk_at dksX1_highest_3 1 rfl rfl)
theorem dX1_highest_54 : decode cX1_highest 54 = .ok (.if_icmp .ne 8, 3) := dk_160 0 8 (dk_at dksX1_highest_3 2 rfl rfl)
theorem dX1_highest_57 : decode cX1_highest 57 = .ok (.bipush 9, 2) := dk_16 9 (dk_at dksX1_highest_3 5 rfl rfl)
theorem dX1_highest_59 : decode cX1_highest 59 = .ok (.goto 14, 3) := dk_167 0 14 (dk_at dksX1_highest_3 7 rfl rfl)
theorem dX1_highest_62 : decode cX1_highest 62 = .ok (.iload_n 1, 1) := dk_27 (dk_at dksX1_highest_3 10 rfl rfl)
theorem dX1_highest_63 : decode cX1_highest 63 = .ok (.iconst 3, 1) := dk_6 (dk_at dksX1_highest_3 11 rfl rfl)
theorem dX1_highest_64 : decode cX1_highest 64 = .ok (.if_icmp .ne 8, 3) := dk_160 0 8 (dk_at dksX1_highest_3 12 rfl rfl)
theorem dX1_highest_67 : decode cX1_highest 67 = .ok (.bipush 20, 2) := dk_16 20 (dk_at dksX1_highest_3 15 rfl rfl)
theorem dX1_highest_69 : decode cX1_highest 69 = .ok (.goto 4, 3) := dk_167 0 4 (dk_at dksX1_highest_3 17 rfl rfl)
theorem dX1_highest_72 : decode cX1_highest 72 = .ok (.iconst 3, 1) := dk_6 (dk_at dksX1_highest_3 20 rfl rfl)
theorem dX1_highest_73 : decode cX1_highest 73 = .ok (.ireturn, 1) := dk_172 (dk_at dksX1_highest_3 21 rfl rfl)
abbrev cX1_number : ByteArray := prog_1_method_26_code
def yX1_number : MethodName := ⟨RX1, "number", "(II)I"⟩
def dkwX1_number_4 : List UInt8 := [180, 0, 92, 4, 100, 181, 0, 92, 42, 180, 0, 12, 191, 29, 172]
abbrev dktX1_number_4 : List UInt8 := dkwX1_number_4 ++ []
def dkwX1_number_3 : List UInt8 := [154, 0, 7, 4, 167, 0, 4, 3, 182, 0, 98, 29, 27, 28, 184, 0, 233, 154, 0, 18, 42, 89]
abbrev dktX1_number_3 : List UInt8 := dkwX1_number_3 ++ dktX1_number_4
def dkwX1_number_2 : List UInt8 := [16, 48, 100, 62, 42, 89, 180, 0, 92, 4, 96, 181, 0, 92, 42, 42, 182, 0, 230, 184, 0, 129]
abbrev dktX1_number_2 : List UInt8 := dkwX1_number_2 ++ dktX1_number_3
def dkwX1_number_1 : List UInt8 := [4, 96, 181, 0, 92, 42, 182, 0, 230, 184, 0, 129, 153, 0, 26, 16, 10, 29, 104, 42, 182, 0, 230, 96]
abbrev dktX1_number_1 : List UInt8 := dkwX1_number_1 ++ dktX1_number_2
def dkwX1_number_0 : List UInt8 := [42, 42, 182, 0, 102, 184, 0, 129, 182, 0, 98, 42, 182, 0, 230, 16, 48, 100, 62, 42, 89, 180, 0, 92]
abbrev dktX1_number_0 : List UInt8 := dkwX1_number_0 ++ dktX1_number_1
theorem dksX1_number_0 : cX1_number.data.toList.drop 0 = dktX1_number_0 := by decide +kernel
theorem dksX1_number_1 : cX1_number.data.toList.drop 24 = dktX1_number_1 := dk_seg dksX1_number_0 24 rfl rfl
theorem dksX1_number_2 : cX1_number.data.toList.drop 48 = dktX1_number_2 := dk_seg dksX1_number_1 24 rfl rfl
theorem dksX1_number_3 : cX1_number.data.toList.drop 70 = dktX1_number_3 := dk_seg dksX1_number_2 22 rfl rfl
theorem dksX1_number_4 : cX1_number.data.toList.drop 92 = dktX1_number_4 := dk_seg dksX1_number_3 22 rfl rfl
theorem dX1_number_0 : decode cX1_number 0 = .ok (.aload_n 0, 1) := dk_42 (dk_at dksX1_number_0 0 rfl rfl)
theorem dX1_number_1 : decode cX1_number 1 = .ok (.aload_n 0, 1) := dk_42 (dk_at dksX1_number_0 1 rfl rfl)
theorem dX1_number_2 : decode cX1_number 2 = .ok (.invokevirtual 102, 3) := dk_182 0 102 (dk_at dksX1_number_0 2 rfl rfl)
theorem dX1_number_5 : decode cX1_number 5 = .ok (.invokestatic 129, 3) := dk_184 0 129 (dk_at dksX1_number_0 5 rfl rfl)
theorem dX1_number_8 : decode cX1_number 8 = .ok (.invokevirtual 98, 3) := dk_182 0 98 (dk_at dksX1_number_0 8 rfl rfl)
theorem dX1_number_11 : decode cX1_number 11 = .ok (.aload_n 0, 1) := dk_42 (dk_at dksX1_number_0 11 rfl rfl)
theorem dX1_number_12 : decode cX1_number 12 = .ok (.invokevirtual 230, 3) := dk_182 0 230 (dk_at dksX1_number_0 12 rfl rfl)
theorem dX1_number_15 : decode cX1_number 15 = .ok (.bipush 48, 2) := dk_16 48 (dk_at dksX1_number_0 15 rfl rfl)
theorem dX1_number_17 : decode cX1_number 17 = .ok (.isub, 1) := dk_100 (dk_at dksX1_number_0 17 rfl rfl)
theorem dX1_number_18 : decode cX1_number 18 = .ok (.istore_n 3, 1) := dk_62 (dk_at dksX1_number_0 18 rfl rfl)
theorem dX1_number_19 : decode cX1_number 19 = .ok (.aload_n 0, 1) := dk_42 (dk_at dksX1_number_0 19 rfl rfl)
theorem dX1_number_20 : decode cX1_number 20 = .ok (.dup, 1) := dk_89 (dk_at dksX1_number_0 20 rfl rfl)
theorem dX1_number_21 : decode cX1_number 21 = .ok (.getfield 92, 3) := dk_180 0 92 (dk_at dksX1_number_0 21 rfl rfl)
theorem dX1_number_24 : decode cX1_number 24 = .ok (.iconst 1, 1) := dk_4 (dk_at dksX1_number_1 0 rfl rfl)
theorem dX1_number_25 : decode cX1_number 25 = .ok (.iadd, 1) := dk_96 (dk_at dksX1_number_1 1 rfl rfl)
theorem dX1_number_26 : decode cX1_number 26 = .ok (.putfield 92, 3) := dk_181 0 92 (dk_at dksX1_number_1 2 rfl rfl)
theorem dX1_number_29 : decode cX1_number 29 = .ok (.aload_n 0, 1) := dk_42 (dk_at dksX1_number_1 5 rfl rfl)
theorem dX1_number_30 : decode cX1_number 30 = .ok (.invokevirtual 230, 3) := dk_182 0 230 (dk_at dksX1_number_1 6 rfl rfl)
theorem dX1_number_33 : decode cX1_number 33 = .ok (.invokestatic 129, 3) := dk_184 0 129 (dk_at dksX1_number_1 9 rfl rfl)
theorem dX1_number_36 : decode cX1_number 36 = .ok (.ifCond .eq 26, 3) := dk_153 0 26 (dk_at dksX1_number_1 12 rfl rfl)
theorem dX1_number_39 : decode cX1_number 39 = .ok (.bipush 10, 2) := dk_16 10 (dk_at dksX1_number_1 15 rfl rfl)
theorem dX1_number_41 : decode cX1_number 41 = .ok (.iload_n 3, 1) := dk_29 (dk_at dksX1_number_1 17 rfl rfl)
theorem dX1_number_42 : decode cX1_number 42 = .ok (.imul, 1) := dk_104 (dk_at dksX1_number_1 18 rfl rfl)
theorem dX1_number_43 : decode cX1_number 43 = .ok (.aload_n 0, 1) := dk_42 (dk_at dksX1_number_1 19 rfl rfl)
theorem dX1_number_44 : decode cX1_number 44 = .ok (.invokevirtual 230, 3) := dk_182 0 230 (dk_at dksX1_number_1 20 rfl rfl)
theorem dX1_number_47 : decode cX1_number 47 = .ok (.iadd, 1) := dk_96 (dk_at dksX1_number_1 23 rfl rfl)
theorem dX1_number_48 : decode cX1_number 48 = .ok (.bipush 48, 2) := dk_16 48 (dk_at dksX1_number_2 0 rfl rfl)
theorem dX1_number_50 : decode cX1_number 50 = .ok (.isub, 1) := dk_100 (dk_at dksX1_number_2 2 rfl rfl)
theorem dX1_number_51 : decode cX1_number 51 = .ok (.istore_n 3, 1) := dk_62 (dk_at dksX1_number_2 3 rfl rfl)
theorem dX1_number_52 : decode cX1_number 52 = .ok (.aload_n 0, 1) := dk_42 (dk_at dksX1_number_2 4 rfl rfl)
theorem dX1_number_53 : decode cX1_number 53 = .ok (.dup, 1) := dk_89 (dk_at dksX1_number_2 5 rfl rfl)
theorem dX1_number_54 : decode cX1_number 54 = .ok (.getfield 92, 3) := dk_180 0 92 (dk_at dksX1_number_2 6 rfl rfl)
theorem dX1_number_57 : decode cX1_number 57 = .ok (.iconst 1, 1) := dk_4 (dk_at dksX1_number_2 9 rfl rfl)
theorem dX1_number_58 : decode cX1_number 58 = .ok (.iadd, 1) := dk_96 (dk_at dksX1_number_2 10 rfl rfl)
theorem dX1_number_59 : decode cX1_number 59 = .ok (.putfield 92, 3) := dk_181 0 92 (dk_at dksX1_number_2 11 rfl rfl)
theorem dX1_number_62 : decode cX1_number 62 = .ok (.aload_n 0, 1) := dk_42 (dk_at dksX1_number_2 14 rfl rfl)
theorem dX1_number_63 : decode cX1_number 63 = .ok (.aload_n 0, 1) := dk_42 (dk_at dksX1_number_2 15 rfl rfl)
theorem dX1_number_64 : decode cX1_number 64 = .ok (.invokevirtual 230, 3) := dk_182 0 230 (dk_at dksX1_number_2 16 rfl rfl)
theorem dX1_number_67 : decode cX1_number 67 = .ok (.invokestatic 129, 3) := dk_184 0 129 (dk_at dksX1_number_2 19 rfl rfl)
theorem dX1_number_70 : decode cX1_number 70 = .ok (.ifCond .ne 7, 3) := dk_154 0 7 (dk_at dksX1_number_3 0 rfl rfl)
theorem dX1_number_73 : decode cX1_number 73 = .ok (.iconst 1, 1) := dk_4 (dk_at dksX1_number_3 3 rfl rfl)
theorem dX1_number_74 : decode cX1_number 74 = .ok (.goto 4, 3) := dk_167 0 4 (dk_at dksX1_number_3 4 rfl rfl)
theorem dX1_number_77 : decode cX1_number 77 = .ok (.iconst 0, 1) := dk_3 (dk_at dksX1_number_3 7 rfl rfl)
theorem dX1_number_78 : decode cX1_number 78 = .ok (.invokevirtual 98, 3) := dk_182 0 98 (dk_at dksX1_number_3 8 rfl rfl)
theorem dX1_number_81 : decode cX1_number 81 = .ok (.iload_n 3, 1) := dk_29 (dk_at dksX1_number_3 11 rfl rfl)
theorem dX1_number_82 : decode cX1_number 82 = .ok (.iload_n 1, 1) := dk_27 (dk_at dksX1_number_3 12 rfl rfl)
theorem dX1_number_83 : decode cX1_number 83 = .ok (.iload_n 2, 1) := dk_28 (dk_at dksX1_number_3 13 rfl rfl)
theorem dX1_number_84 : decode cX1_number 84 = .ok (.invokestatic 233, 3) := dk_184 0 233 (dk_at dksX1_number_3 14 rfl rfl)
theorem dX1_number_87 : decode cX1_number 87 = .ok (.ifCond .ne 18, 3) := dk_154 0 18 (dk_at dksX1_number_3 17 rfl rfl)
theorem dX1_number_90 : decode cX1_number 90 = .ok (.aload_n 0, 1) := dk_42 (dk_at dksX1_number_3 20 rfl rfl)
theorem dX1_number_91 : decode cX1_number 91 = .ok (.dup, 1) := dk_89 (dk_at dksX1_number_3 21 rfl rfl)
theorem dX1_number_92 : decode cX1_number 92 = .ok (.getfield 92, 3) := dk_180 0 92 (dk_at dksX1_number_4 0 rfl rfl)
theorem dX1_number_95 : decode cX1_number 95 = .ok (.iconst 1, 1) := dk_4 (dk_at dksX1_number_4 3 rfl rfl)
theorem dX1_number_96 : decode cX1_number 96 = .ok (.isub, 1) := dk_100 (dk_at dksX1_number_4 4 rfl rfl)
theorem dX1_number_97 : decode cX1_number 97 = .ok (.putfield 92, 3) := dk_181 0 92 (dk_at dksX1_number_4 5 rfl rfl)
theorem dX1_number_100 : decode cX1_number 100 = .ok (.aload_n 0, 1) := dk_42 (dk_at dksX1_number_4 8 rfl rfl)
theorem dX1_number_101 : decode cX1_number 101 = .ok (.getfield 12, 3) := dk_180 0 12 (dk_at dksX1_number_4 9 rfl rfl)
theorem dX1_number_104 : decode cX1_number 104 = .ok (.athrow, 1) := dk_191 (dk_at dksX1_number_4 12 rfl rfl)
theorem dX1_number_105 : decode cX1_number 105 = .ok (.iload_n 3, 1) := dk_29 (dk_at dksX1_number_4 13 rfl rfl)
theorem dX1_number_106 : decode cX1_number 106 = .ok (.ireturn, 1) := dk_172 (dk_at dksX1_number_4 14 rfl rfl)
abbrev cX1_in : ByteArray := prog_1_method_1_code
def yX1_in : MethodName := ⟨RX1, "in", "(III)Z"⟩
def dkwX1_in_0 : List UInt8 := [26, 27, 161, 0, 12, 26, 28, 163, 0, 7, 4, 167, 0, 4, 3, 172]
abbrev dktX1_in_0 : List UInt8 := dkwX1_in_0 ++ []
theorem dksX1_in_0 : cX1_in.data.toList.drop 0 = dktX1_in_0 := by decide +kernel
theorem dX1_in_0 : decode cX1_in 0 = .ok (.iload_n 0, 1) := dk_26 (dk_at dksX1_in_0 0 rfl rfl)
theorem dX1_in_1 : decode cX1_in 1 = .ok (.iload_n 1, 1) := dk_27 (dk_at dksX1_in_0 1 rfl rfl)
theorem dX1_in_2 : decode cX1_in 2 = .ok (.if_icmp .lt 12, 3) := dk_161 0 12 (dk_at dksX1_in_0 2 rfl rfl)
theorem dX1_in_5 : decode cX1_in 5 = .ok (.iload_n 0, 1) := dk_26 (dk_at dksX1_in_0 5 rfl rfl)
theorem dX1_in_6 : decode cX1_in 6 = .ok (.iload_n 2, 1) := dk_28 (dk_at dksX1_in_0 6 rfl rfl)
theorem dX1_in_7 : decode cX1_in 7 = .ok (.if_icmp .gt 7, 3) := dk_163 0 7 (dk_at dksX1_in_0 7 rfl rfl)
theorem dX1_in_10 : decode cX1_in 10 = .ok (.iconst 1, 1) := dk_4 (dk_at dksX1_in_0 10 rfl rfl)
theorem dX1_in_11 : decode cX1_in 11 = .ok (.goto 4, 3) := dk_167 0 4 (dk_at dksX1_in_0 11 rfl rfl)
theorem dX1_in_14 : decode cX1_in 14 = .ok (.iconst 0, 1) := dk_3 (dk_at dksX1_in_0 14 rfl rfl)
theorem dX1_in_15 : decode cX1_in 15 = .ok (.ireturn, 1) := dk_172 (dk_at dksX1_in_0 15 rfl rfl)
abbrev cX1_isWhole : ByteArray := prog_1_method_31_code
def yX1_isWhole : MethodName := ⟨RX1, "isWhole", "()Z"⟩
def dkwX1_isWhole_3 : List UInt8 := [162, 0, 13, 29, 21, 4, 159, 0, 7, 4, 167, 0, 4, 3, 60, 132, 2, 1, 167, 255, 189, 27, 172]
abbrev dktX1_isWhole_3 : List UInt8 := dkwX1_isWhole_3 ++ []
def dkwX1_isWhole_2 : List UInt8 := [104, 4, 96, 46, 54, 4, 27, 153, 0, 30, 29, 42, 180, 1, 4, 162, 0, 22, 21, 4, 42, 180, 1, 4]
abbrev dktX1_isWhole_2 : List UInt8 := dkwX1_isWhole_2 ++ dktX1_isWhole_3
def dkwX1_isWhole_1 : List UInt8 := [42, 180, 1, 7, 162, 0, 65, 42, 180, 0, 30, 7, 28, 104, 3, 96, 46, 62, 42, 180, 0, 30, 7, 28]
abbrev dktX1_isWhole_1 : List UInt8 := dkwX1_isWhole_1 ++ dktX1_isWhole_2
def dkwX1_isWhole_0 : List UInt8 := [42, 180, 1, 4, 4, 164, 0, 14, 42, 180, 1, 7, 158, 0, 7, 4, 167, 0, 4, 3, 60, 3, 61, 28]
abbrev dktX1_isWhole_0 : List UInt8 := dkwX1_isWhole_0 ++ dktX1_isWhole_1
theorem dksX1_isWhole_0 : cX1_isWhole.data.toList.drop 0 = dktX1_isWhole_0 := by decide +kernel
theorem dksX1_isWhole_1 : cX1_isWhole.data.toList.drop 24 = dktX1_isWhole_1 := dk_seg dksX1_isWhole_0 24 rfl rfl
theorem dksX1_isWhole_2 : cX1_isWhole.data.toList.drop 48 = dktX1_isWhole_2 := dk_seg dksX1_isWhole_1 24 rfl rfl
theorem dksX1_isWhole_3 : cX1_isWhole.data.toList.drop 72 = dktX1_isWhole_3 := dk_seg dksX1_isWhole_2 24 rfl rfl
theorem dX1_isWhole_0 : decode cX1_isWhole 0 = .ok (.aload_n 0, 1) := dk_42 (dk_at dksX1_isWhole_0 0 rfl rfl)
theorem dX1_isWhole_1 : decode cX1_isWhole 1 = .ok (.getfield 260, 3) := dk_180 1 4 (dk_at dksX1_isWhole_0 1 rfl rfl)
theorem dX1_isWhole_4 : decode cX1_isWhole 4 = .ok (.iconst 1, 1) := dk_4 (dk_at dksX1_isWhole_0 4 rfl rfl)
theorem dX1_isWhole_5 : decode cX1_isWhole 5 = .ok (.if_icmp .le 14, 3) := dk_164 0 14 (dk_at dksX1_isWhole_0 5 rfl rfl)
theorem dX1_isWhole_8 : decode cX1_isWhole 8 = .ok (.aload_n 0, 1) := dk_42 (dk_at dksX1_isWhole_0 8 rfl rfl)
theorem dX1_isWhole_9 : decode cX1_isWhole 9 = .ok (.getfield 263, 3) := dk_180 1 7 (dk_at dksX1_isWhole_0 9 rfl rfl)
theorem dX1_isWhole_12 : decode cX1_isWhole 12 = .ok (.ifCond .le 7, 3) := dk_158 0 7 (dk_at dksX1_isWhole_0 12 rfl rfl)
theorem dX1_isWhole_15 : decode cX1_isWhole 15 = .ok (.iconst 1, 1) := dk_4 (dk_at dksX1_isWhole_0 15 rfl rfl)
theorem dX1_isWhole_16 : decode cX1_isWhole 16 = .ok (.goto 4, 3) := dk_167 0 4 (dk_at dksX1_isWhole_0 16 rfl rfl)
theorem dX1_isWhole_19 : decode cX1_isWhole 19 = .ok (.iconst 0, 1) := dk_3 (dk_at dksX1_isWhole_0 19 rfl rfl)
theorem dX1_isWhole_20 : decode cX1_isWhole 20 = .ok (.istore_n 1, 1) := dk_60 (dk_at dksX1_isWhole_0 20 rfl rfl)
theorem dX1_isWhole_21 : decode cX1_isWhole 21 = .ok (.iconst 0, 1) := dk_3 (dk_at dksX1_isWhole_0 21 rfl rfl)
theorem dX1_isWhole_22 : decode cX1_isWhole 22 = .ok (.istore_n 2, 1) := dk_61 (dk_at dksX1_isWhole_0 22 rfl rfl)
theorem dX1_isWhole_23 : decode cX1_isWhole 23 = .ok (.iload_n 2, 1) := dk_28 (dk_at dksX1_isWhole_0 23 rfl rfl)
theorem dX1_isWhole_24 : decode cX1_isWhole 24 = .ok (.aload_n 0, 1) := dk_42 (dk_at dksX1_isWhole_1 0 rfl rfl)
theorem dX1_isWhole_25 : decode cX1_isWhole 25 = .ok (.getfield 263, 3) := dk_180 1 7 (dk_at dksX1_isWhole_1 1 rfl rfl)
theorem dX1_isWhole_28 : decode cX1_isWhole 28 = .ok (.if_icmp .ge 65, 3) := dk_162 0 65 (dk_at dksX1_isWhole_1 4 rfl rfl)
theorem dX1_isWhole_31 : decode cX1_isWhole 31 = .ok (.aload_n 0, 1) := dk_42 (dk_at dksX1_isWhole_1 7 rfl rfl)
theorem dX1_isWhole_32 : decode cX1_isWhole 32 = .ok (.getfield 30, 3) := dk_180 0 30 (dk_at dksX1_isWhole_1 8 rfl rfl)
theorem dX1_isWhole_35 : decode cX1_isWhole 35 = .ok (.iconst 4, 1) := dk_7 (dk_at dksX1_isWhole_1 11 rfl rfl)
theorem dX1_isWhole_36 : decode cX1_isWhole 36 = .ok (.iload_n 2, 1) := dk_28 (dk_at dksX1_isWhole_1 12 rfl rfl)
theorem dX1_isWhole_37 : decode cX1_isWhole 37 = .ok (.imul, 1) := dk_104 (dk_at dksX1_isWhole_1 13 rfl rfl)
theorem dX1_isWhole_38 : decode cX1_isWhole 38 = .ok (.iconst 0, 1) := dk_3 (dk_at dksX1_isWhole_1 14 rfl rfl)
theorem dX1_isWhole_39 : decode cX1_isWhole 39 = .ok (.iadd, 1) := dk_96 (dk_at dksX1_isWhole_1 15 rfl rfl)
theorem dX1_isWhole_40 : decode cX1_isWhole 40 = .ok (.iaload, 1) := dk_46 (dk_at dksX1_isWhole_1 16 rfl rfl)
theorem dX1_isWhole_41 : decode cX1_isWhole 41 = .ok (.istore_n 3, 1) := dk_62 (dk_at dksX1_isWhole_1 17 rfl rfl)
theorem dX1_isWhole_42 : decode cX1_isWhole 42 = .ok (.aload_n 0, 1) := dk_42 (dk_at dksX1_isWhole_1 18 rfl rfl)
theorem dX1_isWhole_43 : decode cX1_isWhole 43 = .ok (.getfield 30, 3) := dk_180 0 30 (dk_at dksX1_isWhole_1 19 rfl rfl)
theorem dX1_isWhole_46 : decode cX1_isWhole 46 = .ok (.iconst 4, 1) := dk_7 (dk_at dksX1_isWhole_1 22 rfl rfl)
theorem dX1_isWhole_47 : decode cX1_isWhole 47 = .ok (.iload_n 2, 1) := dk_28 (dk_at dksX1_isWhole_1 23 rfl rfl)
theorem dX1_isWhole_48 : decode cX1_isWhole 48 = .ok (.imul, 1) := dk_104 (dk_at dksX1_isWhole_2 0 rfl rfl)
theorem dX1_isWhole_49 : decode cX1_isWhole 49 = .ok (.iconst 1, 1) := dk_4 (dk_at dksX1_isWhole_2 1 rfl rfl)
theorem dX1_isWhole_50 : decode cX1_isWhole 50 = .ok (.iadd, 1) := dk_96 (dk_at dksX1_isWhole_2 2 rfl rfl)
theorem dX1_isWhole_51 : decode cX1_isWhole 51 = .ok (.iaload, 1) := dk_46 (dk_at dksX1_isWhole_2 3 rfl rfl)
theorem dX1_isWhole_52 : decode cX1_isWhole 52 = .ok (.istore 4, 2) := dk_54 4 (dk_at dksX1_isWhole_2 4 rfl rfl)
theorem dX1_isWhole_54 : decode cX1_isWhole 54 = .ok (.iload_n 1, 1) := dk_27 (dk_at dksX1_isWhole_2 6 rfl rfl)
theorem dX1_isWhole_55 : decode cX1_isWhole 55 = .ok (.ifCond .eq 30, 3) := dk_153 0 30 (dk_at dksX1_isWhole_2 7 rfl rfl)
theorem dX1_isWhole_58 : decode cX1_isWhole 58 = .ok (.iload_n 3, 1) := dk_29 (dk_at dksX1_isWhole_2 10 rfl rfl)
theorem dX1_isWhole_59 : decode cX1_isWhole 59 = .ok (.aload_n 0, 1) := dk_42 (dk_at dksX1_isWhole_2 11 rfl rfl)
theorem dX1_isWhole_60 : decode cX1_isWhole 60 = .ok (.getfield 260, 3) := dk_180 1 4 (dk_at dksX1_isWhole_2 12 rfl rfl)
theorem dX1_isWhole_63 : decode cX1_isWhole 63 = .ok (.if_icmp .ge 22, 3) := dk_162 0 22 (dk_at dksX1_isWhole_2 15 rfl rfl)
theorem dX1_isWhole_66 : decode cX1_isWhole 66 = .ok (.iload 4, 2) := dk_21 4 (dk_at dksX1_isWhole_2 18 rfl rfl)
theorem dX1_isWhole_68 : decode cX1_isWhole 68 = .ok (.aload_n 0, 1) := dk_42 (dk_at dksX1_isWhole_2 20 rfl rfl)
theorem dX1_isWhole_69 : decode cX1_isWhole 69 = .ok (.getfield 260, 3) := dk_180 1 4 (dk_at dksX1_isWhole_2 21 rfl rfl)
theorem dX1_isWhole_72 : decode cX1_isWhole 72 = .ok (.if_icmp .ge 13, 3) := dk_162 0 13 (dk_at dksX1_isWhole_3 0 rfl rfl)
theorem dX1_isWhole_75 : decode cX1_isWhole 75 = .ok (.iload_n 3, 1) := dk_29 (dk_at dksX1_isWhole_3 3 rfl rfl)
theorem dX1_isWhole_76 : decode cX1_isWhole 76 = .ok (.iload 4, 2) := dk_21 4 (dk_at dksX1_isWhole_3 4 rfl rfl)
theorem dX1_isWhole_78 : decode cX1_isWhole 78 = .ok (.if_icmp .eq 7, 3) := dk_159 0 7 (dk_at dksX1_isWhole_3 6 rfl rfl)
theorem dX1_isWhole_81 : decode cX1_isWhole 81 = .ok (.iconst 1, 1) := dk_4 (dk_at dksX1_isWhole_3 9 rfl rfl)
theorem dX1_isWhole_82 : decode cX1_isWhole 82 = .ok (.goto 4, 3) := dk_167 0 4 (dk_at dksX1_isWhole_3 10 rfl rfl)
theorem dX1_isWhole_85 : decode cX1_isWhole 85 = .ok (.iconst 0, 1) := dk_3 (dk_at dksX1_isWhole_3 13 rfl rfl)
theorem dX1_isWhole_86 : decode cX1_isWhole 86 = .ok (.istore_n 1, 1) := dk_60 (dk_at dksX1_isWhole_3 14 rfl rfl)
theorem dX1_isWhole_87 : decode cX1_isWhole 87 = .ok (.iinc 2 1, 3) := dk_132 2 1 (dk_at dksX1_isWhole_3 15 rfl rfl)
theorem dX1_isWhole_90 : decode cX1_isWhole 90 = .ok (.goto (-67), 3) := dk_167 255 189 (dk_at dksX1_isWhole_3 18 rfl rfl)
theorem dX1_isWhole_93 : decode cX1_isWhole 93 = .ok (.iload_n 1, 1) := dk_27 (dk_at dksX1_isWhole_3 21 rfl rfl)
theorem dX1_isWhole_94 : decode cX1_isWhole 94 = .ok (.ireturn, 1) := dk_172 (dk_at dksX1_isWhole_3 22 rfl rfl)
abbrev cX1_wholeCampaign : ByteArray := prog_1_method_34_code
def yX1_wholeCampaign : MethodName := ⟨RX1, "wholeCampaign", "(I)V"⟩
def dkwX1_wholeCampaign_4 : List UInt8 := [160, 0, 7, 4, 167, 0, 4, 3, 182, 0, 98, 177]
abbrev dktX1_wholeCampaign_4 : List UInt8 := dkwX1_wholeCampaign_4 ++ []
def dkwX1_wholeCampaign_3 : List UInt8 := [61, 28, 153, 255, 198, 42, 89, 180, 0, 92, 4, 96, 181, 0, 92, 167, 255, 185, 42, 42, 182, 0, 102, 2]
abbrev dktX1_wholeCampaign_3 : List UInt8 := dkwX1_wholeCampaign_3 ++ dktX1_wholeCampaign_4
def dkwX1_wholeCampaign_2 : List UInt8 := [182, 0, 102, 16, 59, 160, 0, 18, 42, 180, 0, 42, 27, 46, 16, 16, 162, 0, 7, 4, 167, 0, 4, 3]
abbrev dktX1_wholeCampaign_2 : List UInt8 := dkwX1_wholeCampaign_2 ++ dktX1_wholeCampaign_3
def dkwX1_wholeCampaign_1 : List UInt8 := [42, 180, 0, 42, 27, 46, 96, 104, 182, 1, 20, 42, 180, 0, 42, 27, 92, 46, 4, 96, 79, 42]
abbrev dktX1_wholeCampaign_1 : List UInt8 := dkwX1_wholeCampaign_1 ++ dktX1_wholeCampaign_2
def dkwX1_wholeCampaign_0 : List UInt8 := [42, 3, 181, 0, 92, 42, 180, 0, 42, 27, 3, 79, 4, 61, 28, 153, 0, 73, 42, 5, 16, 16, 27, 104]
abbrev dktX1_wholeCampaign_0 : List UInt8 := dkwX1_wholeCampaign_0 ++ dktX1_wholeCampaign_1
theorem dksX1_wholeCampaign_0 : cX1_wholeCampaign.data.toList.drop 0 = dktX1_wholeCampaign_0 := by decide +kernel
theorem dksX1_wholeCampaign_1 : cX1_wholeCampaign.data.toList.drop 24 = dktX1_wholeCampaign_1 := dk_seg dksX1_wholeCampaign_0 24 rfl rfl
theorem dksX1_wholeCampaign_2 : cX1_wholeCampaign.data.toList.drop 46 = dktX1_wholeCampaign_2 := dk_seg dksX1_wholeCampaign_1 22 rfl rfl
theorem dksX1_wholeCampaign_3 : cX1_wholeCampaign.data.toList.drop 70 = dktX1_wholeCampaign_3 := dk_seg dksX1_wholeCampaign_2 24 rfl rfl
theorem dksX1_wholeCampaign_4 : cX1_wholeCampaign.data.toList.drop 94 = dktX1_wholeCampaign_4 := dk_seg dksX1_wholeCampaign_3 24 rfl rfl
theorem dX1_wholeCampaign_0 : decode cX1_wholeCampaign 0 = .ok (.aload_n 0, 1) := dk_42 (dk_at dksX1_wholeCampaign_0 0 rfl rfl)
theorem dX1_wholeCampaign_1 : decode cX1_wholeCampaign 1 = .ok (.iconst 0, 1) := dk_3 (dk_at dksX1_wholeCampaign_0 1 rfl rfl)
theorem dX1_wholeCampaign_2 : decode cX1_wholeCampaign 2 = .ok (.putfield 92, 3) := dk_181 0 92 (dk_at dksX1_wholeCampaign_0 2 rfl rfl)
theorem dX1_wholeCampaign_5 : decode cX1_wholeCampaign 5 = .ok (.aload_n 0, 1) := dk_42 (dk_at dksX1_wholeCampaign_0 5 rfl rfl)
theorem dX1_wholeCampaign_6 : decode cX1_wholeCampaign 6 = .ok (.getfield 42, 3) := dk_180 0 42 (dk_at dksX1_wholeCampaign_0 6 rfl rfl)
theorem dX1_wholeCampaign_9 : decode cX1_wholeCampaign 9 = .ok (.iload_n 1, 1) := dk_27 (dk_at dksX1_wholeCampaign_0 9 rfl rfl)
theorem dX1_wholeCampaign_10 : decode cX1_wholeCampaign 10 = .ok (.iconst 0, 1) := dk_3 (dk_at dksX1_wholeCampaign_0 10 rfl rfl)
theorem dX1_wholeCampaign_11 : decode cX1_wholeCampaign 11 = .ok (.iastore, 1) := dk_79 (dk_at dksX1_wholeCampaign_0 11 rfl rfl)
theorem dX1_wholeCampaign_12 : decode cX1_wholeCampaign 12 = .ok (.iconst 1, 1) := dk_4 (dk_at dksX1_wholeCampaign_0 12 rfl rfl)
theorem dX1_wholeCampaign_13 : decode cX1_wholeCampaign 13 = .ok (.istore_n 2, 1) := dk_61 (dk_at dksX1_wholeCampaign_0 13 rfl rfl)
theorem dX1_wholeCampaign_14 : decode cX1_wholeCampaign 14 = .ok (.iload_n 2, 1) := dk_28 (dk_at dksX1_wholeCampaign_0 14 rfl rfl)
theorem dX1_wholeCampaign_15 : decode cX1_wholeCampaign 15 = .ok (.ifCond .eq 73, 3) := dk_153 0 73 (dk_at dksX1_wholeCampaign_0 15 rfl rfl)
theorem dX1_wholeCampaign_18 : decode cX1_wholeCampaign 18 = .ok (.aload_n 0, 1) := dk_42 (dk_at dksX1_wholeCampaign_0 18 rfl rfl)
theorem dX1_wholeCampaign_19 : decode cX1_wholeCampaign 19 = .ok (.iconst 2, 1) := dk_5 (dk_at dksX1_wholeCampaign_0 19 rfl rfl)
theorem dX1_wholeCampaign_20 : decode cX1_wholeCampaign 20 = .ok (.bipush 16, 2) := dk_16 16 (dk_at dksX1_wholeCampaign_0 20 rfl rfl)
theorem dX1_wholeCampaign_22 : decode cX1_wholeCampaign 22 = .ok (.iload_n 1, 1) := dk_27 (dk_at dksX1_wholeCampaign_0 22 rfl rfl)
theorem dX1_wholeCampaign_23 : decode cX1_wholeCampaign 23 = .ok (.imul, 1) := dk_104 (dk_at dksX1_wholeCampaign_0 23 rfl rfl)
theorem dX1_wholeCampaign_24 : decode cX1_wholeCampaign 24 = .ok (.aload_n 0, 1) := dk_42 (dk_at dksX1_wholeCampaign_1 0 rfl rfl)
theorem dX1_wholeCampaign_25 : decode cX1_wholeCampaign 25 = .ok (.getfield 42, 3) := dk_180 0 42 (dk_at dksX1_wholeCampaign_1 1 rfl rfl)
theorem dX1_wholeCampaign_28 : decode cX1_wholeCampaign 28 = .ok (.iload_n 1, 1) := dk_27 (dk_at dksX1_wholeCampaign_1 4 rfl rfl)
theorem dX1_wholeCampaign_29 : decode cX1_wholeCampaign 29 = .ok (.iaload, 1) := dk_46 (dk_at dksX1_wholeCampaign_1 5 rfl rfl)
theorem dX1_wholeCampaign_30 : decode cX1_wholeCampaign 30 = .ok (.iadd, 1) := dk_96 (dk_at dksX1_wholeCampaign_1 6 rfl rfl)
theorem dX1_wholeCampaign_31 : decode cX1_wholeCampaign 31 = .ok (.imul, 1) := dk_104 (dk_at dksX1_wholeCampaign_1 7 rfl rfl)
theorem dX1_wholeCampaign_32 : decode cX1_wholeCampaign 32 = .ok (.invokevirtual 276, 3) := dk_182 1 20 (dk_at dksX1_wholeCampaign_1 8 rfl rfl)
theorem dX1_wholeCampaign_35 : decode cX1_wholeCampaign 35 = .ok (.aload_n 0, 1) := dk_42 (dk_at dksX1_wholeCampaign_1 11 rfl rfl)
theorem dX1_wholeCampaign_36 : decode cX1_wholeCampaign 36 = .ok (.getfield 42, 3) := dk_180 0 42 (dk_at dksX1_wholeCampaign_1 12 rfl rfl)
theorem dX1_wholeCampaign_39 : decode cX1_wholeCampaign 39 = .ok (.iload_n 1, 1) := dk_27 (dk_at dksX1_wholeCampaign_1 15 rfl rfl)
theorem dX1_wholeCampaign_40 : decode cX1_wholeCampaign 40 = .ok (.dup2, 1) := dk_92 (dk_at dksX1_wholeCampaign_1 16 rfl rfl)
theorem dX1_wholeCampaign_41 : decode cX1_wholeCampaign 41 = .ok (.iaload, 1) := dk_46 (dk_at dksX1_wholeCampaign_1 17 rfl rfl)
theorem dX1_wholeCampaign_42 : decode cX1_wholeCampaign 42 = .ok (.iconst 1, 1) := dk_4 (dk_at dksX1_wholeCampaign_1 18 rfl rfl)
theorem dX1_wholeCampaign_43 : decode cX1_wholeCampaign 43 = .ok (.iadd, 1) := dk_96 (dk_at dksX1_wholeCampaign_1 19 rfl rfl)
theorem dX1_wholeCampaign_44 : decode cX1_wholeCampaign 44 = .ok (.iastore, 1) := dk_79 (dk_at dksX1_wholeCampaign_1 20 rfl rfl)
theorem dX1_wholeCampaign_45 : decode cX1_wholeCampaign 45 = .ok (.aload_n 0, 1) := dk_42 (dk_at dksX1_wholeCampaign_1 21 rfl rfl)
theorem dX1_wholeCampaign_46 : decode cX1_wholeCampaign 46 = .ok (.invokevirtual 102, 3) := dk_182 0 102 (dk_at dksX1_wholeCampaign_2 0 rfl rfl)
theorem dX1_wholeCampaign_49 : decode cX1_wholeCampaign 49 = .ok (.bipush 59, 2) := dk_16 59 (dk_at dksX1_wholeCampaign_2 3 rfl rfl)
theorem dX1_wholeCampaign_51 : decode cX1_wholeCampaign 51 = .ok (.if_icmp .ne 18, 3) := dk_160 0 18 (dk_at dksX1_wholeCampaign_2 5 rfl rfl)
theorem dX1_wholeCampaign_54 : decode cX1_wholeCampaign 54 = .ok (.aload_n 0, 1) := dk_42 (dk_at dksX1_wholeCampaign_2 8 rfl rfl)
theorem dX1_wholeCampaign_55 : decode cX1_wholeCampaign 55 = .ok (.getfield 42, 3) := dk_180 0 42 (dk_at dksX1_wholeCampaign_2 9 rfl rfl)
theorem dX1_wholeCampaign_58 : decode cX1_wholeCampaign 58 = .ok (.iload_n 1, 1) := dk_27 (dk_at dksX1_wholeCampaign_2 12 rfl rfl)
theorem dX1_wholeCampaign_59 : decode cX1_wholeCampaign 59 = .ok (.iaload, 1) := dk_46 (dk_at dksX1_wholeCampaign_2 13 rfl rfl)
theorem dX1_wholeCampaign_60 : decode cX1_wholeCampaign 60 = .ok (.bipush 16, 2) := dk_16 16 (dk_at dksX1_wholeCampaign_2 14 rfl rfl)
theorem dX1_wholeCampaign_62 : decode cX1_wholeCampaign 62 = .ok (.if_icmp .ge 7, 3) := dk_162 0 7 (dk_at dksX1_wholeCampaign_2 16 rfl rfl)
theorem dX1_wholeCampaign_65 : decode cX1_wholeCampaign 65 = .ok (.iconst 1, 1) := dk_4 (dk_at dksX1_wholeCampaign_2 19 rfl rfl)
theorem dX1_wholeCampaign_66 : decode cX1_wholeCampaign 66 = .ok (.goto 4, 3) := dk_167 0 4 (dk_at dksX1_wholeCampaign_2 20 rfl rfl)
theorem dX1_wholeCampaign_69 : decode cX1_wholeCampaign 69 = .ok (.iconst 0, 1) := dk_3 (dk_at dksX1_wholeCampaign_2 23 rfl rfl)
theorem dX1_wholeCampaign_70 : decode cX1_wholeCampaign 70 = .ok (.istore_n 2, 1) := dk_61 (dk_at dksX1_wholeCampaign_3 0 rfl rfl)
theorem dX1_wholeCampaign_71 : decode cX1_wholeCampaign 71 = .ok (.iload_n 2, 1) := dk_28 (dk_at dksX1_wholeCampaign_3 1 rfl rfl)
theorem dX1_wholeCampaign_72 : decode cX1_wholeCampaign 72 = .ok (.ifCond .eq (-58), 3) := dk_153 255 198 (dk_at dksX1_wholeCampaign_3 2 rfl rfl)
theorem dX1_wholeCampaign_75 : decode cX1_wholeCampaign 75 = .ok (.aload_n 0, 1) := dk_42 (dk_at dksX1_wholeCampaign_3 5 rfl rfl)
theorem dX1_wholeCampaign_76 : decode cX1_wholeCampaign 76 = .ok (.dup, 1) := dk_89 (dk_at dksX1_wholeCampaign_3 6 rfl rfl)
theorem dX1_wholeCampaign_77 : decode cX1_wholeCampaign 77 = .ok (.getfield 92, 3) := dk_180 0 92 (dk_at dksX1_wholeCampaign_3 7 rfl rfl)
theorem dX1_wholeCampaign_80 : decode cX1_wholeCampaign 80 = .ok (.iconst 1, 1) := dk_4 (dk_at dksX1_wholeCampaign_3 10 rfl rfl)
theorem dX1_wholeCampaign_81 : decode cX1_wholeCampaign 81 = .ok (.iadd, 1) := dk_96 (dk_at dksX1_wholeCampaign_3 11 rfl rfl)
theorem dX1_wholeCampaign_82 : decode cX1_wholeCampaign 82 = .ok (.putfield 92, 3) := dk_181 0 92 (dk_at dksX1_wholeCampaign_3 12 rfl rfl)
theorem dX1_wholeCampaign_85 : decode cX1_wholeCampaign 85 = .ok (.goto (-71), 3) := dk_167 255 185 (dk_at dksX1_wholeCampaign_3 15 rfl rfl)
theorem dX1_wholeCampaign_88 : decode cX1_wholeCampaign 88 = .ok (.aload_n 0, 1) := dk_42 (dk_at dksX1_wholeCampaign_3 18 rfl rfl)
theorem dX1_wholeCampaign_89 : decode cX1_wholeCampaign 89 = .ok (.aload_n 0, 1) := dk_42 (dk_at dksX1_wholeCampaign_3 19 rfl rfl)
theorem dX1_wholeCampaign_90 : decode cX1_wholeCampaign 90 = .ok (.invokevirtual 102, 3) := dk_182 0 102 (dk_at dksX1_wholeCampaign_3 20 rfl rfl)
theorem dX1_wholeCampaign_93 : decode cX1_wholeCampaign 93 = .ok (.iconst (-1), 1) := dk_2 (dk_at dksX1_wholeCampaign_3 23 rfl rfl)
theorem dX1_wholeCampaign_94 : decode cX1_wholeCampaign 94 = .ok (.if_icmp .ne 7, 3) := dk_160 0 7 (dk_at dksX1_wholeCampaign_4 0 rfl rfl)
theorem dX1_wholeCampaign_97 : decode cX1_wholeCampaign 97 = .ok (.iconst 1, 1) := dk_4 (dk_at dksX1_wholeCampaign_4 3 rfl rfl)
theorem dX1_wholeCampaign_98 : decode cX1_wholeCampaign 98 = .ok (.goto 4, 3) := dk_167 0 4 (dk_at dksX1_wholeCampaign_4 4 rfl rfl)
theorem dX1_wholeCampaign_101 : decode cX1_wholeCampaign 101 = .ok (.iconst 0, 1) := dk_3 (dk_at dksX1_wholeCampaign_4 7 rfl rfl)
theorem dX1_wholeCampaign_102 : decode cX1_wholeCampaign 102 = .ok (.invokevirtual 98, 3) := dk_182 0 98 (dk_at dksX1_wholeCampaign_4 8 rfl rfl)
theorem dX1_wholeCampaign_105 : decode cX1_wholeCampaign 105 = .ok (.return_, 1) := dk_177 (dk_at dksX1_wholeCampaign_4 11 rfl rfl)
abbrev cX1_stepRead : ByteArray := prog_1_method_33_code
def yX1_stepRead : MethodName := ⟨RX1, "stepRead", "(I)V"⟩
def dkwX1_stepRead_4 : List UInt8 := [42, 89, 180, 0, 92, 4, 96, 181, 0, 92, 177]
abbrev dktX1_stepRead_4 : List UInt8 := dkwX1_stepRead_4 ++ []
def dkwX1_stepRead_3 : List UInt8 := [182, 0, 102, 184, 0, 129, 182, 0, 98, 42, 180, 0, 39, 27, 4, 96, 42, 182, 0, 230, 16, 48, 100, 79]
abbrev dktX1_stepRead_3 : List UInt8 := dkwX1_stepRead_3 ++ dktX1_stepRead_4
def dkwX1_stepRead_2 : List UInt8 := [180, 0, 39, 27, 28, 79, 42, 180, 0, 39, 27, 4, 96, 2, 79, 28, 154, 0, 4, 177, 42, 42]
abbrev dktX1_stepRead_2 : List UInt8 := dkwX1_stepRead_2 ++ dktX1_stepRead_3
def dkwX1_stepRead_1 : List UInt8 := [28, 155, 0, 7, 4, 167, 0, 4, 3, 182, 0, 98, 42, 89, 180, 0, 92, 4, 96, 181, 0, 92, 42]
abbrev dktX1_stepRead_1 : List UInt8 := dkwX1_stepRead_1 ++ dktX1_stepRead_2
def dkwX1_stepRead_0 : List UInt8 := [42, 182, 0, 102, 2, 160, 0, 7, 2, 167, 0, 13, 19, 1, 18, 42, 182, 0, 230, 182, 0, 119, 61, 42]
abbrev dktX1_stepRead_0 : List UInt8 := dkwX1_stepRead_0 ++ dktX1_stepRead_1
theorem dksX1_stepRead_0 : cX1_stepRead.data.toList.drop 0 = dktX1_stepRead_0 := by decide +kernel
theorem dksX1_stepRead_1 : cX1_stepRead.data.toList.drop 24 = dktX1_stepRead_1 := dk_seg dksX1_stepRead_0 24 rfl rfl
theorem dksX1_stepRead_2 : cX1_stepRead.data.toList.drop 47 = dktX1_stepRead_2 := dk_seg dksX1_stepRead_1 23 rfl rfl
theorem dksX1_stepRead_3 : cX1_stepRead.data.toList.drop 69 = dktX1_stepRead_3 := dk_seg dksX1_stepRead_2 22 rfl rfl
theorem dksX1_stepRead_4 : cX1_stepRead.data.toList.drop 93 = dktX1_stepRead_4 := dk_seg dksX1_stepRead_3 24 rfl rfl
theorem dX1_stepRead_0 : decode cX1_stepRead 0 = .ok (.aload_n 0, 1) := dk_42 (dk_at dksX1_stepRead_0 0 rfl rfl)
theorem dX1_stepRead_1 : decode cX1_stepRead 1 = .ok (.invokevirtual 102, 3) := dk_182 0 102 (dk_at dksX1_stepRead_0 1 rfl rfl)
theorem dX1_stepRead_4 : decode cX1_stepRead 4 = .ok (.iconst (-1), 1) := dk_2 (dk_at dksX1_stepRead_0 4 rfl rfl)
theorem dX1_stepRead_5 : decode cX1_stepRead 5 = .ok (.if_icmp .ne 7, 3) := dk_160 0 7 (dk_at dksX1_stepRead_0 5 rfl rfl)
theorem dX1_stepRead_8 : decode cX1_stepRead 8 = .ok (.iconst (-1), 1) := dk_2 (dk_at dksX1_stepRead_0 8 rfl rfl)
theorem dX1_stepRead_9 : decode cX1_stepRead 9 = .ok (.goto 13, 3) := dk_167 0 13 (dk_at dksX1_stepRead_0 9 rfl rfl)
theorem dX1_stepRead_12 : decode cX1_stepRead 12 = .ok (.ldc_w 274, 3) := dk_19 1 18 (dk_at dksX1_stepRead_0 12 rfl rfl)
theorem dX1_stepRead_15 : decode cX1_stepRead 15 = .ok (.aload_n 0, 1) := dk_42 (dk_at dksX1_stepRead_0 15 rfl rfl)
theorem dX1_stepRead_16 : decode cX1_stepRead 16 = .ok (.invokevirtual 230, 3) := dk_182 0 230 (dk_at dksX1_stepRead_0 16 rfl rfl)
theorem dX1_stepRead_19 : decode cX1_stepRead 19 = .ok (.invokevirtual 119, 3) := dk_182 0 119 (dk_at dksX1_stepRead_0 19 rfl rfl)
theorem dX1_stepRead_22 : decode cX1_stepRead 22 = .ok (.istore_n 2, 1) := dk_61 (dk_at dksX1_stepRead_0 22 rfl rfl)
theorem dX1_stepRead_23 : decode cX1_stepRead 23 = .ok (.aload_n 0, 1) := dk_42 (dk_at dksX1_stepRead_0 23 rfl rfl)
theorem dX1_stepRead_24 : decode cX1_stepRead 24 = .ok (.iload_n 2, 1) := dk_28 (dk_at dksX1_stepRead_1 0 rfl rfl)
theorem dX1_stepRead_25 : decode cX1_stepRead 25 = .ok (.ifCond .lt 7, 3) := dk_155 0 7 (dk_at dksX1_stepRead_1 1 rfl rfl)
theorem dX1_stepRead_28 : decode cX1_stepRead 28 = .ok (.iconst 1, 1) := dk_4 (dk_at dksX1_stepRead_1 4 rfl rfl)
theorem dX1_stepRead_29 : decode cX1_stepRead 29 = .ok (.goto 4, 3) := dk_167 0 4 (dk_at dksX1_stepRead_1 5 rfl rfl)
theorem dX1_stepRead_32 : decode cX1_stepRead 32 = .ok (.iconst 0, 1) := dk_3 (dk_at dksX1_stepRead_1 8 rfl rfl)
theorem dX1_stepRead_33 : decode cX1_stepRead 33 = .ok (.invokevirtual 98, 3) := dk_182 0 98 (dk_at dksX1_stepRead_1 9 rfl rfl)
theorem dX1_stepRead_36 : decode cX1_stepRead 36 = .ok (.aload_n 0, 1) := dk_42 (dk_at dksX1_stepRead_1 12 rfl rfl)
theorem dX1_stepRead_37 : decode cX1_stepRead 37 = .ok (.dup, 1) := dk_89 (dk_at dksX1_stepRead_1 13 rfl rfl)
theorem dX1_stepRead_38 : decode cX1_stepRead 38 = .ok (.getfield 92, 3) := dk_180 0 92 (dk_at dksX1_stepRead_1 14 rfl rfl)
theorem dX1_stepRead_41 : decode cX1_stepRead 41 = .ok (.iconst 1, 1) := dk_4 (dk_at dksX1_stepRead_1 17 rfl rfl)
theorem dX1_stepRead_42 : decode cX1_stepRead 42 = .ok (.iadd, 1) := dk_96 (dk_at dksX1_stepRead_1 18 rfl rfl)
theorem dX1_stepRead_43 : decode cX1_stepRead 43 = .ok (.putfield 92, 3) := dk_181 0 92 (dk_at dksX1_stepRead_1 19 rfl rfl)
theorem dX1_stepRead_46 : decode cX1_stepRead 46 = .ok (.aload_n 0, 1) := dk_42 (dk_at dksX1_stepRead_1 22 rfl rfl)
theorem dX1_stepRead_47 : decode cX1_stepRead 47 = .ok (.getfield 39, 3) := dk_180 0 39 (dk_at dksX1_stepRead_2 0 rfl rfl)
theorem dX1_stepRead_50 : decode cX1_stepRead 50 = .ok (.iload_n 1, 1) := dk_27 (dk_at dksX1_stepRead_2 3 rfl rfl)
theorem dX1_stepRead_51 : decode cX1_stepRead 51 = .ok (.iload_n 2, 1) := dk_28 (dk_at dksX1_stepRead_2 4 rfl rfl)
theorem dX1_stepRead_52 : decode cX1_stepRead 52 = .ok (.iastore, 1) := dk_79 (dk_at dksX1_stepRead_2 5 rfl rfl)
theorem dX1_stepRead_53 : decode cX1_stepRead 53 = .ok (.aload_n 0, 1) := dk_42 (dk_at dksX1_stepRead_2 6 rfl rfl)
theorem dX1_stepRead_54 : decode cX1_stepRead 54 = .ok (.getfield 39, 3) := dk_180 0 39 (dk_at dksX1_stepRead_2 7 rfl rfl)
theorem dX1_stepRead_57 : decode cX1_stepRead 57 = .ok (.iload_n 1, 1) := dk_27 (dk_at dksX1_stepRead_2 10 rfl rfl)
theorem dX1_stepRead_58 : decode cX1_stepRead 58 = .ok (.iconst 1, 1) := dk_4 (dk_at dksX1_stepRead_2 11 rfl rfl)
theorem dX1_stepRead_59 : decode cX1_stepRead 59 = .ok (.iadd, 1) := dk_96 (dk_at dksX1_stepRead_2 12 rfl rfl)
theorem dX1_stepRead_60 : decode cX1_stepRead 60 = .ok (.iconst (-1), 1) := dk_2 (dk_at dksX1_stepRead_2 13 rfl rfl)
theorem dX1_stepRead_61 : decode cX1_stepRead 61 = .ok (.iastore, 1) := dk_79 (dk_at dksX1_stepRead_2 14 rfl rfl)
theorem dX1_stepRead_62 : decode cX1_stepRead 62 = .ok (.iload_n 2, 1) := dk_28 (dk_at dksX1_stepRead_2 15 rfl rfl)
theorem dX1_stepRead_63 : decode cX1_stepRead 63 = .ok (.ifCond .ne 4, 3) := dk_154 0 4 (dk_at dksX1_stepRead_2 16 rfl rfl)
theorem dX1_stepRead_66 : decode cX1_stepRead 66 = .ok (.return_, 1) := dk_177 (dk_at dksX1_stepRead_2 19 rfl rfl)
theorem dX1_stepRead_67 : decode cX1_stepRead 67 = .ok (.aload_n 0, 1) := dk_42 (dk_at dksX1_stepRead_2 20 rfl rfl)
theorem dX1_stepRead_68 : decode cX1_stepRead 68 = .ok (.aload_n 0, 1) := dk_42 (dk_at dksX1_stepRead_2 21 rfl rfl)
theorem dX1_stepRead_69 : decode cX1_stepRead 69 = .ok (.invokevirtual 102, 3) := dk_182 0 102 (dk_at dksX1_stepRead_3 0 rfl rfl)
theorem dX1_stepRead_72 : decode cX1_stepRead 72 = .ok (.invokestatic 129, 3) := dk_184 0 129 (dk_at dksX1_stepRead_3 3 rfl rfl)
theorem dX1_stepRead_75 : decode cX1_stepRead 75 = .ok (.invokevirtual 98, 3) := dk_182 0 98 (dk_at dksX1_stepRead_3 6 rfl rfl)
theorem dX1_stepRead_78 : decode cX1_stepRead 78 = .ok (.aload_n 0, 1) := dk_42 (dk_at dksX1_stepRead_3 9 rfl rfl)
theorem dX1_stepRead_79 : decode cX1_stepRead 79 = .ok (.getfield 39, 3) := dk_180 0 39 (dk_at dksX1_stepRead_3 10 rfl rfl)
theorem dX1_stepRead_82 : decode cX1_stepRead 82 = .ok (.iload_n 1, 1) := dk_27 (dk_at dksX1_stepRead_3 13 rfl rfl)
theorem dX1_stepRead_83 : decode cX1_stepRead 83 = .ok (.iconst 1, 1) := dk_4 (dk_at dksX1_stepRead_3 14 rfl rfl)
theorem dX1_stepRead_84 : decode cX1_stepRead 84 = .ok (.iadd, 1) := dk_96 (dk_at dksX1_stepRead_3 15 rfl rfl)
theorem dX1_stepRead_85 : decode cX1_stepRead 85 = .ok (.aload_n 0, 1) := dk_42 (dk_at dksX1_stepRead_3 16 rfl rfl)
theorem dX1_stepRead_86 : decode cX1_stepRead 86 = .ok (.invokevirtual 230, 3) := dk_182 0 230 (dk_at dksX1_stepRead_3 17 rfl rfl)
theorem dX1_stepRead_89 : decode cX1_stepRead 89 = .ok (.bipush 48, 2) := dk_16 48 (dk_at dksX1_stepRead_3 20 rfl rfl)
theorem dX1_stepRead_91 : decode cX1_stepRead 91 = .ok (.isub, 1) := dk_100 (dk_at dksX1_stepRead_3 22 rfl rfl)
theorem dX1_stepRead_92 : decode cX1_stepRead 92 = .ok (.iastore, 1) := dk_79 (dk_at dksX1_stepRead_3 23 rfl rfl)
theorem dX1_stepRead_93 : decode cX1_stepRead 93 = .ok (.aload_n 0, 1) := dk_42 (dk_at dksX1_stepRead_4 0 rfl rfl)
theorem dX1_stepRead_94 : decode cX1_stepRead 94 = .ok (.dup, 1) := dk_89 (dk_at dksX1_stepRead_4 1 rfl rfl)
theorem dX1_stepRead_95 : decode cX1_stepRead 95 = .ok (.getfield 92, 3) := dk_180 0 92 (dk_at dksX1_stepRead_4 2 rfl rfl)
theorem dX1_stepRead_98 : decode cX1_stepRead 98 = .ok (.iconst 1, 1) := dk_4 (dk_at dksX1_stepRead_4 5 rfl rfl)
theorem dX1_stepRead_99 : decode cX1_stepRead 99 = .ok (.iadd, 1) := dk_96 (dk_at dksX1_stepRead_4 6 rfl rfl)
theorem dX1_stepRead_100 : decode cX1_stepRead 100 = .ok (.putfield 92, 3) := dk_181 0 92 (dk_at dksX1_stepRead_4 7 rfl rfl)
theorem dX1_stepRead_103 : decode cX1_stepRead 103 = .ok (.return_, 1) := dk_177 (dk_at dksX1_stepRead_4 10 rfl rfl)
abbrev cX1_text : ByteArray := prog_1_method_39_code
def yX1_text : MethodName := ⟨RX1, "text", "(I)I"⟩
def dkwX1_text_8 : List UInt8 := [46, 79, 42, 3, 181, 1, 55, 42, 3, 181, 1, 58, 42, 3, 181, 1, 61, 42, 180, 1, 49, 172]
abbrev dktX1_text_8 : List UInt8 := dkwX1_text_8 ++ []
def dkwX1_text_7 : List UInt8 := [79, 132, 3, 1, 167, 255, 228, 132, 2, 1, 167, 255, 212, 42, 180, 0, 58, 16, 17, 42, 180, 0, 33, 4]
abbrev dktX1_text_7 : List UInt8 := dkwX1_text_7 ++ dktX1_text_8
def dkwX1_text_6 : List UInt8 := [29, 6, 162, 0, 29, 42, 180, 0, 58, 7, 29, 104, 28, 96, 42, 180, 0, 27, 6, 28, 104, 29, 96, 46]
abbrev dktX1_text_6 : List UInt8 := dkwX1_text_6 ++ dktX1_text_7
def dkwX1_text_5 : List UInt8 := [180, 0, 58, 28, 3, 79, 132, 2, 1, 167, 255, 239, 3, 61, 28, 42, 180, 1, 49, 162, 0, 42, 3, 62]
abbrev dktX1_text_5 : List UInt8 := dkwX1_text_5 ++ dktX1_text_6
def dkwX1_text_4 : List UInt8 := [180, 0, 30, 28, 46, 79, 132, 2, 1, 167, 255, 235, 3, 61, 28, 17, 1, 35, 162, 0, 16, 42]
abbrev dktX1_text_4 : List UInt8 := dkwX1_text_4 ++ dktX1_text_5
def dkwX1_text_3 : List UInt8 := [28, 46, 79, 132, 2, 1, 167, 255, 236, 3, 61, 28, 16, 32, 162, 0, 21, 42, 180, 0, 36, 28, 42]
abbrev dktX1_text_3 : List UInt8 := dkwX1_text_3 ++ dktX1_text_4
def dkwX1_text_2 : List UInt8 := [42, 42, 180, 1, 7, 181, 1, 52, 3, 61, 28, 5, 162, 0, 21, 42, 180, 0, 33, 28, 42, 180, 0, 24]
abbrev dktX1_text_2 : List UInt8 := dkwX1_text_2 ++ dktX1_text_3
def dkwX1_text_1 : List UInt8 := [42, 3, 182, 1, 47, 2, 159, 0, 5, 2, 172, 42, 3, 181, 0, 89, 42, 42, 180, 1, 4, 181, 1, 49]
abbrev dktX1_text_1 : List UInt8 := dkwX1_text_1 ++ dktX1_text_2
def dkwX1_text_0 : List UInt8 := [27, 4, 160, 0, 8, 42, 182, 1, 41, 172, 27, 5, 160, 0, 8, 42, 182, 1, 44, 172, 27, 154, 0, 12]
abbrev dktX1_text_0 : List UInt8 := dkwX1_text_0 ++ dktX1_text_1
theorem dksX1_text_0 : cX1_text.data.toList.drop 0 = dktX1_text_0 := by decide +kernel
theorem dksX1_text_1 : cX1_text.data.toList.drop 24 = dktX1_text_1 := dk_seg dksX1_text_0 24 rfl rfl
theorem dksX1_text_2 : cX1_text.data.toList.drop 48 = dktX1_text_2 := dk_seg dksX1_text_1 24 rfl rfl
theorem dksX1_text_3 : cX1_text.data.toList.drop 72 = dktX1_text_3 := dk_seg dksX1_text_2 24 rfl rfl
theorem dksX1_text_4 : cX1_text.data.toList.drop 95 = dktX1_text_4 := dk_seg dksX1_text_3 23 rfl rfl
theorem dksX1_text_5 : cX1_text.data.toList.drop 117 = dktX1_text_5 := dk_seg dksX1_text_4 22 rfl rfl
theorem dksX1_text_6 : cX1_text.data.toList.drop 141 = dktX1_text_6 := dk_seg dksX1_text_5 24 rfl rfl
theorem dksX1_text_7 : cX1_text.data.toList.drop 165 = dktX1_text_7 := dk_seg dksX1_text_6 24 rfl rfl
theorem dksX1_text_8 : cX1_text.data.toList.drop 189 = dktX1_text_8 := dk_seg dksX1_text_7 24 rfl rfl
theorem dX1_text_0 : decode cX1_text 0 = .ok (.iload_n 1, 1) := dk_27 (dk_at dksX1_text_0 0 rfl rfl)
theorem dX1_text_1 : decode cX1_text 1 = .ok (.iconst 1, 1) := dk_4 (dk_at dksX1_text_0 1 rfl rfl)
theorem dX1_text_2 : decode cX1_text 2 = .ok (.if_icmp .ne 8, 3) := dk_160 0 8 (dk_at dksX1_text_0 2 rfl rfl)
theorem dX1_text_5 : decode cX1_text 5 = .ok (.aload_n 0, 1) := dk_42 (dk_at dksX1_text_0 5 rfl rfl)
theorem dX1_text_6 : decode cX1_text 6 = .ok (.invokevirtual 297, 3) := dk_182 1 41 (dk_at dksX1_text_0 6 rfl rfl)
theorem dX1_text_9 : decode cX1_text 9 = .ok (.ireturn, 1) := dk_172 (dk_at dksX1_text_0 9 rfl rfl)
theorem dX1_text_10 : decode cX1_text 10 = .ok (.iload_n 1, 1) := dk_27 (dk_at dksX1_text_0 10 rfl rfl)
theorem dX1_text_11 : decode cX1_text 11 = .ok (.iconst 2, 1) := dk_5 (dk_at dksX1_text_0 11 rfl rfl)
theorem dX1_text_12 : decode cX1_text 12 = .ok (.if_icmp .ne 8, 3) := dk_160 0 8 (dk_at dksX1_text_0 12 rfl rfl)
theorem dX1_text_15 : decode cX1_text 15 = .ok (.aload_n 0, 1) := dk_42 (dk_at dksX1_text_0 15 rfl rfl)
theorem dX1_text_16 : decode cX1_text 16 = .ok (.invokevirtual 300, 3) := dk_182 1 44 (dk_at dksX1_text_0 16 rfl rfl)
theorem dX1_text_19 : decode cX1_text 19 = .ok (.ireturn, 1) := dk_172 (dk_at dksX1_text_0 19 rfl rfl)
theorem dX1_text_20 : decode cX1_text 20 = .ok (.iload_n 1, 1) := dk_27 (dk_at dksX1_text_0 20 rfl rfl)
theorem dX1_text_21 : decode cX1_text 21 = .ok (.ifCond .ne 12, 3) := dk_154 0 12 (dk_at dksX1_text_0 21 rfl rfl)
theorem dX1_text_24 : decode cX1_text 24 = .ok (.aload_n 0, 1) := dk_42 (dk_at dksX1_text_1 0 rfl rfl)
theorem dX1_text_25 : decode cX1_text 25 = .ok (.iconst 0, 1) := dk_3 (dk_at dksX1_text_1 1 rfl rfl)
theorem dX1_text_26 : decode cX1_text 26 = .ok (.invokevirtual 303, 3) := dk_182 1 47 (dk_at dksX1_text_1 2 rfl rfl)
theorem dX1_text_29 : decode cX1_text 29 = .ok (.iconst (-1), 1) := dk_2 (dk_at dksX1_text_1 5 rfl rfl)
theorem dX1_text_30 : decode cX1_text 30 = .ok (.if_icmp .eq 5, 3) := dk_159 0 5 (dk_at dksX1_text_1 6 rfl rfl)
theorem dX1_text_33 : decode cX1_text 33 = .ok (.iconst (-1), 1) := dk_2 (dk_at dksX1_text_1 9 rfl rfl)
theorem dX1_text_34 : decode cX1_text 34 = .ok (.ireturn, 1) := dk_172 (dk_at dksX1_text_1 10 rfl rfl)
theorem dX1_text_35 : decode cX1_text 35 = .ok (.aload_n 0, 1) := dk_42 (dk_at dksX1_text_1 11 rfl rfl)
theorem dX1_text_36 : decode cX1_text 36 = .ok (.iconst 0, 1) := dk_3 (dk_at dksX1_text_1 12 rfl rfl)
theorem dX1_text_37 : decode cX1_text 37 = .ok (.putfield 89, 3) := dk_181 0 89 (dk_at dksX1_text_1 13 rfl rfl)
theorem dX1_text_40 : decode cX1_text 40 = .ok (.aload_n 0, 1) := dk_42 (dk_at dksX1_text_1 16 rfl rfl)
theorem dX1_text_41 : decode cX1_text 41 = .ok (.aload_n 0, 1) := dk_42 (dk_at dksX1_text_1 17 rfl rfl)
theorem dX1_text_42 : decode cX1_text 42 = .ok (.getfield 260, 3) := dk_180 1 4 (dk_at dksX1_text_1 18 rfl rfl)
theorem dX1_text_45 : decode cX1_text 45 = .ok (.putfield 305, 3) := dk_181 1 49 (dk_at dksX1_text_1 21 rfl rfl)
theorem dX1_text_48 : decode cX1_text 48 = .ok (.aload_n 0, 1) := dk_42 (dk_at dksX1_text_2 0 rfl rfl)
theorem dX1_text_49 : decode cX1_text 49 = .ok (.aload_n 0, 1) := dk_42 (dk_at dksX1_text_2 1 rfl rfl)
theorem dX1_text_50 : decode cX1_text 50 = .ok (.getfield 263, 3) := dk_180 1 7 (dk_at dksX1_text_2 2 rfl rfl)
theorem dX1_text_53 : decode cX1_text 53 = .ok (.putfield 308, 3) := dk_181 1 52 (dk_at dksX1_text_2 5 rfl rfl)
theorem dX1_text_56 : decode cX1_text 56 = .ok (.iconst 0, 1) := dk_3 (dk_at dksX1_text_2 8 rfl rfl)
theorem dX1_text_57 : decode cX1_text 57 = .ok (.istore_n 2, 1) := dk_61 (dk_at dksX1_text_2 9 rfl rfl)
theorem dX1_text_58 : decode cX1_text 58 = .ok (.iload_n 2, 1) := dk_28 (dk_at dksX1_text_2 10 rfl rfl)
theorem dX1_text_59 : decode cX1_text 59 = .ok (.iconst 2, 1) := dk_5 (dk_at dksX1_text_2 11 rfl rfl)
theorem dX1_text_60 : decode cX1_text 60 = .ok (.if_icmp .ge 21, 3) := dk_162 0 21 (dk_at dksX1_text_2 12 rfl rfl)
theorem dX1_text_63 : decode cX1_text 63 = .ok (.aload_n 0, 1) := dk_42 (dk_at dksX1_text_2 15 rfl rfl)
theorem dX1_text_64 : decode cX1_text 64 = .ok (.getfield 33, 3) := dk_180 0 33 (dk_at dksX1_text_2 16 rfl rfl)
theorem dX1_text_67 : decode cX1_text 67 = .ok (.iload_n 2, 1) := dk_28 (dk_at dksX1_text_2 19 rfl rfl)
theorem dX1_text_68 : decode cX1_text 68 = .ok (.aload_n 0, 1) := dk_42 (dk_at dksX1_text_2 20 rfl rfl)
theorem dX1_text_69 : decode cX1_text 69 = .ok (.getfield 24, 3) := dk_180 0 24 (dk_at dksX1_text_2 21 rfl rfl)
theorem dX1_text_72 : decode cX1_text 72 = .ok (.iload_n 2, 1) := dk_28 (dk_at dksX1_text_3 0 rfl rfl)
theorem dX1_text_73 : decode cX1_text 73 = .ok (.iaload, 1) := dk_46 (dk_at dksX1_text_3 1 rfl rfl)
theorem dX1_text_74 : decode cX1_text 74 = .ok (.iastore, 1) := dk_79 (dk_at dksX1_text_3 2 rfl rfl)
theorem dX1_text_75 : decode cX1_text 75 = .ok (.iinc 2 1, 3) := dk_132 2 1 (dk_at dksX1_text_3 3 rfl rfl)
theorem dX1_text_78 : decode cX1_text 78 = .ok (.goto (-20), 3) := dk_167 255 236 (dk_at dksX1_text_3 6 rfl rfl)
theorem dX1_text_81 : decode cX1_text 81 = .ok (.iconst 0, 1) := dk_3 (dk_at dksX1_text_3 9 rfl rfl)
theorem dX1_text_82 : decode cX1_text 82 = .ok (.istore_n 2, 1) := dk_61 (dk_at dksX1_text_3 10 rfl rfl)
theorem dX1_text_83 : decode cX1_text 83 = .ok (.iload_n 2, 1) := dk_28 (dk_at dksX1_text_3 11 rfl rfl)
theorem dX1_text_84 : decode cX1_text 84 = .ok (.bipush 32, 2) := dk_16 32 (dk_at dksX1_text_3 12 rfl rfl)
theorem dX1_text_86 : decode cX1_text 86 = .ok (.if_icmp .ge 21, 3) := dk_162 0 21 (dk_at dksX1_text_3 14 rfl rfl)
theorem dX1_text_89 : decode cX1_text 89 = .ok (.aload_n 0, 1) := dk_42 (dk_at dksX1_text_3 17 rfl rfl)
theorem dX1_text_90 : decode cX1_text 90 = .ok (.getfield 36, 3) := dk_180 0 36 (dk_at dksX1_text_3 18 rfl rfl)
theorem dX1_text_93 : decode cX1_text 93 = .ok (.iload_n 2, 1) := dk_28 (dk_at dksX1_text_3 21 rfl rfl)
theorem dX1_text_94 : decode cX1_text 94 = .ok (.aload_n 0, 1) := dk_42 (dk_at dksX1_text_3 22 rfl rfl)
theorem dX1_text_95 : decode cX1_text 95 = .ok (.getfield 30, 3) := dk_180 0 30 (dk_at dksX1_text_4 0 rfl rfl)
theorem dX1_text_98 : decode cX1_text 98 = .ok (.iload_n 2, 1) := dk_28 (dk_at dksX1_text_4 3 rfl rfl)
theorem dX1_text_99 : decode cX1_text 99 = .ok (.iaload, 1) := dk_46 (dk_at dksX1_text_4 4 rfl rfl)
theorem dX1_text_100 : decode cX1_text 100 = .ok (.iastore, 1) := dk_79 (dk_at dksX1_text_4 5 rfl rfl)
theorem dX1_text_101 : decode cX1_text 101 = .ok (.iinc 2 1, 3) := dk_132 2 1 (dk_at dksX1_text_4 6 rfl rfl)
theorem dX1_text_104 : decode cX1_text 104 = .ok (.goto (-21), 3) := dk_167 255 235 (dk_at dksX1_text_4 9 rfl rfl)
theorem dX1_text_107 : decode cX1_text 107 = .ok (.iconst 0, 1) := dk_3 (dk_at dksX1_text_4 12 rfl rfl)
theorem dX1_text_108 : decode cX1_text 108 = .ok (.istore_n 2, 1) := dk_61 (dk_at dksX1_text_4 13 rfl rfl)
theorem dX1_text_109 : decode cX1_text 109 = .ok (.iload_n 2, 1) := dk_28 (dk_at dksX1_text_4 14 rfl rfl)
theorem dX1_text_110 : decode cX1_text 110 = .ok (.sipush 291, 3) := dk_17 1 35 (dk_at dksX1_text_4 15 rfl rfl)
theorem dX1_text_113 : decode cX1_text 113 = .ok (.if_icmp .ge 16, 3) := dk_162 0 16 (dk_at dksX1_text_4 18 rfl rfl)
theorem dX1_text_116 : decode cX1_text 116 = .ok (.aload_n 0, 1) := dk_42 (dk_at dksX1_text_4 21 rfl rfl)
theorem dX1_text_117 : decode cX1_text 117 = .ok (.getfield 58, 3) := dk_180 0 58 (dk_at dksX1_text_5 0 rfl rfl)
theorem dX1_text_120 : decode cX1_text 120 = .ok (.iload_n 2, 1) := dk_28 (dk_at dksX1_text_5 3 rfl rfl)
theorem dX1_text_121 : decode cX1_text 121 = .ok (.iconst 0, 1) := dk_3 (dk_at dksX1_text_5 4 rfl rfl)
theorem dX1_text_122 : decode cX1_text 122 = .ok (.iastore, 1) := dk_79 (dk_at dksX1_text_5 5 rfl rfl)
theorem dX1_text_123 : decode cX1_text 123 = .ok (.iinc 2 1, 3) := dk_132 2 1 (dk_at dksX1_text_5 6 rfl rfl)
theorem dX1_text_126 : decode cX1_text 126 = .ok (.goto (-17), 3) := dk_167 255 239 (dk_at dksX1_text_5 9 rfl rfl)
theorem dX1_text_129 : decode cX1_text 129 = .ok (.iconst 0, 1) := dk_3 (dk_at dksX1_text_5 12 rfl rfl)
theorem dX1_text_130 : decode cX1_text 130 = .ok (.istore_n 2, 1) := dk_61 (dk_at dksX1_text_5 13 rfl rfl)
theorem dX1_text_131 : decode cX1_text 131 = .ok (.iload_n 2, 1) := dk_28 (dk_at dksX1_text_5 14 rfl rfl)
theorem dX1_text_132 : decode cX1_text 132 = .ok (.aload_n 0, 1) := dk_42 (dk_at dksX1_text_5 15 rfl rfl)
theorem dX1_text_133 : decode cX1_text 133 = .ok (.getfield 305, 3) := dk_180 1 49 (dk_at dksX1_text_5 16 rfl rfl)
theorem dX1_text_136 : decode cX1_text 136 = .ok (.if_icmp .ge 42, 3) := dk_162 0 42 (dk_at dksX1_text_5 19 rfl rfl)
theorem dX1_text_139 : decode cX1_text 139 = .ok (.iconst 0, 1) := dk_3 (dk_at dksX1_text_5 22 rfl rfl)
theorem dX1_text_140 : decode cX1_text 140 = .ok (.istore_n 3, 1) := dk_62 (dk_at dksX1_text_5 23 rfl rfl)
theorem dX1_text_141 : decode cX1_text 141 = .ok (.iload_n 3, 1) := dk_29 (dk_at dksX1_text_6 0 rfl rfl)
theorem dX1_text_142 : decode cX1_text 142 = .ok (.iconst 3, 1) := dk_6 (dk_at dksX1_text_6 1 rfl rfl)
theorem dX1_text_143 : decode cX1_text 143 = .ok (.if_icmp .ge 29, 3) := dk_162 0 29 (dk_at dksX1_text_6 2 rfl rfl)
theorem dX1_text_146 : decode cX1_text 146 = .ok (.aload_n 0, 1) := dk_42 (dk_at dksX1_text_6 5 rfl rfl)
theorem dX1_text_147 : decode cX1_text 147 = .ok (.getfield 58, 3) := dk_180 0 58 (dk_at dksX1_text_6 6 rfl rfl)
theorem dX1_text_150 : decode cX1_text 150 = .ok (.iconst 4, 1) := dk_7 (dk_at dksX1_text_6 9 rfl rfl)
theorem dX1_text_151 : decode cX1_text 151 = .ok (.iload_n 3, 1) := dk_29 (dk_at dksX1_text_6 10 rfl rfl)
theorem dX1_text_152 : decode cX1_text 152 = .ok (.imul, 1) := dk_104 (dk_at dksX1_text_6 11 rfl rfl)
theorem dX1_text_153 : decode cX1_text 153 = .ok (.iload_n 2, 1) := dk_28 (dk_at dksX1_text_6 12 rfl rfl)
theorem dX1_text_154 : decode cX1_text 154 = .ok (.iadd, 1) := dk_96 (dk_at dksX1_text_6 13 rfl rfl)
theorem dX1_text_155 : decode cX1_text 155 = .ok (.aload_n 0, 1) := dk_42 (dk_at dksX1_text_6 14 rfl rfl)
theorem dX1_text_156 : decode cX1_text 156 = .ok (.getfield 27, 3) := dk_180 0 27 (dk_at dksX1_text_6 15 rfl rfl)
theorem dX1_text_159 : decode cX1_text 159 = .ok (.iconst 3, 1) := dk_6 (dk_at dksX1_text_6 18 rfl rfl)
theorem dX1_text_160 : decode cX1_text 160 = .ok (.iload_n 2, 1) := dk_28 (dk_at dksX1_text_6 19 rfl rfl)
theorem dX1_text_161 : decode cX1_text 161 = .ok (.imul, 1) := dk_104 (dk_at dksX1_text_6 20 rfl rfl)
theorem dX1_text_162 : decode cX1_text 162 = .ok (.iload_n 3, 1) := dk_29 (dk_at dksX1_text_6 21 rfl rfl)
theorem dX1_text_163 : decode cX1_text 163 = .ok (.iadd, 1) := dk_96 (dk_at dksX1_text_6 22 rfl rfl)
theorem dX1_text_164 : decode cX1_text 164 = .ok (.iaload, 1) := dk_46 (dk_at dksX1_text_6 23 rfl rfl)
theorem dX1_text_165 : decode cX1_text 165 = .ok (.iastore, 1) := dk_79 (dk_at dksX1_text_7 0 rfl rfl)
theorem dX1_text_166 : decode cX1_text 166 = .ok (.iinc 3 1, 3) := dk_132 3 1 (dk_at dksX1_text_7 1 rfl rfl)
theorem dX1_text_169 : decode cX1_text 169 = .ok (.goto (-28), 3) := dk_167 255 228 (dk_at dksX1_text_7 4 rfl rfl)
theorem dX1_text_172 : decode cX1_text 172 = .ok (.iinc 2 1, 3) := dk_132 2 1 (dk_at dksX1_text_7 7 rfl rfl)
theorem dX1_text_175 : decode cX1_text 175 = .ok (.goto (-44), 3) := dk_167 255 212 (dk_at dksX1_text_7 10 rfl rfl)
theorem dX1_text_178 : decode cX1_text 178 = .ok (.aload_n 0, 1) := dk_42 (dk_at dksX1_text_7 13 rfl rfl)
theorem dX1_text_179 : decode cX1_text 179 = .ok (.getfield 58, 3) := dk_180 0 58 (dk_at dksX1_text_7 14 rfl rfl)
theorem dX1_text_182 : decode cX1_text 182 = .ok (.bipush 17, 2) := dk_16 17 (dk_at dksX1_text_7 17 rfl rfl)
theorem dX1_text_184 : decode cX1_text 184 = .ok (.aload_n 0, 1) := dk_42 (dk_at dksX1_text_7 19 rfl rfl)
theorem dX1_text_185 : decode cX1_text 185 = .ok (.getfield 33, 3) := dk_180 0 33 (dk_at dksX1_text_7 20 rfl rfl)
theorem dX1_text_188 : decode cX1_text 188 = .ok (.iconst 1, 1) := dk_4 (dk_at dksX1_text_7 23 rfl rfl)
theorem dX1_text_189 : decode cX1_text 189 = .ok (.iaload, 1) := dk_46 (dk_at dksX1_text_8 0 rfl rfl)
theorem dX1_text_190 : decode cX1_text 190 = .ok (.iastore, 1) := dk_79 (dk_at dksX1_text_8 1 rfl rfl)
theorem dX1_text_191 : decode cX1_text 191 = .ok (.aload_n 0, 1) := dk_42 (dk_at dksX1_text_8 2 rfl rfl)
theorem dX1_text_192 : decode cX1_text 192 = .ok (.iconst 0, 1) := dk_3 (dk_at dksX1_text_8 3 rfl rfl)
theorem dX1_text_193 : decode cX1_text 193 = .ok (.putfield 311, 3) := dk_181 1 55 (dk_at dksX1_text_8 4 rfl rfl)
theorem dX1_text_196 : decode cX1_text 196 = .ok (.aload_n 0, 1) := dk_42 (dk_at dksX1_text_8 7 rfl rfl)
theorem dX1_text_197 : decode cX1_text 197 = .ok (.iconst 0, 1) := dk_3 (dk_at dksX1_text_8 8 rfl rfl)
theorem dX1_text_198 : decode cX1_text 198 = .ok (.putfield 314, 3) := dk_181 1 58 (dk_at dksX1_text_8 9 rfl rfl)
theorem dX1_text_201 : decode cX1_text 201 = .ok (.aload_n 0, 1) := dk_42 (dk_at dksX1_text_8 12 rfl rfl)
theorem dX1_text_202 : decode cX1_text 202 = .ok (.iconst 0, 1) := dk_3 (dk_at dksX1_text_8 13 rfl rfl)
theorem dX1_text_203 : decode cX1_text 203 = .ok (.putfield 317, 3) := dk_181 1 61 (dk_at dksX1_text_8 14 rfl rfl)
theorem dX1_text_206 : decode cX1_text 206 = .ok (.aload_n 0, 1) := dk_42 (dk_at dksX1_text_8 17 rfl rfl)
theorem dX1_text_207 : decode cX1_text 207 = .ok (.getfield 305, 3) := dk_180 1 49 (dk_at dksX1_text_8 18 rfl rfl)
theorem dX1_text_210 : decode cX1_text 210 = .ok (.ireturn, 1) := dk_172 (dk_at dksX1_text_8 21 rfl rfl)
abbrev cX1_lawRead : ByteArray := prog_1_method_37_code
def yX1_lawRead : MethodName := ⟨RX1, "lawRead", "()I"⟩
def dkwX1_lawRead_2 : List UInt8 := [180, 1, 35, 4, 100, 172]
abbrev dktX1_lawRead_2 : List UInt8 := dkwX1_lawRead_2 ++ []
def dkwX1_lawRead_1 : List UInt8 := [167, 0, 6, 76, 2, 172, 42, 3, 181, 0, 89, 42, 89, 180, 1, 35, 4, 96, 181, 1, 35, 42]
abbrev dktX1_lawRead_1 : List UInt8 := dkwX1_lawRead_1 ++ dktX1_lawRead_2
def dkwX1_lawRead_0 : List UInt8 := [42, 180, 1, 35, 7, 160, 0, 5, 2, 172, 42, 180, 0, 47, 42, 180, 1, 35, 42, 182, 0, 198, 83]
abbrev dktX1_lawRead_0 : List UInt8 := dkwX1_lawRead_0 ++ dktX1_lawRead_1
theorem dksX1_lawRead_0 : cX1_lawRead.data.toList.drop 0 = dktX1_lawRead_0 := by decide +kernel
theorem dksX1_lawRead_1 : cX1_lawRead.data.toList.drop 23 = dktX1_lawRead_1 := dk_seg dksX1_lawRead_0 23 rfl rfl
theorem dksX1_lawRead_2 : cX1_lawRead.data.toList.drop 45 = dktX1_lawRead_2 := dk_seg dksX1_lawRead_1 22 rfl rfl
theorem dX1_lawRead_0 : decode cX1_lawRead 0 = .ok (.aload_n 0, 1) := dk_42 (dk_at dksX1_lawRead_0 0 rfl rfl)
theorem dX1_lawRead_1 : decode cX1_lawRead 1 = .ok (.getfield 291, 3) := dk_180 1 35 (dk_at dksX1_lawRead_0 1 rfl rfl)
theorem dX1_lawRead_4 : decode cX1_lawRead 4 = .ok (.iconst 4, 1) := dk_7 (dk_at dksX1_lawRead_0 4 rfl rfl)
theorem dX1_lawRead_5 : decode cX1_lawRead 5 = .ok (.if_icmp .ne 5, 3) := dk_160 0 5 (dk_at dksX1_lawRead_0 5 rfl rfl)
theorem dX1_lawRead_8 : decode cX1_lawRead 8 = .ok (.iconst (-1), 1) := dk_2 (dk_at dksX1_lawRead_0 8 rfl rfl)
theorem dX1_lawRead_9 : decode cX1_lawRead 9 = .ok (.ireturn, 1) := dk_172 (dk_at dksX1_lawRead_0 9 rfl rfl)
theorem dX1_lawRead_10 : decode cX1_lawRead 10 = .ok (.aload_n 0, 1) := dk_42 (dk_at dksX1_lawRead_0 10 rfl rfl)
theorem dX1_lawRead_11 : decode cX1_lawRead 11 = .ok (.getfield 47, 3) := dk_180 0 47 (dk_at dksX1_lawRead_0 11 rfl rfl)
theorem dX1_lawRead_14 : decode cX1_lawRead 14 = .ok (.aload_n 0, 1) := dk_42 (dk_at dksX1_lawRead_0 14 rfl rfl)
theorem dX1_lawRead_15 : decode cX1_lawRead 15 = .ok (.getfield 291, 3) := dk_180 1 35 (dk_at dksX1_lawRead_0 15 rfl rfl)
theorem dX1_lawRead_18 : decode cX1_lawRead 18 = .ok (.aload_n 0, 1) := dk_42 (dk_at dksX1_lawRead_0 18 rfl rfl)
theorem dX1_lawRead_19 : decode cX1_lawRead 19 = .ok (.invokevirtual 198, 3) := dk_182 0 198 (dk_at dksX1_lawRead_0 19 rfl rfl)
theorem dX1_lawRead_22 : decode cX1_lawRead 22 = .ok (.aastore, 1) := dk_83 (dk_at dksX1_lawRead_0 22 rfl rfl)
theorem dX1_lawRead_23 : decode cX1_lawRead 23 = .ok (.goto 6, 3) := dk_167 0 6 (dk_at dksX1_lawRead_1 0 rfl rfl)
theorem dX1_lawRead_26 : decode cX1_lawRead 26 = .ok (.astore_n 1, 1) := dk_76 (dk_at dksX1_lawRead_1 3 rfl rfl)
theorem dX1_lawRead_27 : decode cX1_lawRead 27 = .ok (.iconst (-1), 1) := dk_2 (dk_at dksX1_lawRead_1 4 rfl rfl)
theorem dX1_lawRead_28 : decode cX1_lawRead 28 = .ok (.ireturn, 1) := dk_172 (dk_at dksX1_lawRead_1 5 rfl rfl)
theorem dX1_lawRead_29 : decode cX1_lawRead 29 = .ok (.aload_n 0, 1) := dk_42 (dk_at dksX1_lawRead_1 6 rfl rfl)
theorem dX1_lawRead_30 : decode cX1_lawRead 30 = .ok (.iconst 0, 1) := dk_3 (dk_at dksX1_lawRead_1 7 rfl rfl)
theorem dX1_lawRead_31 : decode cX1_lawRead 31 = .ok (.putfield 89, 3) := dk_181 0 89 (dk_at dksX1_lawRead_1 8 rfl rfl)
theorem dX1_lawRead_34 : decode cX1_lawRead 34 = .ok (.aload_n 0, 1) := dk_42 (dk_at dksX1_lawRead_1 11 rfl rfl)
theorem dX1_lawRead_35 : decode cX1_lawRead 35 = .ok (.dup, 1) := dk_89 (dk_at dksX1_lawRead_1 12 rfl rfl)
theorem dX1_lawRead_36 : decode cX1_lawRead 36 = .ok (.getfield 291, 3) := dk_180 1 35 (dk_at dksX1_lawRead_1 13 rfl rfl)
theorem dX1_lawRead_39 : decode cX1_lawRead 39 = .ok (.iconst 1, 1) := dk_4 (dk_at dksX1_lawRead_1 16 rfl rfl)
theorem dX1_lawRead_40 : decode cX1_lawRead 40 = .ok (.iadd, 1) := dk_96 (dk_at dksX1_lawRead_1 17 rfl rfl)
theorem dX1_lawRead_41 : decode cX1_lawRead 41 = .ok (.putfield 291, 3) := dk_181 1 35 (dk_at dksX1_lawRead_1 18 rfl rfl)
theorem dX1_lawRead_44 : decode cX1_lawRead 44 = .ok (.aload_n 0, 1) := dk_42 (dk_at dksX1_lawRead_1 21 rfl rfl)
theorem dX1_lawRead_45 : decode cX1_lawRead 45 = .ok (.getfield 291, 3) := dk_180 1 35 (dk_at dksX1_lawRead_2 0 rfl rfl)
theorem dX1_lawRead_48 : decode cX1_lawRead 48 = .ok (.iconst 1, 1) := dk_4 (dk_at dksX1_lawRead_2 3 rfl rfl)
theorem dX1_lawRead_49 : decode cX1_lawRead 49 = .ok (.isub, 1) := dk_100 (dk_at dksX1_lawRead_2 4 rfl rfl)
theorem dX1_lawRead_50 : decode cX1_lawRead 50 = .ok (.ireturn, 1) := dk_172 (dk_at dksX1_lawRead_2 5 rfl rfl)
abbrev cX1_campaignRead : ByteArray := prog_1_method_38_code
def yX1_campaignRead : MethodName := ⟨RX1, "campaignRead", "()I"⟩
def dkwX1_campaignRead_1 : List UInt8 := [42, 3, 181, 0, 89, 42, 89, 180, 1, 38, 4, 96, 181, 1, 38, 42, 180, 1, 38, 4, 100, 172]
abbrev dktX1_campaignRead_1 : List UInt8 := dkwX1_campaignRead_1 ++ []
def dkwX1_campaignRead_0 : List UInt8 := [42, 180, 1, 38, 7, 160, 0, 5, 2, 172, 42, 42, 180, 1, 38, 182, 1, 26, 167, 0, 6, 76, 2, 172]
abbrev dktX1_campaignRead_0 : List UInt8 := dkwX1_campaignRead_0 ++ dktX1_campaignRead_1
theorem dksX1_campaignRead_0 : cX1_campaignRead.data.toList.drop 0 = dktX1_campaignRead_0 := by decide +kernel
theorem dksX1_campaignRead_1 : cX1_campaignRead.data.toList.drop 24 = dktX1_campaignRead_1 := dk_seg dksX1_campaignRead_0 24 rfl rfl
theorem dX1_campaignRead_0 : decode cX1_campaignRead 0 = .ok (.aload_n 0, 1) := dk_42 (dk_at dksX1_campaignRead_0 0 rfl rfl)
theorem dX1_campaignRead_1 : decode cX1_campaignRead 1 = .ok (.getfield 294, 3) := dk_180 1 38 (dk_at dksX1_campaignRead_0 1 rfl rfl)
theorem dX1_campaignRead_4 : decode cX1_campaignRead 4 = .ok (.iconst 4, 1) := dk_7 (dk_at dksX1_campaignRead_0 4 rfl rfl)
theorem dX1_campaignRead_5 : decode cX1_campaignRead 5 = .ok (.if_icmp .ne 5, 3) := dk_160 0 5 (dk_at dksX1_campaignRead_0 5 rfl rfl)
theorem dX1_campaignRead_8 : decode cX1_campaignRead 8 = .ok (.iconst (-1), 1) := dk_2 (dk_at dksX1_campaignRead_0 8 rfl rfl)
theorem dX1_campaignRead_9 : decode cX1_campaignRead 9 = .ok (.ireturn, 1) := dk_172 (dk_at dksX1_campaignRead_0 9 rfl rfl)
theorem dX1_campaignRead_10 : decode cX1_campaignRead 10 = .ok (.aload_n 0, 1) := dk_42 (dk_at dksX1_campaignRead_0 10 rfl rfl)
theorem dX1_campaignRead_11 : decode cX1_campaignRead 11 = .ok (.aload_n 0, 1) := dk_42 (dk_at dksX1_campaignRead_0 11 rfl rfl)
theorem dX1_campaignRead_12 : decode cX1_campaignRead 12 = .ok (.getfield 294, 3) := dk_180 1 38 (dk_at dksX1_campaignRead_0 12 rfl rfl)
theorem dX1_campaignRead_15 : decode cX1_campaignRead 15 = .ok (.invokevirtual 282, 3) := dk_182 1 26 (dk_at dksX1_campaignRead_0 15 rfl rfl)
theorem dX1_campaignRead_18 : decode cX1_campaignRead 18 = .ok (.goto 6, 3) := dk_167 0 6 (dk_at dksX1_campaignRead_0 18 rfl rfl)
theorem dX1_campaignRead_21 : decode cX1_campaignRead 21 = .ok (.astore_n 1, 1) := dk_76 (dk_at dksX1_campaignRead_0 21 rfl rfl)
theorem dX1_campaignRead_22 : decode cX1_campaignRead 22 = .ok (.iconst (-1), 1) := dk_2 (dk_at dksX1_campaignRead_0 22 rfl rfl)
theorem dX1_campaignRead_23 : decode cX1_campaignRead 23 = .ok (.ireturn, 1) := dk_172 (dk_at dksX1_campaignRead_0 23 rfl rfl)
theorem dX1_campaignRead_24 : decode cX1_campaignRead 24 = .ok (.aload_n 0, 1) := dk_42 (dk_at dksX1_campaignRead_1 0 rfl rfl)
theorem dX1_campaignRead_25 : decode cX1_campaignRead 25 = .ok (.iconst 0, 1) := dk_3 (dk_at dksX1_campaignRead_1 1 rfl rfl)
theorem dX1_campaignRead_26 : decode cX1_campaignRead 26 = .ok (.putfield 89, 3) := dk_181 0 89 (dk_at dksX1_campaignRead_1 2 rfl rfl)
theorem dX1_campaignRead_29 : decode cX1_campaignRead 29 = .ok (.aload_n 0, 1) := dk_42 (dk_at dksX1_campaignRead_1 5 rfl rfl)
theorem dX1_campaignRead_30 : decode cX1_campaignRead 30 = .ok (.dup, 1) := dk_89 (dk_at dksX1_campaignRead_1 6 rfl rfl)
theorem dX1_campaignRead_31 : decode cX1_campaignRead 31 = .ok (.getfield 294, 3) := dk_180 1 38 (dk_at dksX1_campaignRead_1 7 rfl rfl)
theorem dX1_campaignRead_34 : decode cX1_campaignRead 34 = .ok (.iconst 1, 1) := dk_4 (dk_at dksX1_campaignRead_1 10 rfl rfl)
theorem dX1_campaignRead_35 : decode cX1_campaignRead 35 = .ok (.iadd, 1) := dk_96 (dk_at dksX1_campaignRead_1 11 rfl rfl)
theorem dX1_campaignRead_36 : decode cX1_campaignRead 36 = .ok (.putfield 294, 3) := dk_181 1 38 (dk_at dksX1_campaignRead_1 12 rfl rfl)
theorem dX1_campaignRead_39 : decode cX1_campaignRead 39 = .ok (.aload_n 0, 1) := dk_42 (dk_at dksX1_campaignRead_1 15 rfl rfl)
theorem dX1_campaignRead_40 : decode cX1_campaignRead 40 = .ok (.getfield 294, 3) := dk_180 1 38 (dk_at dksX1_campaignRead_1 16 rfl rfl)
theorem dX1_campaignRead_43 : decode cX1_campaignRead 43 = .ok (.iconst 1, 1) := dk_4 (dk_at dksX1_campaignRead_1 19 rfl rfl)
theorem dX1_campaignRead_44 : decode cX1_campaignRead 44 = .ok (.isub, 1) := dk_100 (dk_at dksX1_campaignRead_1 20 rfl rfl)
theorem dX1_campaignRead_45 : decode cX1_campaignRead 45 = .ok (.ireturn, 1) := dk_172 (dk_at dksX1_campaignRead_1 21 rfl rfl)
abbrev cX1_field : ByteArray := prog_1_method_48_code
def yX1_field : MethodName := ⟨RX1, "field", "(II)I"⟩
def dkwX1_field_1 : List UInt8 := [167, 0, 4, 2, 172]
abbrev dktX1_field_1 : List UInt8 := dkwX1_field_1 ++ []
def dkwX1_field_0 : List UInt8 := [42, 27, 182, 1, 77, 153, 0, 21, 28, 3, 6, 184, 0, 233, 153, 0, 12, 42, 27, 28, 182, 1, 80]
abbrev dktX1_field_0 : List UInt8 := dkwX1_field_0 ++ dktX1_field_1
theorem dksX1_field_0 : cX1_field.data.toList.drop 0 = dktX1_field_0 := by decide +kernel
theorem dksX1_field_1 : cX1_field.data.toList.drop 23 = dktX1_field_1 := dk_seg dksX1_field_0 23 rfl rfl
theorem dX1_field_0 : decode cX1_field 0 = .ok (.aload_n 0, 1) := dk_42 (dk_at dksX1_field_0 0 rfl rfl)
theorem dX1_field_1 : decode cX1_field 1 = .ok (.iload_n 1, 1) := dk_27 (dk_at dksX1_field_0 1 rfl rfl)
theorem dX1_field_2 : decode cX1_field 2 = .ok (.invokevirtual 333, 3) := dk_182 1 77 (dk_at dksX1_field_0 2 rfl rfl)
theorem dX1_field_5 : decode cX1_field 5 = .ok (.ifCond .eq 21, 3) := dk_153 0 21 (dk_at dksX1_field_0 5 rfl rfl)
theorem dX1_field_8 : decode cX1_field 8 = .ok (.iload_n 2, 1) := dk_28 (dk_at dksX1_field_0 8 rfl rfl)
theorem dX1_field_9 : decode cX1_field 9 = .ok (.iconst 0, 1) := dk_3 (dk_at dksX1_field_0 9 rfl rfl)
theorem dX1_field_10 : decode cX1_field 10 = .ok (.iconst 3, 1) := dk_6 (dk_at dksX1_field_0 10 rfl rfl)
theorem dX1_field_11 : decode cX1_field 11 = .ok (.invokestatic 233, 3) := dk_184 0 233 (dk_at dksX1_field_0 11 rfl rfl)
theorem dX1_field_14 : decode cX1_field 14 = .ok (.ifCond .eq 12, 3) := dk_153 0 12 (dk_at dksX1_field_0 14 rfl rfl)
theorem dX1_field_17 : decode cX1_field 17 = .ok (.aload_n 0, 1) := dk_42 (dk_at dksX1_field_0 17 rfl rfl)
theorem dX1_field_18 : decode cX1_field 18 = .ok (.iload_n 1, 1) := dk_27 (dk_at dksX1_field_0 18 rfl rfl)
theorem dX1_field_19 : decode cX1_field 19 = .ok (.iload_n 2, 1) := dk_28 (dk_at dksX1_field_0 19 rfl rfl)
theorem dX1_field_20 : decode cX1_field 20 = .ok (.invokevirtual 336, 3) := dk_182 1 80 (dk_at dksX1_field_0 20 rfl rfl)
theorem dX1_field_23 : decode cX1_field 23 = .ok (.goto 4, 3) := dk_167 0 4 (dk_at dksX1_field_1 0 rfl rfl)
theorem dX1_field_26 : decode cX1_field 26 = .ok (.iconst (-1), 1) := dk_2 (dk_at dksX1_field_1 3 rfl rfl)
theorem dX1_field_27 : decode cX1_field 27 = .ok (.ireturn, 1) := dk_172 (dk_at dksX1_field_1 4 rfl rfl)
abbrev cX1_isField : ByteArray := prog_1_method_42_code
def yX1_isField : MethodName := ⟨RX1, "isField", "(I)Z"⟩
def dkwX1_isField_0 : List UInt8 := [27, 3, 42, 180, 1, 52, 4, 100, 184, 0, 233, 172]
abbrev dktX1_isField_0 : List UInt8 := dkwX1_isField_0 ++ []
theorem dksX1_isField_0 : cX1_isField.data.toList.drop 0 = dktX1_isField_0 := by decide +kernel
theorem dX1_isField_0 : decode cX1_isField 0 = .ok (.iload_n 1, 1) := dk_27 (dk_at dksX1_isField_0 0 rfl rfl)
theorem dX1_isField_1 : decode cX1_isField 1 = .ok (.iconst 0, 1) := dk_3 (dk_at dksX1_isField_0 1 rfl rfl)
theorem dX1_isField_2 : decode cX1_isField 2 = .ok (.aload_n 0, 1) := dk_42 (dk_at dksX1_isField_0 2 rfl rfl)
theorem dX1_isField_3 : decode cX1_isField 3 = .ok (.getfield 308, 3) := dk_180 1 52 (dk_at dksX1_isField_0 3 rfl rfl)
theorem dX1_isField_6 : decode cX1_isField 6 = .ok (.iconst 1, 1) := dk_4 (dk_at dksX1_isField_0 6 rfl rfl)
theorem dX1_isField_7 : decode cX1_isField 7 = .ok (.isub, 1) := dk_100 (dk_at dksX1_isField_0 7 rfl rfl)
theorem dX1_isField_8 : decode cX1_isField 8 = .ok (.invokestatic 233, 3) := dk_184 0 233 (dk_at dksX1_isField_0 8 rfl rfl)
theorem dX1_isField_11 : decode cX1_isField 11 = .ok (.ireturn, 1) := dk_172 (dk_at dksX1_isField_0 11 rfl rfl)
abbrev cX1_of : ByteArray := prog_1_method_44_code
def yX1_of : MethodName := ⟨RX1, "of", "(II)I"⟩
def dkwX1_of_0 : List UInt8 := [42, 180, 0, 36, 7, 27, 104, 28, 96, 46, 172]
abbrev dktX1_of_0 : List UInt8 := dkwX1_of_0 ++ []
theorem dksX1_of_0 : cX1_of.data.toList.drop 0 = dktX1_of_0 := by decide +kernel
theorem dX1_of_0 : decode cX1_of 0 = .ok (.aload_n 0, 1) := dk_42 (dk_at dksX1_of_0 0 rfl rfl)
theorem dX1_of_1 : decode cX1_of 1 = .ok (.getfield 36, 3) := dk_180 0 36 (dk_at dksX1_of_0 1 rfl rfl)
theorem dX1_of_4 : decode cX1_of 4 = .ok (.iconst 4, 1) := dk_7 (dk_at dksX1_of_0 4 rfl rfl)
theorem dX1_of_5 : decode cX1_of 5 = .ok (.iload_n 1, 1) := dk_27 (dk_at dksX1_of_0 5 rfl rfl)
theorem dX1_of_6 : decode cX1_of 6 = .ok (.imul, 1) := dk_104 (dk_at dksX1_of_0 6 rfl rfl)
theorem dX1_of_7 : decode cX1_of 7 = .ok (.iload_n 2, 1) := dk_28 (dk_at dksX1_of_0 7 rfl rfl)
theorem dX1_of_8 : decode cX1_of 8 = .ok (.iadd, 1) := dk_96 (dk_at dksX1_of_0 8 rfl rfl)
theorem dX1_of_9 : decode cX1_of 9 = .ok (.iaload, 1) := dk_46 (dk_at dksX1_of_0 9 rfl rfl)
theorem dX1_of_10 : decode cX1_of 10 = .ok (.ireturn, 1) := dk_172 (dk_at dksX1_of_0 10 rfl rfl)
abbrev cX1_law : ByteArray := prog_1_method_49_code
def yX1_law : MethodName := ⟨RX1, "law", "(I)Z"⟩
def dkwX1_law_0 : List UInt8 := [27, 2, 42, 180, 1, 35, 4, 100, 184, 0, 233, 154, 0, 5, 3, 172, 42, 27, 181, 0, 51, 4, 172]
abbrev dktX1_law_0 : List UInt8 := dkwX1_law_0 ++ []
theorem dksX1_law_0 : cX1_law.data.toList.drop 0 = dktX1_law_0 := by decide +kernel
theorem dX1_law_0 : decode cX1_law 0 = .ok (.iload_n 1, 1) := dk_27 (dk_at dksX1_law_0 0 rfl rfl)
theorem dX1_law_1 : decode cX1_law 1 = .ok (.iconst (-1), 1) := dk_2 (dk_at dksX1_law_0 1 rfl rfl)
theorem dX1_law_2 : decode cX1_law 2 = .ok (.aload_n 0, 1) := dk_42 (dk_at dksX1_law_0 2 rfl rfl)
theorem dX1_law_3 : decode cX1_law 3 = .ok (.getfield 291, 3) := dk_180 1 35 (dk_at dksX1_law_0 3 rfl rfl)
theorem dX1_law_6 : decode cX1_law 6 = .ok (.iconst 1, 1) := dk_4 (dk_at dksX1_law_0 6 rfl rfl)
theorem dX1_law_7 : decode cX1_law 7 = .ok (.isub, 1) := dk_100 (dk_at dksX1_law_0 7 rfl rfl)
theorem dX1_law_8 : decode cX1_law 8 = .ok (.invokestatic 233, 3) := dk_184 0 233 (dk_at dksX1_law_0 8 rfl rfl)
theorem dX1_law_11 : decode cX1_law 11 = .ok (.ifCond .ne 5, 3) := dk_154 0 5 (dk_at dksX1_law_0 11 rfl rfl)
theorem dX1_law_14 : decode cX1_law 14 = .ok (.iconst 0, 1) := dk_3 (dk_at dksX1_law_0 14 rfl rfl)
theorem dX1_law_15 : decode cX1_law 15 = .ok (.ireturn, 1) := dk_172 (dk_at dksX1_law_0 15 rfl rfl)
theorem dX1_law_16 : decode cX1_law 16 = .ok (.aload_n 0, 1) := dk_42 (dk_at dksX1_law_0 16 rfl rfl)
theorem dX1_law_17 : decode cX1_law 17 = .ok (.iload_n 1, 1) := dk_27 (dk_at dksX1_law_0 17 rfl rfl)
theorem dX1_law_18 : decode cX1_law 18 = .ok (.putfield 51, 3) := dk_181 0 51 (dk_at dksX1_law_0 18 rfl rfl)
theorem dX1_law_21 : decode cX1_law 21 = .ok (.iconst 1, 1) := dk_4 (dk_at dksX1_law_0 21 rfl rfl)
theorem dX1_law_22 : decode cX1_law 22 = .ok (.ireturn, 1) := dk_172 (dk_at dksX1_law_0 22 rfl rfl)
abbrev cX1_intrigue : ByteArray := prog_1_method_50_code
def yX1_intrigue : MethodName := ⟨RX1, "intrigue", "(I)Z"⟩
def dkwX1_intrigue_1 : List UInt8 := [181, 0, 55, 4, 172]
abbrev dktX1_intrigue_1 : List UInt8 := dkwX1_intrigue_1 ++ []
def dkwX1_intrigue_0 : List UInt8 := [27, 3, 16, 9, 184, 0, 233, 153, 0, 11, 27, 42, 180, 0, 55, 160, 0, 5, 3, 172, 42, 27]
abbrev dktX1_intrigue_0 : List UInt8 := dkwX1_intrigue_0 ++ dktX1_intrigue_1
theorem dksX1_intrigue_0 : cX1_intrigue.data.toList.drop 0 = dktX1_intrigue_0 := by decide +kernel
theorem dksX1_intrigue_1 : cX1_intrigue.data.toList.drop 22 = dktX1_intrigue_1 := dk_seg dksX1_intrigue_0 22 rfl rfl
theorem dX1_intrigue_0 : decode cX1_intrigue 0 = .ok (.iload_n 1, 1) := dk_27 (dk_at dksX1_intrigue_0 0 rfl rfl)
theorem dX1_intrigue_1 : decode cX1_intrigue 1 = .ok (.iconst 0, 1) := dk_3 (dk_at dksX1_intrigue_0 1 rfl rfl)
theorem dX1_intrigue_2 : decode cX1_intrigue 2 = .ok (.bipush 9, 2) := dk_16 9 (dk_at dksX1_intrigue_0 2 rfl rfl)
theorem dX1_intrigue_4 : decode cX1_intrigue 4 = .ok (.invokestatic 233, 3) := dk_184 0 233 (dk_at dksX1_intrigue_0 4 rfl rfl)
theorem dX1_intrigue_7 : decode cX1_intrigue 7 = .ok (.ifCond .eq 11, 3) := dk_153 0 11 (dk_at dksX1_intrigue_0 7 rfl rfl)
theorem dX1_intrigue_10 : decode cX1_intrigue 10 = .ok (.iload_n 1, 1) := dk_27 (dk_at dksX1_intrigue_0 10 rfl rfl)
theorem dX1_intrigue_11 : decode cX1_intrigue 11 = .ok (.aload_n 0, 1) := dk_42 (dk_at dksX1_intrigue_0 11 rfl rfl)
theorem dX1_intrigue_12 : decode cX1_intrigue 12 = .ok (.getfield 55, 3) := dk_180 0 55 (dk_at dksX1_intrigue_0 12 rfl rfl)
theorem dX1_intrigue_15 : decode cX1_intrigue 15 = .ok (.if_icmp .ne 5, 3) := dk_160 0 5 (dk_at dksX1_intrigue_0 15 rfl rfl)
theorem dX1_intrigue_18 : decode cX1_intrigue 18 = .ok (.iconst 0, 1) := dk_3 (dk_at dksX1_intrigue_0 18 rfl rfl)
theorem dX1_intrigue_19 : decode cX1_intrigue 19 = .ok (.ireturn, 1) := dk_172 (dk_at dksX1_intrigue_0 19 rfl rfl)
theorem dX1_intrigue_20 : decode cX1_intrigue 20 = .ok (.aload_n 0, 1) := dk_42 (dk_at dksX1_intrigue_0 20 rfl rfl)
theorem dX1_intrigue_21 : decode cX1_intrigue 21 = .ok (.iload_n 1, 1) := dk_27 (dk_at dksX1_intrigue_0 21 rfl rfl)
theorem dX1_intrigue_22 : decode cX1_intrigue 22 = .ok (.putfield 55, 3) := dk_181 0 55 (dk_at dksX1_intrigue_1 0 rfl rfl)
theorem dX1_intrigue_25 : decode cX1_intrigue 25 = .ok (.iconst 1, 1) := dk_4 (dk_at dksX1_intrigue_1 3 rfl rfl)
theorem dX1_intrigue_26 : decode cX1_intrigue 26 = .ok (.ireturn, 1) := dk_172 (dk_at dksX1_intrigue_1 4 rfl rfl)
abbrev cX1_year : ByteArray := prog_1_method_60_code
def yX1_year : MethodName := ⟨RX1, "year", "()I"⟩
def dkwX1_year_0 : List UInt8 := [42, 4, 182, 1, 120, 154, 0, 6, 16, 254, 172, 42, 182, 1, 123, 42, 182, 1, 126, 172]
abbrev dktX1_year_0 : List UInt8 := dkwX1_year_0 ++ []
theorem dksX1_year_0 : cX1_year.data.toList.drop 0 = dktX1_year_0 := by decide +kernel
theorem dX1_year_0 : decode cX1_year 0 = .ok (.aload_n 0, 1) := dk_42 (dk_at dksX1_year_0 0 rfl rfl)
theorem dX1_year_1 : decode cX1_year 1 = .ok (.iconst 1, 1) := dk_4 (dk_at dksX1_year_0 1 rfl rfl)
theorem dX1_year_2 : decode cX1_year 2 = .ok (.invokevirtual 376, 3) := dk_182 1 120 (dk_at dksX1_year_0 2 rfl rfl)
theorem dX1_year_5 : decode cX1_year 5 = .ok (.ifCond .ne 6, 3) := dk_154 0 6 (dk_at dksX1_year_0 5 rfl rfl)
theorem dX1_year_8 : decode cX1_year 8 = .ok (.bipush (-2), 2) := dk_16 254 (dk_at dksX1_year_0 8 rfl rfl)
theorem dX1_year_10 : decode cX1_year 10 = .ok (.ireturn, 1) := dk_172 (dk_at dksX1_year_0 10 rfl rfl)
theorem dX1_year_11 : decode cX1_year 11 = .ok (.aload_n 0, 1) := dk_42 (dk_at dksX1_year_0 11 rfl rfl)
theorem dX1_year_12 : decode cX1_year 12 = .ok (.invokevirtual 379, 3) := dk_182 1 123 (dk_at dksX1_year_0 12 rfl rfl)
theorem dX1_year_15 : decode cX1_year 15 = .ok (.aload_n 0, 1) := dk_42 (dk_at dksX1_year_0 15 rfl rfl)
theorem dX1_year_16 : decode cX1_year 16 = .ok (.invokevirtual 382, 3) := dk_182 1 126 (dk_at dksX1_year_0 16 rfl rfl)
theorem dX1_year_19 : decode cX1_year 19 = .ok (.ireturn, 1) := dk_172 (dk_at dksX1_year_0 19 rfl rfl)
abbrev cX1_canPass : ByteArray := prog_1_method_59_code
def yX1_canPass : MethodName := ⟨RX1, "canPass", "(I)Z"⟩
def dkwX1_canPass_1 : List UInt8 := [167, 0, 4, 3, 172]
abbrev dktX1_canPass_1 : List UInt8 := dkwX1_canPass_1 ++ []
def dkwX1_canPass_0 : List UInt8 := [42, 182, 1, 117, 153, 0, 22, 42, 180, 0, 58, 16, 18, 46, 27, 96, 17, 3, 231, 163, 0, 7, 4]
abbrev dktX1_canPass_0 : List UInt8 := dkwX1_canPass_0 ++ dktX1_canPass_1
theorem dksX1_canPass_0 : cX1_canPass.data.toList.drop 0 = dktX1_canPass_0 := by decide +kernel
theorem dksX1_canPass_1 : cX1_canPass.data.toList.drop 23 = dktX1_canPass_1 := dk_seg dksX1_canPass_0 23 rfl rfl
theorem dX1_canPass_0 : decode cX1_canPass 0 = .ok (.aload_n 0, 1) := dk_42 (dk_at dksX1_canPass_0 0 rfl rfl)
theorem dX1_canPass_1 : decode cX1_canPass 1 = .ok (.invokevirtual 373, 3) := dk_182 1 117 (dk_at dksX1_canPass_0 1 rfl rfl)
theorem dX1_canPass_4 : decode cX1_canPass 4 = .ok (.ifCond .eq 22, 3) := dk_153 0 22 (dk_at dksX1_canPass_0 4 rfl rfl)
theorem dX1_canPass_7 : decode cX1_canPass 7 = .ok (.aload_n 0, 1) := dk_42 (dk_at dksX1_canPass_0 7 rfl rfl)
theorem dX1_canPass_8 : decode cX1_canPass 8 = .ok (.getfield 58, 3) := dk_180 0 58 (dk_at dksX1_canPass_0 8 rfl rfl)
theorem dX1_canPass_11 : decode cX1_canPass 11 = .ok (.bipush 18, 2) := dk_16 18 (dk_at dksX1_canPass_0 11 rfl rfl)
theorem dX1_canPass_13 : decode cX1_canPass 13 = .ok (.iaload, 1) := dk_46 (dk_at dksX1_canPass_0 13 rfl rfl)
theorem dX1_canPass_14 : decode cX1_canPass 14 = .ok (.iload_n 1, 1) := dk_27 (dk_at dksX1_canPass_0 14 rfl rfl)
theorem dX1_canPass_15 : decode cX1_canPass 15 = .ok (.iadd, 1) := dk_96 (dk_at dksX1_canPass_0 15 rfl rfl)
theorem dX1_canPass_16 : decode cX1_canPass 16 = .ok (.sipush 999, 3) := dk_17 3 231 (dk_at dksX1_canPass_0 16 rfl rfl)
theorem dX1_canPass_19 : decode cX1_canPass 19 = .ok (.if_icmp .gt 7, 3) := dk_163 0 7 (dk_at dksX1_canPass_0 19 rfl rfl)
theorem dX1_canPass_22 : decode cX1_canPass 22 = .ok (.iconst 1, 1) := dk_4 (dk_at dksX1_canPass_0 22 rfl rfl)
theorem dX1_canPass_23 : decode cX1_canPass 23 = .ok (.goto 4, 3) := dk_167 0 4 (dk_at dksX1_canPass_1 0 rfl rfl)
theorem dX1_canPass_26 : decode cX1_canPass 26 = .ok (.iconst 0, 1) := dk_3 (dk_at dksX1_canPass_1 3 rfl rfl)
theorem dX1_canPass_27 : decode cX1_canPass 27 = .ok (.ireturn, 1) := dk_172 (dk_at dksX1_canPass_1 4 rfl rfl)
abbrev cX1_isRealm : ByteArray := prog_1_method_40_code
def yX1_isRealm : MethodName := ⟨RX1, "isRealm", "()Z"⟩
def dkwX1_isRealm_0 : List UInt8 := [42, 180, 1, 49, 158, 0, 7, 4, 167, 0, 4, 3, 172]
abbrev dktX1_isRealm_0 : List UInt8 := dkwX1_isRealm_0 ++ []
theorem dksX1_isRealm_0 : cX1_isRealm.data.toList.drop 0 = dktX1_isRealm_0 := by decide +kernel
theorem dX1_isRealm_0 : decode cX1_isRealm 0 = .ok (.aload_n 0, 1) := dk_42 (dk_at dksX1_isRealm_0 0 rfl rfl)
theorem dX1_isRealm_1 : decode cX1_isRealm 1 = .ok (.getfield 305, 3) := dk_180 1 49 (dk_at dksX1_isRealm_0 1 rfl rfl)
theorem dX1_isRealm_4 : decode cX1_isRealm 4 = .ok (.ifCond .le 7, 3) := dk_158 0 7 (dk_at dksX1_isRealm_0 4 rfl rfl)
theorem dX1_isRealm_7 : decode cX1_isRealm 7 = .ok (.iconst 1, 1) := dk_4 (dk_at dksX1_isRealm_0 7 rfl rfl)
theorem dX1_isRealm_8 : decode cX1_isRealm 8 = .ok (.goto 4, 3) := dk_167 0 4 (dk_at dksX1_isRealm_0 8 rfl rfl)
theorem dX1_isRealm_11 : decode cX1_isRealm 11 = .ok (.iconst 0, 1) := dk_3 (dk_at dksX1_isRealm_0 11 rfl rfl)
theorem dX1_isRealm_12 : decode cX1_isRealm 12 = .ok (.ireturn, 1) := dk_172 (dk_at dksX1_isRealm_0 12 rfl rfl)
abbrev cX1_act : ByteArray := prog_1_method_58_code
def yX1_act : MethodName := ⟨RX1, "act", "()V"⟩
def dkwX1_act_4 : List UInt8 := [181, 1, 58, 177]
abbrev dktX1_act_4 : List UInt8 := dkwX1_act_4 ++ []
def dkwX1_act_3 : List UInt8 := [104, 27, 96, 42, 180, 0, 58, 27, 46, 79, 132, 1, 1, 167, 255, 225, 42, 89, 180, 1, 58, 4, 96]
abbrev dktX1_act_3 : List UInt8 := dkwX1_act_3 ++ dktX1_act_4
def dkwX1_act_2 : List UInt8 := [100, 181, 1, 58, 3, 60, 27, 17, 1, 35, 162, 0, 30, 42, 180, 0, 61, 17, 1, 35, 42, 180, 1, 58]
abbrev dktX1_act_2 : List UInt8 := dkwX1_act_2 ++ dktX1_act_3
def dkwX1_act_1 : List UInt8 := [27, 17, 1, 35, 100, 42, 180, 0, 61, 27, 46, 79, 132, 1, 1, 167, 255, 230, 42, 89, 180, 1, 58, 4]
abbrev dktX1_act_1 : List UInt8 := dkwX1_act_1 ++ dktX1_act_2
def dkwX1_act_0 : List UInt8 := [42, 180, 1, 58, 16, 40, 160, 0, 46, 17, 1, 35, 60, 27, 17, 45, 120, 162, 0, 25, 42, 180, 0, 61]
abbrev dktX1_act_0 : List UInt8 := dkwX1_act_0 ++ dktX1_act_1
theorem dksX1_act_0 : cX1_act.data.toList.drop 0 = dktX1_act_0 := by decide +kernel
theorem dksX1_act_1 : cX1_act.data.toList.drop 24 = dktX1_act_1 := dk_seg dksX1_act_0 24 rfl rfl
theorem dksX1_act_2 : cX1_act.data.toList.drop 48 = dktX1_act_2 := dk_seg dksX1_act_1 24 rfl rfl
theorem dksX1_act_3 : cX1_act.data.toList.drop 72 = dktX1_act_3 := dk_seg dksX1_act_2 24 rfl rfl
theorem dksX1_act_4 : cX1_act.data.toList.drop 95 = dktX1_act_4 := dk_seg dksX1_act_3 23 rfl rfl
theorem dX1_act_0 : decode cX1_act 0 = .ok (.aload_n 0, 1) := dk_42 (dk_at dksX1_act_0 0 rfl rfl)
theorem dX1_act_1 : decode cX1_act 1 = .ok (.getfield 314, 3) := dk_180 1 58 (dk_at dksX1_act_0 1 rfl rfl)
theorem dX1_act_4 : decode cX1_act 4 = .ok (.bipush 40, 2) := dk_16 40 (dk_at dksX1_act_0 4 rfl rfl)
theorem dX1_act_6 : decode cX1_act 6 = .ok (.if_icmp .ne 46, 3) := dk_160 0 46 (dk_at dksX1_act_0 6 rfl rfl)
theorem dX1_act_9 : decode cX1_act 9 = .ok (.sipush 291, 3) := dk_17 1 35 (dk_at dksX1_act_0 9 rfl rfl)
theorem dX1_act_12 : decode cX1_act 12 = .ok (.istore_n 1, 1) := dk_60 (dk_at dksX1_act_0 12 rfl rfl)
theorem dX1_act_13 : decode cX1_act 13 = .ok (.iload_n 1, 1) := dk_27 (dk_at dksX1_act_0 13 rfl rfl)
theorem dX1_act_14 : decode cX1_act 14 = .ok (.sipush 11640, 3) := dk_17 45 120 (dk_at dksX1_act_0 14 rfl rfl)
theorem dX1_act_17 : decode cX1_act 17 = .ok (.if_icmp .ge 25, 3) := dk_162 0 25 (dk_at dksX1_act_0 17 rfl rfl)
theorem dX1_act_20 : decode cX1_act 20 = .ok (.aload_n 0, 1) := dk_42 (dk_at dksX1_act_0 20 rfl rfl)
theorem dX1_act_21 : decode cX1_act 21 = .ok (.getfield 61, 3) := dk_180 0 61 (dk_at dksX1_act_0 21 rfl rfl)
theorem dX1_act_24 : decode cX1_act 24 = .ok (.iload_n 1, 1) := dk_27 (dk_at dksX1_act_1 0 rfl rfl)
theorem dX1_act_25 : decode cX1_act 25 = .ok (.sipush 291, 3) := dk_17 1 35 (dk_at dksX1_act_1 1 rfl rfl)
theorem dX1_act_28 : decode cX1_act 28 = .ok (.isub, 1) := dk_100 (dk_at dksX1_act_1 4 rfl rfl)
theorem dX1_act_29 : decode cX1_act 29 = .ok (.aload_n 0, 1) := dk_42 (dk_at dksX1_act_1 5 rfl rfl)
theorem dX1_act_30 : decode cX1_act 30 = .ok (.getfield 61, 3) := dk_180 0 61 (dk_at dksX1_act_1 6 rfl rfl)
theorem dX1_act_33 : decode cX1_act 33 = .ok (.iload_n 1, 1) := dk_27 (dk_at dksX1_act_1 9 rfl rfl)
theorem dX1_act_34 : decode cX1_act 34 = .ok (.iaload, 1) := dk_46 (dk_at dksX1_act_1 10 rfl rfl)
theorem dX1_act_35 : decode cX1_act 35 = .ok (.iastore, 1) := dk_79 (dk_at dksX1_act_1 11 rfl rfl)
theorem dX1_act_36 : decode cX1_act 36 = .ok (.iinc 1 1, 3) := dk_132 1 1 (dk_at dksX1_act_1 12 rfl rfl)
theorem dX1_act_39 : decode cX1_act 39 = .ok (.goto (-26), 3) := dk_167 255 230 (dk_at dksX1_act_1 15 rfl rfl)
theorem dX1_act_42 : decode cX1_act 42 = .ok (.aload_n 0, 1) := dk_42 (dk_at dksX1_act_1 18 rfl rfl)
theorem dX1_act_43 : decode cX1_act 43 = .ok (.dup, 1) := dk_89 (dk_at dksX1_act_1 19 rfl rfl)
theorem dX1_act_44 : decode cX1_act 44 = .ok (.getfield 314, 3) := dk_180 1 58 (dk_at dksX1_act_1 20 rfl rfl)
theorem dX1_act_47 : decode cX1_act 47 = .ok (.iconst 1, 1) := dk_4 (dk_at dksX1_act_1 23 rfl rfl)
theorem dX1_act_48 : decode cX1_act 48 = .ok (.isub, 1) := dk_100 (dk_at dksX1_act_2 0 rfl rfl)
theorem dX1_act_49 : decode cX1_act 49 = .ok (.putfield 314, 3) := dk_181 1 58 (dk_at dksX1_act_2 1 rfl rfl)
theorem dX1_act_52 : decode cX1_act 52 = .ok (.iconst 0, 1) := dk_3 (dk_at dksX1_act_2 4 rfl rfl)
theorem dX1_act_53 : decode cX1_act 53 = .ok (.istore_n 1, 1) := dk_60 (dk_at dksX1_act_2 5 rfl rfl)
theorem dX1_act_54 : decode cX1_act 54 = .ok (.iload_n 1, 1) := dk_27 (dk_at dksX1_act_2 6 rfl rfl)
theorem dX1_act_55 : decode cX1_act 55 = .ok (.sipush 291, 3) := dk_17 1 35 (dk_at dksX1_act_2 7 rfl rfl)
theorem dX1_act_58 : decode cX1_act 58 = .ok (.if_icmp .ge 30, 3) := dk_162 0 30 (dk_at dksX1_act_2 10 rfl rfl)
theorem dX1_act_61 : decode cX1_act 61 = .ok (.aload_n 0, 1) := dk_42 (dk_at dksX1_act_2 13 rfl rfl)
theorem dX1_act_62 : decode cX1_act 62 = .ok (.getfield 61, 3) := dk_180 0 61 (dk_at dksX1_act_2 14 rfl rfl)
theorem dX1_act_65 : decode cX1_act 65 = .ok (.sipush 291, 3) := dk_17 1 35 (dk_at dksX1_act_2 17 rfl rfl)
theorem dX1_act_68 : decode cX1_act 68 = .ok (.aload_n 0, 1) := dk_42 (dk_at dksX1_act_2 20 rfl rfl)
theorem dX1_act_69 : decode cX1_act 69 = .ok (.getfield 314, 3) := dk_180 1 58 (dk_at dksX1_act_2 21 rfl rfl)
theorem dX1_act_72 : decode cX1_act 72 = .ok (.imul, 1) := dk_104 (dk_at dksX1_act_3 0 rfl rfl)
theorem dX1_act_73 : decode cX1_act 73 = .ok (.iload_n 1, 1) := dk_27 (dk_at dksX1_act_3 1 rfl rfl)
theorem dX1_act_74 : decode cX1_act 74 = .ok (.iadd, 1) := dk_96 (dk_at dksX1_act_3 2 rfl rfl)
theorem dX1_act_75 : decode cX1_act 75 = .ok (.aload_n 0, 1) := dk_42 (dk_at dksX1_act_3 3 rfl rfl)
theorem dX1_act_76 : decode cX1_act 76 = .ok (.getfield 58, 3) := dk_180 0 58 (dk_at dksX1_act_3 4 rfl rfl)
theorem dX1_act_79 : decode cX1_act 79 = .ok (.iload_n 1, 1) := dk_27 (dk_at dksX1_act_3 7 rfl rfl)
theorem dX1_act_80 : decode cX1_act 80 = .ok (.iaload, 1) := dk_46 (dk_at dksX1_act_3 8 rfl rfl)
theorem dX1_act_81 : decode cX1_act 81 = .ok (.iastore, 1) := dk_79 (dk_at dksX1_act_3 9 rfl rfl)
theorem dX1_act_82 : decode cX1_act 82 = .ok (.iinc 1 1, 3) := dk_132 1 1 (dk_at dksX1_act_3 10 rfl rfl)
theorem dX1_act_85 : decode cX1_act 85 = .ok (.goto (-31), 3) := dk_167 255 225 (dk_at dksX1_act_3 13 rfl rfl)
theorem dX1_act_88 : decode cX1_act 88 = .ok (.aload_n 0, 1) := dk_42 (dk_at dksX1_act_3 16 rfl rfl)
theorem dX1_act_89 : decode cX1_act 89 = .ok (.dup, 1) := dk_89 (dk_at dksX1_act_3 17 rfl rfl)
theorem dX1_act_90 : decode cX1_act 90 = .ok (.getfield 314, 3) := dk_180 1 58 (dk_at dksX1_act_3 18 rfl rfl)
theorem dX1_act_93 : decode cX1_act 93 = .ok (.iconst 1, 1) := dk_4 (dk_at dksX1_act_3 21 rfl rfl)
theorem dX1_act_94 : decode cX1_act 94 = .ok (.iadd, 1) := dk_96 (dk_at dksX1_act_3 22 rfl rfl)
theorem dX1_act_95 : decode cX1_act 95 = .ok (.putfield 314, 3) := dk_181 1 58 (dk_at dksX1_act_4 0 rfl rfl)
theorem dX1_act_98 : decode cX1_act 98 = .ok (.return_, 1) := dk_177 (dk_at dksX1_act_4 3 rfl rfl)
abbrev cX1_passYear : ByteArray := prog_1_method_57_code
def yX1_passYear : MethodName := ⟨RX1, "passYear", "()I"⟩
def dkwX1_passYear_6 : List UInt8 := [16, 110, 92, 46, 4, 96, 79, 28, 172]
abbrev dktX1_passYear_6 : List UInt8 := dkwX1_passYear_6 ++ []
def dkwX1_passYear_5 : List UInt8 := [167, 0, 18, 42, 27, 6, 182, 1, 80, 42, 180, 0, 58, 7, 28, 96, 46, 96, 79, 42, 180, 0, 58]
abbrev dktX1_passYear_5 : List UInt8 := dkwX1_passYear_5 ++ dktX1_passYear_6
def dkwX1_passYear_4 : List UInt8 := [42, 180, 0, 58, 29, 4, 96, 28, 79, 42, 180, 0, 58, 29, 5, 96, 28, 2, 160, 0, 7, 2]
abbrev dktX1_passYear_4 : List UInt8 := dkwX1_passYear_4 ++ dktX1_passYear_5
def dkwX1_passYear_3 : List UInt8 := [46, 4, 100, 79, 16, 111, 6, 42, 180, 0, 58, 16, 110, 46, 104, 96, 62, 42, 180, 0, 58, 29, 27, 79]
abbrev dktX1_passYear_3 : List UInt8 := dkwX1_passYear_3 ++ dktX1_passYear_4
def dkwX1_passYear_2 : List UInt8 := [100, 42, 180, 0, 58, 16, 111, 29, 96, 46, 79, 132, 3, 1, 167, 255, 226, 42, 180, 0, 58, 16, 110, 92]
abbrev dktX1_passYear_2 : List UInt8 := dkwX1_passYear_2 ++ dktX1_passYear_3
def dkwX1_passYear_1 : List UInt8 := [46, 16, 60, 160, 0, 49, 6, 62, 29, 17, 0, 180, 162, 0, 29, 42, 180, 0, 58, 16, 111, 29, 96, 6]
abbrev dktX1_passYear_1 : List UInt8 := dkwX1_passYear_1 ++ dktX1_passYear_2
def dkwX1_passYear_0 : List UInt8 := [42, 180, 0, 58, 16, 18, 46, 42, 180, 1, 52, 112, 60, 42, 182, 1, 114, 61, 42, 180, 0, 58, 16, 110]
abbrev dktX1_passYear_0 : List UInt8 := dkwX1_passYear_0 ++ dktX1_passYear_1
theorem dksX1_passYear_0 : cX1_passYear.data.toList.drop 0 = dktX1_passYear_0 := by decide +kernel
theorem dksX1_passYear_1 : cX1_passYear.data.toList.drop 24 = dktX1_passYear_1 := dk_seg dksX1_passYear_0 24 rfl rfl
theorem dksX1_passYear_2 : cX1_passYear.data.toList.drop 48 = dktX1_passYear_2 := dk_seg dksX1_passYear_1 24 rfl rfl
theorem dksX1_passYear_3 : cX1_passYear.data.toList.drop 72 = dktX1_passYear_3 := dk_seg dksX1_passYear_2 24 rfl rfl
theorem dksX1_passYear_4 : cX1_passYear.data.toList.drop 96 = dktX1_passYear_4 := dk_seg dksX1_passYear_3 24 rfl rfl
theorem dksX1_passYear_5 : cX1_passYear.data.toList.drop 118 = dktX1_passYear_5 := dk_seg dksX1_passYear_4 22 rfl rfl
theorem dksX1_passYear_6 : cX1_passYear.data.toList.drop 141 = dktX1_passYear_6 := dk_seg dksX1_passYear_5 23 rfl rfl
theorem dX1_passYear_0 : decode cX1_passYear 0 = .ok (.aload_n 0, 1) := dk_42 (dk_at dksX1_passYear_0 0 rfl rfl)
theorem dX1_passYear_1 : decode cX1_passYear 1 = .ok (.getfield 58, 3) := dk_180 0 58 (dk_at dksX1_passYear_0 1 rfl rfl)
theorem dX1_passYear_4 : decode cX1_passYear 4 = .ok (.bipush 18, 2) := dk_16 18 (dk_at dksX1_passYear_0 4 rfl rfl)
theorem dX1_passYear_6 : decode cX1_passYear 6 = .ok (.iaload, 1) := dk_46 (dk_at dksX1_passYear_0 6 rfl rfl)
theorem dX1_passYear_7 : decode cX1_passYear 7 = .ok (.aload_n 0, 1) := dk_42 (dk_at dksX1_passYear_0 7 rfl rfl)
theorem dX1_passYear_8 : decode cX1_passYear 8 = .ok (.getfield 308, 3) := dk_180 1 52 (dk_at dksX1_passYear_0 8 rfl rfl)
theorem dX1_passYear_11 : decode cX1_passYear 11 = .ok (.irem, 1) := dk_112 (dk_at dksX1_passYear_0 11 rfl rfl)
theorem dX1_passYear_12 : decode cX1_passYear 12 = .ok (.istore_n 1, 1) := dk_60 (dk_at dksX1_passYear_0 12 rfl rfl)
theorem dX1_passYear_13 : decode cX1_passYear 13 = .ok (.aload_n 0, 1) := dk_42 (dk_at dksX1_passYear_0 13 rfl rfl)
theorem dX1_passYear_14 : decode cX1_passYear 14 = .ok (.invokevirtual 370, 3) := dk_182 1 114 (dk_at dksX1_passYear_0 14 rfl rfl)
theorem dX1_passYear_17 : decode cX1_passYear 17 = .ok (.istore_n 2, 1) := dk_61 (dk_at dksX1_passYear_0 17 rfl rfl)
theorem dX1_passYear_18 : decode cX1_passYear 18 = .ok (.aload_n 0, 1) := dk_42 (dk_at dksX1_passYear_0 18 rfl rfl)
theorem dX1_passYear_19 : decode cX1_passYear 19 = .ok (.getfield 58, 3) := dk_180 0 58 (dk_at dksX1_passYear_0 19 rfl rfl)
theorem dX1_passYear_22 : decode cX1_passYear 22 = .ok (.bipush 110, 2) := dk_16 110 (dk_at dksX1_passYear_0 22 rfl rfl)
theorem dX1_passYear_24 : decode cX1_passYear 24 = .ok (.iaload, 1) := dk_46 (dk_at dksX1_passYear_1 0 rfl rfl)
theorem dX1_passYear_25 : decode cX1_passYear 25 = .ok (.bipush 60, 2) := dk_16 60 (dk_at dksX1_passYear_1 1 rfl rfl)
theorem dX1_passYear_27 : decode cX1_passYear 27 = .ok (.if_icmp .ne 49, 3) := dk_160 0 49 (dk_at dksX1_passYear_1 3 rfl rfl)
theorem dX1_passYear_30 : decode cX1_passYear 30 = .ok (.iconst 3, 1) := dk_6 (dk_at dksX1_passYear_1 6 rfl rfl)
theorem dX1_passYear_31 : decode cX1_passYear 31 = .ok (.istore_n 3, 1) := dk_62 (dk_at dksX1_passYear_1 7 rfl rfl)
theorem dX1_passYear_32 : decode cX1_passYear 32 = .ok (.iload_n 3, 1) := dk_29 (dk_at dksX1_passYear_1 8 rfl rfl)
theorem dX1_passYear_33 : decode cX1_passYear 33 = .ok (.sipush 180, 3) := dk_17 0 180 (dk_at dksX1_passYear_1 9 rfl rfl)
theorem dX1_passYear_36 : decode cX1_passYear 36 = .ok (.if_icmp .ge 29, 3) := dk_162 0 29 (dk_at dksX1_passYear_1 12 rfl rfl)
theorem dX1_passYear_39 : decode cX1_passYear 39 = .ok (.aload_n 0, 1) := dk_42 (dk_at dksX1_passYear_1 15 rfl rfl)
theorem dX1_passYear_40 : decode cX1_passYear 40 = .ok (.getfield 58, 3) := dk_180 0 58 (dk_at dksX1_passYear_1 16 rfl rfl)
theorem dX1_passYear_43 : decode cX1_passYear 43 = .ok (.bipush 111, 2) := dk_16 111 (dk_at dksX1_passYear_1 19 rfl rfl)
theorem dX1_passYear_45 : decode cX1_passYear 45 = .ok (.iload_n 3, 1) := dk_29 (dk_at dksX1_passYear_1 21 rfl rfl)
theorem dX1_passYear_46 : decode cX1_passYear 46 = .ok (.iadd, 1) := dk_96 (dk_at dksX1_passYear_1 22 rfl rfl)
theorem dX1_passYear_47 : decode cX1_passYear 47 = .ok (.iconst 3, 1) := dk_6 (dk_at dksX1_passYear_1 23 rfl rfl)
theorem dX1_passYear_48 : decode cX1_passYear 48 = .ok (.isub, 1) := dk_100 (dk_at dksX1_passYear_2 0 rfl rfl)
theorem dX1_passYear_49 : decode cX1_passYear 49 = .ok (.aload_n 0, 1) := dk_42 (dk_at dksX1_passYear_2 1 rfl rfl)
theorem dX1_passYear_50 : decode cX1_passYear 50 = .ok (.getfield 58, 3) := dk_180 0 58 (dk_at dksX1_passYear_2 2 rfl rfl)
theorem dX1_passYear_53 : decode cX1_passYear 53 = .ok (.bipush 111, 2) := dk_16 111 (dk_at dksX1_passYear_2 5 rfl rfl)
theorem dX1_passYear_55 : decode cX1_passYear 55 = .ok (.iload_n 3, 1) := dk_29 (dk_at dksX1_passYear_2 7 rfl rfl)
theorem dX1_passYear_56 : decode cX1_passYear 56 = .ok (.iadd, 1) := dk_96 (dk_at dksX1_passYear_2 8 rfl rfl)
theorem dX1_passYear_57 : decode cX1_passYear 57 = .ok (.iaload, 1) := dk_46 (dk_at dksX1_passYear_2 9 rfl rfl)
theorem dX1_passYear_58 : decode cX1_passYear 58 = .ok (.iastore, 1) := dk_79 (dk_at dksX1_passYear_2 10 rfl rfl)
theorem dX1_passYear_59 : decode cX1_passYear 59 = .ok (.iinc 3 1, 3) := dk_132 3 1 (dk_at dksX1_passYear_2 11 rfl rfl)
theorem dX1_passYear_62 : decode cX1_passYear 62 = .ok (.goto (-30), 3) := dk_167 255 226 (dk_at dksX1_passYear_2 14 rfl rfl)
theorem dX1_passYear_65 : decode cX1_passYear 65 = .ok (.aload_n 0, 1) := dk_42 (dk_at dksX1_passYear_2 17 rfl rfl)
theorem dX1_passYear_66 : decode cX1_passYear 66 = .ok (.getfield 58, 3) := dk_180 0 58 (dk_at dksX1_passYear_2 18 rfl rfl)
theorem dX1_passYear_69 : decode cX1_passYear 69 = .ok (.bipush 110, 2) := dk_16 110 (dk_at dksX1_passYear_2 21 rfl rfl)
theorem dX1_passYear_71 : decode cX1_passYear 71 = .ok (.dup2, 1) := dk_92 (dk_at dksX1_passYear_2 23 rfl rfl)
theorem dX1_passYear_72 : decode cX1_passYear 72 = .ok (.iaload, 1) := dk_46 (dk_at dksX1_passYear_3 0 rfl rfl)
theorem dX1_passYear_73 : decode cX1_passYear 73 = .ok (.iconst 1, 1) := dk_4 (dk_at dksX1_passYear_3 1 rfl rfl)
theorem dX1_passYear_74 : decode cX1_passYear 74 = .ok (.isub, 1) := dk_100 (dk_at dksX1_passYear_3 2 rfl rfl)
theorem dX1_passYear_75 : decode cX1_passYear 75 = .ok (.iastore, 1) := dk_79 (dk_at dksX1_passYear_3 3 rfl rfl)
theorem dX1_passYear_76 : decode cX1_passYear 76 = .ok (.bipush 111, 2) := dk_16 111 (dk_at dksX1_passYear_3 4 rfl rfl)
theorem dX1_passYear_78 : decode cX1_passYear 78 = .ok (.iconst 3, 1) := dk_6 (dk_at dksX1_passYear_3 6 rfl rfl)
theorem dX1_passYear_79 : decode cX1_passYear 79 = .ok (.aload_n 0, 1) := dk_42 (dk_at dksX1_passYear_3 7 rfl rfl)
theorem dX1_passYear_80 : decode cX1_passYear 80 = .ok (.getfield 58, 3) := dk_180 0 58 (dk_at dksX1_passYear_3 8 rfl rfl)
theorem dX1_passYear_83 : decode cX1_passYear 83 = .ok (.bipush 110, 2) := dk_16 110 (dk_at dksX1_passYear_3 11 rfl rfl)
theorem dX1_passYear_85 : decode cX1_passYear 85 = .ok (.iaload, 1) := dk_46 (dk_at dksX1_passYear_3 13 rfl rfl)
theorem dX1_passYear_86 : decode cX1_passYear 86 = .ok (.imul, 1) := dk_104 (dk_at dksX1_passYear_3 14 rfl rfl)
theorem dX1_passYear_87 : decode cX1_passYear 87 = .ok (.iadd, 1) := dk_96 (dk_at dksX1_passYear_3 15 rfl rfl)
theorem dX1_passYear_88 : decode cX1_passYear 88 = .ok (.istore_n 3, 1) := dk_62 (dk_at dksX1_passYear_3 16 rfl rfl)
theorem dX1_passYear_89 : decode cX1_passYear 89 = .ok (.aload_n 0, 1) := dk_42 (dk_at dksX1_passYear_3 17 rfl rfl)
theorem dX1_passYear_90 : decode cX1_passYear 90 = .ok (.getfield 58, 3) := dk_180 0 58 (dk_at dksX1_passYear_3 18 rfl rfl)
theorem dX1_passYear_93 : decode cX1_passYear 93 = .ok (.iload_n 3, 1) := dk_29 (dk_at dksX1_passYear_3 21 rfl rfl)
theorem dX1_passYear_94 : decode cX1_passYear 94 = .ok (.iload_n 1, 1) := dk_27 (dk_at dksX1_passYear_3 22 rfl rfl)
theorem dX1_passYear_95 : decode cX1_passYear 95 = .ok (.iastore, 1) := dk_79 (dk_at dksX1_passYear_3 23 rfl rfl)
theorem dX1_passYear_96 : decode cX1_passYear 96 = .ok (.aload_n 0, 1) := dk_42 (dk_at dksX1_passYear_4 0 rfl rfl)
theorem dX1_passYear_97 : decode cX1_passYear 97 = .ok (.getfield 58, 3) := dk_180 0 58 (dk_at dksX1_passYear_4 1 rfl rfl)
theorem dX1_passYear_100 : decode cX1_passYear 100 = .ok (.iload_n 3, 1) := dk_29 (dk_at dksX1_passYear_4 4 rfl rfl)
theorem dX1_passYear_101 : decode cX1_passYear 101 = .ok (.iconst 1, 1) := dk_4 (dk_at dksX1_passYear_4 5 rfl rfl)
theorem dX1_passYear_102 : decode cX1_passYear 102 = .ok (.iadd, 1) := dk_96 (dk_at dksX1_passYear_4 6 rfl rfl)
theorem dX1_passYear_103 : decode cX1_passYear 103 = .ok (.iload_n 2, 1) := dk_28 (dk_at dksX1_passYear_4 7 rfl rfl)
theorem dX1_passYear_104 : decode cX1_passYear 104 = .ok (.iastore, 1) := dk_79 (dk_at dksX1_passYear_4 8 rfl rfl)
theorem dX1_passYear_105 : decode cX1_passYear 105 = .ok (.aload_n 0, 1) := dk_42 (dk_at dksX1_passYear_4 9 rfl rfl)
theorem dX1_passYear_106 : decode cX1_passYear 106 = .ok (.getfield 58, 3) := dk_180 0 58 (dk_at dksX1_passYear_4 10 rfl rfl)
theorem dX1_passYear_109 : decode cX1_passYear 109 = .ok (.iload_n 3, 1) := dk_29 (dk_at dksX1_passYear_4 13 rfl rfl)
theorem dX1_passYear_110 : decode cX1_passYear 110 = .ok (.iconst 2, 1) := dk_5 (dk_at dksX1_passYear_4 14 rfl rfl)
theorem dX1_passYear_111 : decode cX1_passYear 111 = .ok (.iadd, 1) := dk_96 (dk_at dksX1_passYear_4 15 rfl rfl)
theorem dX1_passYear_112 : decode cX1_passYear 112 = .ok (.iload_n 2, 1) := dk_28 (dk_at dksX1_passYear_4 16 rfl rfl)
theorem dX1_passYear_113 : decode cX1_passYear 113 = .ok (.iconst (-1), 1) := dk_2 (dk_at dksX1_passYear_4 17 rfl rfl)
theorem dX1_passYear_114 : decode cX1_passYear 114 = .ok (.if_icmp .ne 7, 3) := dk_160 0 7 (dk_at dksX1_passYear_4 18 rfl rfl)
theorem dX1_passYear_117 : decode cX1_passYear 117 = .ok (.iconst (-1), 1) := dk_2 (dk_at dksX1_passYear_4 21 rfl rfl)
theorem dX1_passYear_118 : decode cX1_passYear 118 = .ok (.goto 18, 3) := dk_167 0 18 (dk_at dksX1_passYear_5 0 rfl rfl)
theorem dX1_passYear_121 : decode cX1_passYear 121 = .ok (.aload_n 0, 1) := dk_42 (dk_at dksX1_passYear_5 3 rfl rfl)
theorem dX1_passYear_122 : decode cX1_passYear 122 = .ok (.iload_n 1, 1) := dk_27 (dk_at dksX1_passYear_5 4 rfl rfl)
theorem dX1_passYear_123 : decode cX1_passYear 123 = .ok (.iconst 3, 1) := dk_6 (dk_at dksX1_passYear_5 5 rfl rfl)
theorem dX1_passYear_124 : decode cX1_passYear 124 = .ok (.invokevirtual 336, 3) := dk_182 1 80 (dk_at dksX1_passYear_5 6 rfl rfl)
theorem dX1_passYear_127 : decode cX1_passYear 127 = .ok (.aload_n 0, 1) := dk_42 (dk_at dksX1_passYear_5 9 rfl rfl)
theorem dX1_passYear_128 : decode cX1_passYear 128 = .ok (.getfield 58, 3) := dk_180 0 58 (dk_at dksX1_passYear_5 10 rfl rfl)
theorem dX1_passYear_131 : decode cX1_passYear 131 = .ok (.iconst 4, 1) := dk_7 (dk_at dksX1_passYear_5 13 rfl rfl)
theorem dX1_passYear_132 : decode cX1_passYear 132 = .ok (.iload_n 2, 1) := dk_28 (dk_at dksX1_passYear_5 14 rfl rfl)
theorem dX1_passYear_133 : decode cX1_passYear 133 = .ok (.iadd, 1) := dk_96 (dk_at dksX1_passYear_5 15 rfl rfl)
theorem dX1_passYear_134 : decode cX1_passYear 134 = .ok (.iaload, 1) := dk_46 (dk_at dksX1_passYear_5 16 rfl rfl)
theorem dX1_passYear_135 : decode cX1_passYear 135 = .ok (.iadd, 1) := dk_96 (dk_at dksX1_passYear_5 17 rfl rfl)
theorem dX1_passYear_136 : decode cX1_passYear 136 = .ok (.iastore, 1) := dk_79 (dk_at dksX1_passYear_5 18 rfl rfl)
theorem dX1_passYear_137 : decode cX1_passYear 137 = .ok (.aload_n 0, 1) := dk_42 (dk_at dksX1_passYear_5 19 rfl rfl)
theorem dX1_passYear_138 : decode cX1_passYear 138 = .ok (.getfield 58, 3) := dk_180 0 58 (dk_at dksX1_passYear_5 20 rfl rfl)
theorem dX1_passYear_141 : decode cX1_passYear 141 = .ok (.bipush 110, 2) := dk_16 110 (dk_at dksX1_passYear_6 0 rfl rfl)
theorem dX1_passYear_143 : decode cX1_passYear 143 = .ok (.dup2, 1) := dk_92 (dk_at dksX1_passYear_6 2 rfl rfl)
theorem dX1_passYear_144 : decode cX1_passYear 144 = .ok (.iaload, 1) := dk_46 (dk_at dksX1_passYear_6 3 rfl rfl)
theorem dX1_passYear_145 : decode cX1_passYear 145 = .ok (.iconst 1, 1) := dk_4 (dk_at dksX1_passYear_6 4 rfl rfl)
theorem dX1_passYear_146 : decode cX1_passYear 146 = .ok (.iadd, 1) := dk_96 (dk_at dksX1_passYear_6 5 rfl rfl)
theorem dX1_passYear_147 : decode cX1_passYear 147 = .ok (.iastore, 1) := dk_79 (dk_at dksX1_passYear_6 6 rfl rfl)
theorem dX1_passYear_148 : decode cX1_passYear 148 = .ok (.iload_n 2, 1) := dk_28 (dk_at dksX1_passYear_6 7 rfl rfl)
theorem dX1_passYear_149 : decode cX1_passYear 149 = .ok (.ireturn, 1) := dk_172 (dk_at dksX1_passYear_6 8 rfl rfl)
abbrev cX1_liveYear : ByteArray := prog_1_method_56_code
def yX1_liveYear : MethodName := ⟨RX1, "liveYear", "()I"⟩
def dkwX1_liveYear_6 : List UInt8 := [92, 46, 4, 96, 79, 29, 172]
abbrev dktX1_liveYear_6 : List UInt8 := dkwX1_liveYear_6 ++ []
def dkwX1_liveYear_5 : List UInt8 := [16, 17, 17, 3, 231, 42, 180, 0, 58, 16, 17, 46, 4, 96, 184, 1, 90, 79, 42, 180, 0, 58, 16, 18]
abbrev dktX1_liveYear_5 : List UInt8 := dkwX1_liveYear_5 ++ dktX1_liveYear_6
def dkwX1_liveYear_4 : List UInt8 := [180, 0, 58, 16, 8, 29, 96, 46, 4, 96, 184, 1, 90, 79, 42, 27, 29, 182, 1, 110, 42, 180, 0, 58]
abbrev dktX1_liveYear_4 : List UInt8 := dkwX1_liveYear_4 ++ dktX1_liveYear_5
def dkwX1_liveYear_3 : List UInt8 := [42, 180, 0, 33, 3, 46, 100, 184, 1, 95, 79, 42, 180, 0, 58, 16, 8, 29, 96, 16, 9, 42]
abbrev dktX1_liveYear_3 : List UInt8 := dkwX1_liveYear_3 ++ dktX1_liveYear_4
def dkwX1_liveYear_2 : List UInt8 := [96, 46, 4, 96, 184, 1, 90, 79, 42, 180, 0, 58, 3, 29, 96, 3, 42, 180, 0, 58, 3, 29, 96, 46]
abbrev dktX1_liveYear_2 : List UInt8 := dkwX1_liveYear_2 ++ dktX1_liveYear_3
def dkwX1_liveYear_1 : List UInt8 := [62, 29, 2, 159, 0, 109, 42, 180, 0, 58, 16, 12, 28, 96, 17, 3, 231, 42, 180, 0, 58, 16, 12, 28]
abbrev dktX1_liveYear_1 : List UInt8 := dkwX1_liveYear_1 ++ dktX1_liveYear_2
def dkwX1_liveYear_0 : List UInt8 := [42, 180, 0, 58, 16, 18, 46, 42, 180, 1, 52, 112, 60, 42, 27, 182, 1, 101, 61, 42, 27, 182, 1, 107]
abbrev dktX1_liveYear_0 : List UInt8 := dkwX1_liveYear_0 ++ dktX1_liveYear_1
theorem dksX1_liveYear_0 : cX1_liveYear.data.toList.drop 0 = dktX1_liveYear_0 := by decide +kernel
theorem dksX1_liveYear_1 : cX1_liveYear.data.toList.drop 24 = dktX1_liveYear_1 := dk_seg dksX1_liveYear_0 24 rfl rfl
theorem dksX1_liveYear_2 : cX1_liveYear.data.toList.drop 48 = dktX1_liveYear_2 := dk_seg dksX1_liveYear_1 24 rfl rfl
theorem dksX1_liveYear_3 : cX1_liveYear.data.toList.drop 72 = dktX1_liveYear_3 := dk_seg dksX1_liveYear_2 24 rfl rfl
theorem dksX1_liveYear_4 : cX1_liveYear.data.toList.drop 94 = dktX1_liveYear_4 := dk_seg dksX1_liveYear_3 22 rfl rfl
theorem dksX1_liveYear_5 : cX1_liveYear.data.toList.drop 118 = dktX1_liveYear_5 := dk_seg dksX1_liveYear_4 24 rfl rfl
theorem dksX1_liveYear_6 : cX1_liveYear.data.toList.drop 142 = dktX1_liveYear_6 := dk_seg dksX1_liveYear_5 24 rfl rfl
theorem dX1_liveYear_0 : decode cX1_liveYear 0 = .ok (.aload_n 0, 1) := dk_42 (dk_at dksX1_liveYear_0 0 rfl rfl)
theorem dX1_liveYear_1 : decode cX1_liveYear 1 = .ok (.getfield 58, 3) := dk_180 0 58 (dk_at dksX1_liveYear_0 1 rfl rfl)
theorem dX1_liveYear_4 : decode cX1_liveYear 4 = .ok (.bipush 18, 2) := dk_16 18 (dk_at dksX1_liveYear_0 4 rfl rfl)
theorem dX1_liveYear_6 : decode cX1_liveYear 6 = .ok (.iaload, 1) := dk_46 (dk_at dksX1_liveYear_0 6 rfl rfl)
theorem dX1_liveYear_7 : decode cX1_liveYear 7 = .ok (.aload_n 0, 1) := dk_42 (dk_at dksX1_liveYear_0 7 rfl rfl)
theorem dX1_liveYear_8 : decode cX1_liveYear 8 = .ok (.getfield 308, 3) := dk_180 1 52 (dk_at dksX1_liveYear_0 8 rfl rfl)
theorem dX1_liveYear_11 : decode cX1_liveYear 11 = .ok (.irem, 1) := dk_112 (dk_at dksX1_liveYear_0 11 rfl rfl)
theorem dX1_liveYear_12 : decode cX1_liveYear 12 = .ok (.istore_n 1, 1) := dk_60 (dk_at dksX1_liveYear_0 12 rfl rfl)
theorem dX1_liveYear_13 : decode cX1_liveYear 13 = .ok (.aload_n 0, 1) := dk_42 (dk_at dksX1_liveYear_0 13 rfl rfl)
theorem dX1_liveYear_14 : decode cX1_liveYear 14 = .ok (.iload_n 1, 1) := dk_27 (dk_at dksX1_liveYear_0 14 rfl rfl)
theorem dX1_liveYear_15 : decode cX1_liveYear 15 = .ok (.invokevirtual 357, 3) := dk_182 1 101 (dk_at dksX1_liveYear_0 15 rfl rfl)
theorem dX1_liveYear_18 : decode cX1_liveYear 18 = .ok (.istore_n 2, 1) := dk_61 (dk_at dksX1_liveYear_0 18 rfl rfl)
theorem dX1_liveYear_19 : decode cX1_liveYear 19 = .ok (.aload_n 0, 1) := dk_42 (dk_at dksX1_liveYear_0 19 rfl rfl)
theorem dX1_liveYear_20 : decode cX1_liveYear 20 = .ok (.iload_n 1, 1) := dk_27 (dk_at dksX1_liveYear_0 20 rfl rfl)
theorem dX1_liveYear_21 : decode cX1_liveYear 21 = .ok (.invokevirtual 363, 3) := dk_182 1 107 (dk_at dksX1_liveYear_0 21 rfl rfl)
theorem dX1_liveYear_24 : decode cX1_liveYear 24 = .ok (.istore_n 3, 1) := dk_62 (dk_at dksX1_liveYear_1 0 rfl rfl)
theorem dX1_liveYear_25 : decode cX1_liveYear 25 = .ok (.iload_n 3, 1) := dk_29 (dk_at dksX1_liveYear_1 1 rfl rfl)
theorem dX1_liveYear_26 : decode cX1_liveYear 26 = .ok (.iconst (-1), 1) := dk_2 (dk_at dksX1_liveYear_1 2 rfl rfl)
theorem dX1_liveYear_27 : decode cX1_liveYear 27 = .ok (.if_icmp .eq 109, 3) := dk_159 0 109 (dk_at dksX1_liveYear_1 3 rfl rfl)
theorem dX1_liveYear_30 : decode cX1_liveYear 30 = .ok (.aload_n 0, 1) := dk_42 (dk_at dksX1_liveYear_1 6 rfl rfl)
theorem dX1_liveYear_31 : decode cX1_liveYear 31 = .ok (.getfield 58, 3) := dk_180 0 58 (dk_at dksX1_liveYear_1 7 rfl rfl)
theorem dX1_liveYear_34 : decode cX1_liveYear 34 = .ok (.bipush 12, 2) := dk_16 12 (dk_at dksX1_liveYear_1 10 rfl rfl)
theorem dX1_liveYear_36 : decode cX1_liveYear 36 = .ok (.iload_n 2, 1) := dk_28 (dk_at dksX1_liveYear_1 12 rfl rfl)
theorem dX1_liveYear_37 : decode cX1_liveYear 37 = .ok (.iadd, 1) := dk_96 (dk_at dksX1_liveYear_1 13 rfl rfl)
theorem dX1_liveYear_38 : decode cX1_liveYear 38 = .ok (.sipush 999, 3) := dk_17 3 231 (dk_at dksX1_liveYear_1 14 rfl rfl)
theorem dX1_liveYear_41 : decode cX1_liveYear 41 = .ok (.aload_n 0, 1) := dk_42 (dk_at dksX1_liveYear_1 17 rfl rfl)
theorem dX1_liveYear_42 : decode cX1_liveYear 42 = .ok (.getfield 58, 3) := dk_180 0 58 (dk_at dksX1_liveYear_1 18 rfl rfl)
theorem dX1_liveYear_45 : decode cX1_liveYear 45 = .ok (.bipush 12, 2) := dk_16 12 (dk_at dksX1_liveYear_1 21 rfl rfl)
theorem dX1_liveYear_47 : decode cX1_liveYear 47 = .ok (.iload_n 2, 1) := dk_28 (dk_at dksX1_liveYear_1 23 rfl rfl)
theorem dX1_liveYear_48 : decode cX1_liveYear 48 = .ok (.iadd, 1) := dk_96 (dk_at dksX1_liveYear_2 0 rfl rfl)
theorem dX1_liveYear_49 : decode cX1_liveYear 49 = .ok (.iaload, 1) := dk_46 (dk_at dksX1_liveYear_2 1 rfl rfl)
theorem dX1_liveYear_50 : decode cX1_liveYear 50 = .ok (.iconst 1, 1) := dk_4 (dk_at dksX1_liveYear_2 2 rfl rfl)
theorem dX1_liveYear_51 : decode cX1_liveYear 51 = .ok (.iadd, 1) := dk_96 (dk_at dksX1_liveYear_2 3 rfl rfl)
theorem dX1_liveYear_52 : decode cX1_liveYear 52 = .ok (.invokestatic 346, 3) := dk_184 1 90 (dk_at dksX1_liveYear_2 4 rfl rfl)
theorem dX1_liveYear_55 : decode cX1_liveYear 55 = .ok (.iastore, 1) := dk_79 (dk_at dksX1_liveYear_2 7 rfl rfl)
theorem dX1_liveYear_56 : decode cX1_liveYear 56 = .ok (.aload_n 0, 1) := dk_42 (dk_at dksX1_liveYear_2 8 rfl rfl)
theorem dX1_liveYear_57 : decode cX1_liveYear 57 = .ok (.getfield 58, 3) := dk_180 0 58 (dk_at dksX1_liveYear_2 9 rfl rfl)
theorem dX1_liveYear_60 : decode cX1_liveYear 60 = .ok (.iconst 0, 1) := dk_3 (dk_at dksX1_liveYear_2 12 rfl rfl)
theorem dX1_liveYear_61 : decode cX1_liveYear 61 = .ok (.iload_n 3, 1) := dk_29 (dk_at dksX1_liveYear_2 13 rfl rfl)
theorem dX1_liveYear_62 : decode cX1_liveYear 62 = .ok (.iadd, 1) := dk_96 (dk_at dksX1_liveYear_2 14 rfl rfl)
theorem dX1_liveYear_63 : decode cX1_liveYear 63 = .ok (.iconst 0, 1) := dk_3 (dk_at dksX1_liveYear_2 15 rfl rfl)
theorem dX1_liveYear_64 : decode cX1_liveYear 64 = .ok (.aload_n 0, 1) := dk_42 (dk_at dksX1_liveYear_2 16 rfl rfl)
theorem dX1_liveYear_65 : decode cX1_liveYear 65 = .ok (.getfield 58, 3) := dk_180 0 58 (dk_at dksX1_liveYear_2 17 rfl rfl)
theorem dX1_liveYear_68 : decode cX1_liveYear 68 = .ok (.iconst 0, 1) := dk_3 (dk_at dksX1_liveYear_2 20 rfl rfl)
theorem dX1_liveYear_69 : decode cX1_liveYear 69 = .ok (.iload_n 3, 1) := dk_29 (dk_at dksX1_liveYear_2 21 rfl rfl)
theorem dX1_liveYear_70 : decode cX1_liveYear 70 = .ok (.iadd, 1) := dk_96 (dk_at dksX1_liveYear_2 22 rfl rfl)
theorem dX1_liveYear_71 : decode cX1_liveYear 71 = .ok (.iaload, 1) := dk_46 (dk_at dksX1_liveYear_2 23 rfl rfl)
theorem dX1_liveYear_72 : decode cX1_liveYear 72 = .ok (.aload_n 0, 1) := dk_42 (dk_at dksX1_liveYear_3 0 rfl rfl)
theorem dX1_liveYear_73 : decode cX1_liveYear 73 = .ok (.getfield 33, 3) := dk_180 0 33 (dk_at dksX1_liveYear_3 1 rfl rfl)
theorem dX1_liveYear_76 : decode cX1_liveYear 76 = .ok (.iconst 0, 1) := dk_3 (dk_at dksX1_liveYear_3 4 rfl rfl)
theorem dX1_liveYear_77 : decode cX1_liveYear 77 = .ok (.iaload, 1) := dk_46 (dk_at dksX1_liveYear_3 5 rfl rfl)
theorem dX1_liveYear_78 : decode cX1_liveYear 78 = .ok (.isub, 1) := dk_100 (dk_at dksX1_liveYear_3 6 rfl rfl)
theorem dX1_liveYear_79 : decode cX1_liveYear 79 = .ok (.invokestatic 351, 3) := dk_184 1 95 (dk_at dksX1_liveYear_3 7 rfl rfl)
theorem dX1_liveYear_82 : decode cX1_liveYear 82 = .ok (.iastore, 1) := dk_79 (dk_at dksX1_liveYear_3 10 rfl rfl)
theorem dX1_liveYear_83 : decode cX1_liveYear 83 = .ok (.aload_n 0, 1) := dk_42 (dk_at dksX1_liveYear_3 11 rfl rfl)
theorem dX1_liveYear_84 : decode cX1_liveYear 84 = .ok (.getfield 58, 3) := dk_180 0 58 (dk_at dksX1_liveYear_3 12 rfl rfl)
theorem dX1_liveYear_87 : decode cX1_liveYear 87 = .ok (.bipush 8, 2) := dk_16 8 (dk_at dksX1_liveYear_3 15 rfl rfl)
theorem dX1_liveYear_89 : decode cX1_liveYear 89 = .ok (.iload_n 3, 1) := dk_29 (dk_at dksX1_liveYear_3 17 rfl rfl)
theorem dX1_liveYear_90 : decode cX1_liveYear 90 = .ok (.iadd, 1) := dk_96 (dk_at dksX1_liveYear_3 18 rfl rfl)
theorem dX1_liveYear_91 : decode cX1_liveYear 91 = .ok (.bipush 9, 2) := dk_16 9 (dk_at dksX1_liveYear_3 19 rfl rfl)
theorem dX1_liveYear_93 : decode cX1_liveYear 93 = .ok (.aload_n 0, 1) := dk_42 (dk_at dksX1_liveYear_3 21 rfl rfl)
theorem dX1_liveYear_94 : decode cX1_liveYear 94 = .ok (.getfield 58, 3) := dk_180 0 58 (dk_at dksX1_liveYear_4 0 rfl rfl)
theorem dX1_liveYear_97 : decode cX1_liveYear 97 = .ok (.bipush 8, 2) := dk_16 8 (dk_at dksX1_liveYear_4 3 rfl rfl)
theorem dX1_liveYear_99 : decode cX1_liveYear 99 = .ok (.iload_n 3, 1) := dk_29 (dk_at dksX1_liveYear_4 5 rfl rfl)
theorem dX1_liveYear_100 : decode cX1_liveYear 100 = .ok (.iadd, 1) := dk_96 (dk_at dksX1_liveYear_4 6 rfl rfl)
theorem dX1_liveYear_101 : decode cX1_liveYear 101 = .ok (.iaload, 1) := dk_46 (dk_at dksX1_liveYear_4 7 rfl rfl)
theorem dX1_liveYear_102 : decode cX1_liveYear 102 = .ok (.iconst 1, 1) := dk_4 (dk_at dksX1_liveYear_4 8 rfl rfl)
theorem dX1_liveYear_103 : decode cX1_liveYear 103 = .ok (.iadd, 1) := dk_96 (dk_at dksX1_liveYear_4 9 rfl rfl)
theorem dX1_liveYear_104 : decode cX1_liveYear 104 = .ok (.invokestatic 346, 3) := dk_184 1 90 (dk_at dksX1_liveYear_4 10 rfl rfl)
theorem dX1_liveYear_107 : decode cX1_liveYear 107 = .ok (.iastore, 1) := dk_79 (dk_at dksX1_liveYear_4 13 rfl rfl)
theorem dX1_liveYear_108 : decode cX1_liveYear 108 = .ok (.aload_n 0, 1) := dk_42 (dk_at dksX1_liveYear_4 14 rfl rfl)
theorem dX1_liveYear_109 : decode cX1_liveYear 109 = .ok (.iload_n 1, 1) := dk_27 (dk_at dksX1_liveYear_4 15 rfl rfl)
theorem dX1_liveYear_110 : decode cX1_liveYear 110 = .ok (.iload_n 3, 1) := dk_29 (dk_at dksX1_liveYear_4 16 rfl rfl)
theorem dX1_liveYear_111 : decode cX1_liveYear 111 = .ok (.invokevirtual 366, 3) := dk_182 1 110 (dk_at dksX1_liveYear_4 17 rfl rfl)
theorem dX1_liveYear_114 : decode cX1_liveYear 114 = .ok (.aload_n 0, 1) := dk_42 (dk_at dksX1_liveYear_4 20 rfl rfl)
theorem dX1_liveYear_115 : decode cX1_liveYear 115 = .ok (.getfield 58, 3) := dk_180 0 58 (dk_at dksX1_liveYear_4 21 rfl rfl)
theorem dX1_liveYear_118 : decode cX1_liveYear 118 = .ok (.bipush 17, 2) := dk_16 17 (dk_at dksX1_liveYear_5 0 rfl rfl)
theorem dX1_liveYear_120 : decode cX1_liveYear 120 = .ok (.sipush 999, 3) := dk_17 3 231 (dk_at dksX1_liveYear_5 2 rfl rfl)
theorem dX1_liveYear_123 : decode cX1_liveYear 123 = .ok (.aload_n 0, 1) := dk_42 (dk_at dksX1_liveYear_5 5 rfl rfl)
theorem dX1_liveYear_124 : decode cX1_liveYear 124 = .ok (.getfield 58, 3) := dk_180 0 58 (dk_at dksX1_liveYear_5 6 rfl rfl)
theorem dX1_liveYear_127 : decode cX1_liveYear 127 = .ok (.bipush 17, 2) := dk_16 17 (dk_at dksX1_liveYear_5 9 rfl rfl)
theorem dX1_liveYear_129 : decode cX1_liveYear 129 = .ok (.iaload, 1) := dk_46 (dk_at dksX1_liveYear_5 11 rfl rfl)
theorem dX1_liveYear_130 : decode cX1_liveYear 130 = .ok (.iconst 1, 1) := dk_4 (dk_at dksX1_liveYear_5 12 rfl rfl)
theorem dX1_liveYear_131 : decode cX1_liveYear 131 = .ok (.iadd, 1) := dk_96 (dk_at dksX1_liveYear_5 13 rfl rfl)
theorem dX1_liveYear_132 : decode cX1_liveYear 132 = .ok (.invokestatic 346, 3) := dk_184 1 90 (dk_at dksX1_liveYear_5 14 rfl rfl)
theorem dX1_liveYear_135 : decode cX1_liveYear 135 = .ok (.iastore, 1) := dk_79 (dk_at dksX1_liveYear_5 17 rfl rfl)
theorem dX1_liveYear_136 : decode cX1_liveYear 136 = .ok (.aload_n 0, 1) := dk_42 (dk_at dksX1_liveYear_5 18 rfl rfl)
theorem dX1_liveYear_137 : decode cX1_liveYear 137 = .ok (.getfield 58, 3) := dk_180 0 58 (dk_at dksX1_liveYear_5 19 rfl rfl)
theorem dX1_liveYear_140 : decode cX1_liveYear 140 = .ok (.bipush 18, 2) := dk_16 18 (dk_at dksX1_liveYear_5 22 rfl rfl)
theorem dX1_liveYear_142 : decode cX1_liveYear 142 = .ok (.dup2, 1) := dk_92 (dk_at dksX1_liveYear_6 0 rfl rfl)
theorem dX1_liveYear_143 : decode cX1_liveYear 143 = .ok (.iaload, 1) := dk_46 (dk_at dksX1_liveYear_6 1 rfl rfl)
theorem dX1_liveYear_144 : decode cX1_liveYear 144 = .ok (.iconst 1, 1) := dk_4 (dk_at dksX1_liveYear_6 2 rfl rfl)
theorem dX1_liveYear_145 : decode cX1_liveYear 145 = .ok (.iadd, 1) := dk_96 (dk_at dksX1_liveYear_6 3 rfl rfl)
theorem dX1_liveYear_146 : decode cX1_liveYear 146 = .ok (.iastore, 1) := dk_79 (dk_at dksX1_liveYear_6 4 rfl rfl)
theorem dX1_liveYear_147 : decode cX1_liveYear 147 = .ok (.iload_n 3, 1) := dk_29 (dk_at dksX1_liveYear_6 5 rfl rfl)
theorem dX1_liveYear_148 : decode cX1_liveYear 148 = .ok (.ireturn, 1) := dk_172 (dk_at dksX1_liveYear_6 6 rfl rfl)
abbrev cX1_winnerOf : ByteArray := prog_1_method_52_code
def yX1_winnerOf : MethodName := ⟨RX1, "winnerOf", "(I)I"⟩
def dkwX1_winnerOf_2 : List UInt8 := [182, 1, 80, 167, 0, 4, 2, 172]
abbrev dktX1_winnerOf_2 : List UInt8 := dkwX1_winnerOf_2 ++ []
def dkwX1_winnerOf_1 : List UInt8 := [28, 29, 164, 0, 12, 42, 27, 3, 182, 1, 80, 167, 0, 18, 28, 29, 162, 0, 12, 42, 27, 4]
abbrev dktX1_winnerOf_1 : List UInt8 := dkwX1_winnerOf_1 ++ dktX1_winnerOf_2
def dkwX1_winnerOf_0 : List UInt8 := [42, 42, 27, 3, 182, 1, 80, 27, 182, 1, 98, 61, 42, 42, 27, 4, 182, 1, 80, 27, 182, 1, 98, 62]
abbrev dktX1_winnerOf_0 : List UInt8 := dkwX1_winnerOf_0 ++ dktX1_winnerOf_1
theorem dksX1_winnerOf_0 : cX1_winnerOf.data.toList.drop 0 = dktX1_winnerOf_0 := by decide +kernel
theorem dksX1_winnerOf_1 : cX1_winnerOf.data.toList.drop 24 = dktX1_winnerOf_1 := dk_seg dksX1_winnerOf_0 24 rfl rfl
theorem dksX1_winnerOf_2 : cX1_winnerOf.data.toList.drop 46 = dktX1_winnerOf_2 := dk_seg dksX1_winnerOf_1 22 rfl rfl
theorem dX1_winnerOf_0 : decode cX1_winnerOf 0 = .ok (.aload_n 0, 1) := dk_42 (dk_at dksX1_winnerOf_0 0 rfl rfl)
theorem dX1_winnerOf_1 : decode cX1_winnerOf 1 = .ok (.aload_n 0, 1) := dk_42 (dk_at dksX1_winnerOf_0 1 rfl rfl)
theorem dX1_winnerOf_2 : decode cX1_winnerOf 2 = .ok (.iload_n 1, 1) := dk_27 (dk_at dksX1_winnerOf_0 2 rfl rfl)
theorem dX1_winnerOf_3 : decode cX1_winnerOf 3 = .ok (.iconst 0, 1) := dk_3 (dk_at dksX1_winnerOf_0 3 rfl rfl)
theorem dX1_winnerOf_4 : decode cX1_winnerOf 4 = .ok (.invokevirtual 336, 3) := dk_182 1 80 (dk_at dksX1_winnerOf_0 4 rfl rfl)
theorem dX1_winnerOf_7 : decode cX1_winnerOf 7 = .ok (.iload_n 1, 1) := dk_27 (dk_at dksX1_winnerOf_0 7 rfl rfl)
theorem dX1_winnerOf_8 : decode cX1_winnerOf 8 = .ok (.invokevirtual 354, 3) := dk_182 1 98 (dk_at dksX1_winnerOf_0 8 rfl rfl)
theorem dX1_winnerOf_11 : decode cX1_winnerOf 11 = .ok (.istore_n 2, 1) := dk_61 (dk_at dksX1_winnerOf_0 11 rfl rfl)
theorem dX1_winnerOf_12 : decode cX1_winnerOf 12 = .ok (.aload_n 0, 1) := dk_42 (dk_at dksX1_winnerOf_0 12 rfl rfl)
theorem dX1_winnerOf_13 : decode cX1_winnerOf 13 = .ok (.aload_n 0, 1) := dk_42 (dk_at dksX1_winnerOf_0 13 rfl rfl)
theorem dX1_winnerOf_14 : decode cX1_winnerOf 14 = .ok (.iload_n 1, 1) := dk_27 (dk_at dksX1_winnerOf_0 14 rfl rfl)
theorem dX1_winnerOf_15 : decode cX1_winnerOf 15 = .ok (.iconst 1, 1) := dk_4 (dk_at dksX1_winnerOf_0 15 rfl rfl)
theorem dX1_winnerOf_16 : decode cX1_winnerOf 16 = .ok (.invokevirtual 336, 3) := dk_182 1 80 (dk_at dksX1_winnerOf_0 16 rfl rfl)
theorem dX1_winnerOf_19 : decode cX1_winnerOf 19 = .ok (.iload_n 1, 1) := dk_27 (dk_at dksX1_winnerOf_0 19 rfl rfl)
theorem dX1_winnerOf_20 : decode cX1_winnerOf 20 = .ok (.invokevirtual 354, 3) := dk_182 1 98 (dk_at dksX1_winnerOf_0 20 rfl rfl)
theorem dX1_winnerOf_23 : decode cX1_winnerOf 23 = .ok (.istore_n 3, 1) := dk_62 (dk_at dksX1_winnerOf_0 23 rfl rfl)
theorem dX1_winnerOf_24 : decode cX1_winnerOf 24 = .ok (.iload_n 2, 1) := dk_28 (dk_at dksX1_winnerOf_1 0 rfl rfl)
theorem dX1_winnerOf_25 : decode cX1_winnerOf 25 = .ok (.iload_n 3, 1) := dk_29 (dk_at dksX1_winnerOf_1 1 rfl rfl)
theorem dX1_winnerOf_26 : decode cX1_winnerOf 26 = .ok (.if_icmp .le 12, 3) := dk_164 0 12 (dk_at dksX1_winnerOf_1 2 rfl rfl)
theorem dX1_winnerOf_29 : decode cX1_winnerOf 29 = .ok (.aload_n 0, 1) := dk_42 (dk_at dksX1_winnerOf_1 5 rfl rfl)
theorem dX1_winnerOf_30 : decode cX1_winnerOf 30 = .ok (.iload_n 1, 1) := dk_27 (dk_at dksX1_winnerOf_1 6 rfl rfl)
theorem dX1_winnerOf_31 : decode cX1_winnerOf 31 = .ok (.iconst 0, 1) := dk_3 (dk_at dksX1_winnerOf_1 7 rfl rfl)
theorem dX1_winnerOf_32 : decode cX1_winnerOf 32 = .ok (.invokevirtual 336, 3) := dk_182 1 80 (dk_at dksX1_winnerOf_1 8 rfl rfl)
theorem dX1_winnerOf_35 : decode cX1_winnerOf 35 = .ok (.goto 18, 3) := dk_167 0 18 (dk_at dksX1_winnerOf_1 11 rfl rfl)
theorem dX1_winnerOf_38 : decode cX1_winnerOf 38 = .ok (.iload_n 2, 1) := dk_28 (dk_at dksX1_winnerOf_1 14 rfl rfl)
theorem dX1_winnerOf_39 : decode cX1_winnerOf 39 = .ok (.iload_n 3, 1) := dk_29 (dk_at dksX1_winnerOf_1 15 rfl rfl)
theorem dX1_winnerOf_40 : decode cX1_winnerOf 40 = .ok (.if_icmp .ge 12, 3) := dk_162 0 12 (dk_at dksX1_winnerOf_1 16 rfl rfl)
theorem dX1_winnerOf_43 : decode cX1_winnerOf 43 = .ok (.aload_n 0, 1) := dk_42 (dk_at dksX1_winnerOf_1 19 rfl rfl)
theorem dX1_winnerOf_44 : decode cX1_winnerOf 44 = .ok (.iload_n 1, 1) := dk_27 (dk_at dksX1_winnerOf_1 20 rfl rfl)
theorem dX1_winnerOf_45 : decode cX1_winnerOf 45 = .ok (.iconst 1, 1) := dk_4 (dk_at dksX1_winnerOf_1 21 rfl rfl)
theorem dX1_winnerOf_46 : decode cX1_winnerOf 46 = .ok (.invokevirtual 336, 3) := dk_182 1 80 (dk_at dksX1_winnerOf_2 0 rfl rfl)
theorem dX1_winnerOf_49 : decode cX1_winnerOf 49 = .ok (.goto 4, 3) := dk_167 0 4 (dk_at dksX1_winnerOf_2 3 rfl rfl)
theorem dX1_winnerOf_52 : decode cX1_winnerOf 52 = .ok (.iconst (-1), 1) := dk_2 (dk_at dksX1_winnerOf_2 6 rfl rfl)
theorem dX1_winnerOf_53 : decode cX1_winnerOf 53 = .ok (.ireturn, 1) := dk_172 (dk_at dksX1_winnerOf_2 7 rfl rfl)
abbrev cX1_forceOf : ByteArray := prog_1_method_51_code
def yX1_forceOf : MethodName := ⟨RX1, "forceOf", "(II)I"⟩
def dkwX1_forceOf_8 : List UInt8 := [167, 0, 5, 21, 4, 172]
abbrev dktX1_forceOf_8 : List UInt8 := dkwX1_forceOf_8 ++ []
def dkwX1_forceOf_7 : List UInt8 := [184, 1, 95, 54, 4, 42, 180, 0, 58, 16, 16, 46, 27, 184, 0, 250, 153, 0, 10, 21, 4, 5, 108]
abbrev dktX1_forceOf_7 : List UInt8 := dkwX1_forceOf_7 ++ dktX1_forceOf_8
def dkwX1_forceOf_6 : List UInt8 := [42, 180, 0, 51, 50, 16, 121, 42, 180, 0, 20, 184, 1, 86, 54, 4, 3, 16, 60, 21, 4, 184, 1, 90]
abbrev dktX1_forceOf_6 : List UInt8 := dkwX1_forceOf_6 ++ dktX1_forceOf_7
def dkwX1_forceOf_5 : List UInt8 := [16, 12, 27, 96, 46, 79, 42, 180, 0, 20, 16, 100, 42, 180, 0, 58, 16, 18, 46, 79, 42, 180, 0, 47]
abbrev dktX1_forceOf_5 : List UInt8 := dkwX1_forceOf_5 ++ dktX1_forceOf_6
def dkwX1_forceOf_4 : List UInt8 := [46, 79, 42, 180, 0, 20, 16, 112, 42, 27, 182, 1, 74, 79, 42, 180, 0, 20, 16, 119, 42, 180, 0, 58]
abbrev dktX1_forceOf_4 : List UInt8 := dkwX1_forceOf_4 ++ dktX1_forceOf_5
def dkwX1_forceOf_3 : List UInt8 := [46, 79, 42, 180, 0, 20, 16, 103, 29, 79, 42, 180, 0, 20, 16, 115, 42, 180, 0, 58, 16, 8, 27, 96]
abbrev dktX1_forceOf_3 : List UInt8 := dkwX1_forceOf_3 ++ dktX1_forceOf_4
def dkwX1_forceOf_2 : List UInt8 := [180, 0, 51, 2, 159, 0, 108, 42, 182, 1, 83, 42, 180, 0, 20, 16, 109, 42, 180, 0, 58, 3, 27, 96]
abbrev dktX1_forceOf_2 : List UInt8 := dkwX1_forceOf_2 ++ dktX1_forceOf_3
def dkwX1_forceOf_1 : List UInt8 := [180, 0, 58, 3, 27, 96, 46, 29, 96, 42, 180, 0, 58, 16, 12, 27, 96, 46, 5, 108, 100, 54, 4, 42]
abbrev dktX1_forceOf_1 : List UInt8 := dkwX1_forceOf_1 ++ dktX1_forceOf_2
def dkwX1_forceOf_0 : List UInt8 := [42, 28, 3, 182, 1, 80, 27, 160, 0, 12, 42, 28, 5, 182, 1, 80, 167, 0, 4, 3, 62, 42]
abbrev dktX1_forceOf_0 : List UInt8 := dkwX1_forceOf_0 ++ dktX1_forceOf_1
theorem dksX1_forceOf_0 : cX1_forceOf.data.toList.drop 0 = dktX1_forceOf_0 := by decide +kernel
theorem dksX1_forceOf_1 : cX1_forceOf.data.toList.drop 22 = dktX1_forceOf_1 := dk_seg dksX1_forceOf_0 22 rfl rfl
theorem dksX1_forceOf_2 : cX1_forceOf.data.toList.drop 46 = dktX1_forceOf_2 := dk_seg dksX1_forceOf_1 24 rfl rfl
theorem dksX1_forceOf_3 : cX1_forceOf.data.toList.drop 70 = dktX1_forceOf_3 := dk_seg dksX1_forceOf_2 24 rfl rfl
theorem dksX1_forceOf_4 : cX1_forceOf.data.toList.drop 94 = dktX1_forceOf_4 := dk_seg dksX1_forceOf_3 24 rfl rfl
theorem dksX1_forceOf_5 : cX1_forceOf.data.toList.drop 118 = dktX1_forceOf_5 := dk_seg dksX1_forceOf_4 24 rfl rfl
theorem dksX1_forceOf_6 : cX1_forceOf.data.toList.drop 142 = dktX1_forceOf_6 := dk_seg dksX1_forceOf_5 24 rfl rfl
theorem dksX1_forceOf_7 : cX1_forceOf.data.toList.drop 166 = dktX1_forceOf_7 := dk_seg dksX1_forceOf_6 24 rfl rfl
theorem dksX1_forceOf_8 : cX1_forceOf.data.toList.drop 189 = dktX1_forceOf_8 := dk_seg dksX1_forceOf_7 23 rfl rfl
theorem dX1_forceOf_0 : decode cX1_forceOf 0 = .ok (.aload_n 0, 1) := dk_42 (dk_at dksX1_forceOf_0 0 rfl rfl)
theorem dX1_forceOf_1 : decode cX1_forceOf 1 = .ok (.iload_n 2, 1) := dk_28 (dk_at dksX1_forceOf_0 1 rfl rfl)
theorem dX1_forceOf_2 : decode cX1_forceOf 2 = .ok (.iconst 0, 1) := dk_3 (dk_at dksX1_forceOf_0 2 rfl rfl)
theorem dX1_forceOf_3 : decode cX1_forceOf 3 = .ok (.invokevirtual 336, 3) := dk_182 1 80 (dk_at dksX1_forceOf_0 3 rfl rfl)
theorem dX1_forceOf_6 : decode cX1_forceOf 6 = .ok (.iload_n 1, 1) := dk_27 (dk_at dksX1_forceOf_0 6 rfl rfl)
theorem dX1_forceOf_7 : decode cX1_forceOf 7 = .ok (.if_icmp .ne 12, 3) := dk_160 0 12 (dk_at dksX1_forceOf_0 7 rfl rfl)
theorem dX1_forceOf_10 : decode cX1_forceOf 10 = .ok (.aload_n 0, 1) := dk_42 (dk_at dksX1_forceOf_0 10 rfl rfl)
theorem dX1_forceOf_11 : decode cX1_forceOf 11 = .ok (.iload_n 2, 1) := dk_28 (dk_at dksX1_forceOf_0 11 rfl rfl)
theorem dX1_forceOf_12 : decode cX1_forceOf 12 = .ok (.iconst 2, 1) := dk_5 (dk_at dksX1_forceOf_0 12 rfl rfl)
theorem dX1_forceOf_13 : decode cX1_forceOf 13 = .ok (.invokevirtual 336, 3) := dk_182 1 80 (dk_at dksX1_forceOf_0 13 rfl rfl)
theorem dX1_forceOf_16 : decode cX1_forceOf 16 = .ok (.goto 4, 3) := dk_167 0 4 (dk_at dksX1_forceOf_0 16 rfl rfl)
theorem dX1_forceOf_19 : decode cX1_forceOf 19 = .ok (.iconst 0, 1) := dk_3 (dk_at dksX1_forceOf_0 19 rfl rfl)
theorem dX1_forceOf_20 : decode cX1_forceOf 20 = .ok (.istore_n 3, 1) := dk_62 (dk_at dksX1_forceOf_0 20 rfl rfl)
theorem dX1_forceOf_21 : decode cX1_forceOf 21 = .ok (.aload_n 0, 1) := dk_42 (dk_at dksX1_forceOf_0 21 rfl rfl)
theorem dX1_forceOf_22 : decode cX1_forceOf 22 = .ok (.getfield 58, 3) := dk_180 0 58 (dk_at dksX1_forceOf_1 0 rfl rfl)
theorem dX1_forceOf_25 : decode cX1_forceOf 25 = .ok (.iconst 0, 1) := dk_3 (dk_at dksX1_forceOf_1 3 rfl rfl)
theorem dX1_forceOf_26 : decode cX1_forceOf 26 = .ok (.iload_n 1, 1) := dk_27 (dk_at dksX1_forceOf_1 4 rfl rfl)
theorem dX1_forceOf_27 : decode cX1_forceOf 27 = .ok (.iadd, 1) := dk_96 (dk_at dksX1_forceOf_1 5 rfl rfl)
theorem dX1_forceOf_28 : decode cX1_forceOf 28 = .ok (.iaload, 1) := dk_46 (dk_at dksX1_forceOf_1 6 rfl rfl)
theorem dX1_forceOf_29 : decode cX1_forceOf 29 = .ok (.iload_n 3, 1) := dk_29 (dk_at dksX1_forceOf_1 7 rfl rfl)
theorem dX1_forceOf_30 : decode cX1_forceOf 30 = .ok (.iadd, 1) := dk_96 (dk_at dksX1_forceOf_1 8 rfl rfl)
theorem dX1_forceOf_31 : decode cX1_forceOf 31 = .ok (.aload_n 0, 1) := dk_42 (dk_at dksX1_forceOf_1 9 rfl rfl)
theorem dX1_forceOf_32 : decode cX1_forceOf 32 = .ok (.getfield 58, 3) := dk_180 0 58 (dk_at dksX1_forceOf_1 10 rfl rfl)
theorem dX1_forceOf_35 : decode cX1_forceOf 35 = .ok (.bipush 12, 2) := dk_16 12 (dk_at dksX1_forceOf_1 13 rfl rfl)
theorem dX1_forceOf_37 : decode cX1_forceOf 37 = .ok (.iload_n 1, 1) := dk_27 (dk_at dksX1_forceOf_1 15 rfl rfl)
theorem dX1_forceOf_38 : decode cX1_forceOf 38 = .ok (.iadd, 1) := dk_96 (dk_at dksX1_forceOf_1 16 rfl rfl)
theorem dX1_forceOf_39 : decode cX1_forceOf 39 = .ok (.iaload, 1) := dk_46 (dk_at dksX1_forceOf_1 17 rfl rfl)
theorem dX1_forceOf_40 : decode cX1_forceOf 40 = .ok (.iconst 2, 1) := dk_5 (dk_at dksX1_forceOf_1 18 rfl rfl)
theorem dX1_forceOf_41 : decode cX1_forceOf 41 = .ok (.idiv, 1) := dk_108 (dk_at dksX1_forceOf_1 19 rfl rfl)
theorem dX1_forceOf_42 : decode cX1_forceOf 42 = .ok (.isub, 1) := dk_100 (dk_at dksX1_forceOf_1 20 rfl rfl)
theorem dX1_forceOf_43 : decode cX1_forceOf 43 = .ok (.istore 4, 2) := dk_54 4 (dk_at dksX1_forceOf_1 21 rfl rfl)
theorem dX1_forceOf_45 : decode cX1_forceOf 45 = .ok (.aload_n 0, 1) := dk_42 (dk_at dksX1_forceOf_1 23 rfl rfl)
theorem dX1_forceOf_46 : decode cX1_forceOf 46 = .ok (.getfield 51, 3) := dk_180 0 51 (dk_at dksX1_forceOf_2 0 rfl rfl)
theorem dX1_forceOf_49 : decode cX1_forceOf 49 = .ok (.iconst (-1), 1) := dk_2 (dk_at dksX1_forceOf_2 3 rfl rfl)
theorem dX1_forceOf_50 : decode cX1_forceOf 50 = .ok (.if_icmp .eq 108, 3) := dk_159 0 108 (dk_at dksX1_forceOf_2 4 rfl rfl)
theorem dX1_forceOf_53 : decode cX1_forceOf 53 = .ok (.aload_n 0, 1) := dk_42 (dk_at dksX1_forceOf_2 7 rfl rfl)
theorem dX1_forceOf_54 : decode cX1_forceOf 54 = .ok (.invokevirtual 339, 3) := dk_182 1 83 (dk_at dksX1_forceOf_2 8 rfl rfl)
theorem dX1_forceOf_57 : decode cX1_forceOf 57 = .ok (.aload_n 0, 1) := dk_42 (dk_at dksX1_forceOf_2 11 rfl rfl)
theorem dX1_forceOf_58 : decode cX1_forceOf 58 = .ok (.getfield 20, 3) := dk_180 0 20 (dk_at dksX1_forceOf_2 12 rfl rfl)
theorem dX1_forceOf_61 : decode cX1_forceOf 61 = .ok (.bipush 109, 2) := dk_16 109 (dk_at dksX1_forceOf_2 15 rfl rfl)
theorem dX1_forceOf_63 : decode cX1_forceOf 63 = .ok (.aload_n 0, 1) := dk_42 (dk_at dksX1_forceOf_2 17 rfl rfl)
theorem dX1_forceOf_64 : decode cX1_forceOf 64 = .ok (.getfield 58, 3) := dk_180 0 58 (dk_at dksX1_forceOf_2 18 rfl rfl)
theorem dX1_forceOf_67 : decode cX1_forceOf 67 = .ok (.iconst 0, 1) := dk_3 (dk_at dksX1_forceOf_2 21 rfl rfl)
theorem dX1_forceOf_68 : decode cX1_forceOf 68 = .ok (.iload_n 1, 1) := dk_27 (dk_at dksX1_forceOf_2 22 rfl rfl)
theorem dX1_forceOf_69 : decode cX1_forceOf 69 = .ok (.iadd, 1) := dk_96 (dk_at dksX1_forceOf_2 23 rfl rfl)
theorem dX1_forceOf_70 : decode cX1_forceOf 70 = .ok (.iaload, 1) := dk_46 (dk_at dksX1_forceOf_3 0 rfl rfl)
theorem dX1_forceOf_71 : decode cX1_forceOf 71 = .ok (.iastore, 1) := dk_79 (dk_at dksX1_forceOf_3 1 rfl rfl)
theorem dX1_forceOf_72 : decode cX1_forceOf 72 = .ok (.aload_n 0, 1) := dk_42 (dk_at dksX1_forceOf_3 2 rfl rfl)
theorem dX1_forceOf_73 : decode cX1_forceOf 73 = .ok (.getfield 20, 3) := dk_180 0 20 (dk_at dksX1_forceOf_3 3 rfl rfl)
theorem dX1_forceOf_76 : decode cX1_forceOf 76 = .ok (.bipush 103, 2) := dk_16 103 (dk_at dksX1_forceOf_3 6 rfl rfl)
theorem dX1_forceOf_78 : decode cX1_forceOf 78 = .ok (.iload_n 3, 1) := dk_29 (dk_at dksX1_forceOf_3 8 rfl rfl)
theorem dX1_forceOf_79 : decode cX1_forceOf 79 = .ok (.iastore, 1) := dk_79 (dk_at dksX1_forceOf_3 9 rfl rfl)
theorem dX1_forceOf_80 : decode cX1_forceOf 80 = .ok (.aload_n 0, 1) := dk_42 (dk_at dksX1_forceOf_3 10 rfl rfl)
theorem dX1_forceOf_81 : decode cX1_forceOf 81 = .ok (.getfield 20, 3) := dk_180 0 20 (dk_at dksX1_forceOf_3 11 rfl rfl)
theorem dX1_forceOf_84 : decode cX1_forceOf 84 = .ok (.bipush 115, 2) := dk_16 115 (dk_at dksX1_forceOf_3 14 rfl rfl)
theorem dX1_forceOf_86 : decode cX1_forceOf 86 = .ok (.aload_n 0, 1) := dk_42 (dk_at dksX1_forceOf_3 16 rfl rfl)
theorem dX1_forceOf_87 : decode cX1_forceOf 87 = .ok (.getfield 58, 3) := dk_180 0 58 (dk_at dksX1_forceOf_3 17 rfl rfl)
theorem dX1_forceOf_90 : decode cX1_forceOf 90 = .ok (.bipush 8, 2) := dk_16 8 (dk_at dksX1_forceOf_3 20 rfl rfl)
theorem dX1_forceOf_92 : decode cX1_forceOf 92 = .ok (.iload_n 1, 1) := dk_27 (dk_at dksX1_forceOf_3 22 rfl rfl)
theorem dX1_forceOf_93 : decode cX1_forceOf 93 = .ok (.iadd, 1) := dk_96 (dk_at dksX1_forceOf_3 23 rfl rfl)
theorem dX1_forceOf_94 : decode cX1_forceOf 94 = .ok (.iaload, 1) := dk_46 (dk_at dksX1_forceOf_4 0 rfl rfl)
theorem dX1_forceOf_95 : decode cX1_forceOf 95 = .ok (.iastore, 1) := dk_79 (dk_at dksX1_forceOf_4 1 rfl rfl)
theorem dX1_forceOf_96 : decode cX1_forceOf 96 = .ok (.aload_n 0, 1) := dk_42 (dk_at dksX1_forceOf_4 2 rfl rfl)
theorem dX1_forceOf_97 : decode cX1_forceOf 97 = .ok (.getfield 20, 3) := dk_180 0 20 (dk_at dksX1_forceOf_4 3 rfl rfl)
theorem dX1_forceOf_100 : decode cX1_forceOf 100 = .ok (.bipush 112, 2) := dk_16 112 (dk_at dksX1_forceOf_4 6 rfl rfl)
theorem dX1_forceOf_102 : decode cX1_forceOf 102 = .ok (.aload_n 0, 1) := dk_42 (dk_at dksX1_forceOf_4 8 rfl rfl)
theorem dX1_forceOf_103 : decode cX1_forceOf 103 = .ok (.iload_n 1, 1) := dk_27 (dk_at dksX1_forceOf_4 9 rfl rfl)
theorem dX1_forceOf_104 : decode cX1_forceOf 104 = .ok (.invokevirtual 330, 3) := dk_182 1 74 (dk_at dksX1_forceOf_4 10 rfl rfl)
theorem dX1_forceOf_107 : decode cX1_forceOf 107 = .ok (.iastore, 1) := dk_79 (dk_at dksX1_forceOf_4 13 rfl rfl)
theorem dX1_forceOf_108 : decode cX1_forceOf 108 = .ok (.aload_n 0, 1) := dk_42 (dk_at dksX1_forceOf_4 14 rfl rfl)
theorem dX1_forceOf_109 : decode cX1_forceOf 109 = .ok (.getfield 20, 3) := dk_180 0 20 (dk_at dksX1_forceOf_4 15 rfl rfl)
theorem dX1_forceOf_112 : decode cX1_forceOf 112 = .ok (.bipush 119, 2) := dk_16 119 (dk_at dksX1_forceOf_4 18 rfl rfl)
theorem dX1_forceOf_114 : decode cX1_forceOf 114 = .ok (.aload_n 0, 1) := dk_42 (dk_at dksX1_forceOf_4 20 rfl rfl)
theorem dX1_forceOf_115 : decode cX1_forceOf 115 = .ok (.getfield 58, 3) := dk_180 0 58 (dk_at dksX1_forceOf_4 21 rfl rfl)
theorem dX1_forceOf_118 : decode cX1_forceOf 118 = .ok (.bipush 12, 2) := dk_16 12 (dk_at dksX1_forceOf_5 0 rfl rfl)
theorem dX1_forceOf_120 : decode cX1_forceOf 120 = .ok (.iload_n 1, 1) := dk_27 (dk_at dksX1_forceOf_5 2 rfl rfl)
theorem dX1_forceOf_121 : decode cX1_forceOf 121 = .ok (.iadd, 1) := dk_96 (dk_at dksX1_forceOf_5 3 rfl rfl)
theorem dX1_forceOf_122 : decode cX1_forceOf 122 = .ok (.iaload, 1) := dk_46 (dk_at dksX1_forceOf_5 4 rfl rfl)
theorem dX1_forceOf_123 : decode cX1_forceOf 123 = .ok (.iastore, 1) := dk_79 (dk_at dksX1_forceOf_5 5 rfl rfl)
theorem dX1_forceOf_124 : decode cX1_forceOf 124 = .ok (.aload_n 0, 1) := dk_42 (dk_at dksX1_forceOf_5 6 rfl rfl)
theorem dX1_forceOf_125 : decode cX1_forceOf 125 = .ok (.getfield 20, 3) := dk_180 0 20 (dk_at dksX1_forceOf_5 7 rfl rfl)
theorem dX1_forceOf_128 : decode cX1_forceOf 128 = .ok (.bipush 100, 2) := dk_16 100 (dk_at dksX1_forceOf_5 10 rfl rfl)
theorem dX1_forceOf_130 : decode cX1_forceOf 130 = .ok (.aload_n 0, 1) := dk_42 (dk_at dksX1_forceOf_5 12 rfl rfl)
theorem dX1_forceOf_131 : decode cX1_forceOf 131 = .ok (.getfield 58, 3) := dk_180 0 58 (dk_at dksX1_forceOf_5 13 rfl rfl)
theorem dX1_forceOf_134 : decode cX1_forceOf 134 = .ok (.bipush 18, 2) := dk_16 18 (dk_at dksX1_forceOf_5 16 rfl rfl)
theorem dX1_forceOf_136 : decode cX1_forceOf 136 = .ok (.iaload, 1) := dk_46 (dk_at dksX1_forceOf_5 18 rfl rfl)
theorem dX1_forceOf_137 : decode cX1_forceOf 137 = .ok (.iastore, 1) := dk_79 (dk_at dksX1_forceOf_5 19 rfl rfl)
theorem dX1_forceOf_138 : decode cX1_forceOf 138 = .ok (.aload_n 0, 1) := dk_42 (dk_at dksX1_forceOf_5 20 rfl rfl)
theorem dX1_forceOf_139 : decode cX1_forceOf 139 = .ok (.getfield 47, 3) := dk_180 0 47 (dk_at dksX1_forceOf_5 21 rfl rfl)
theorem dX1_forceOf_142 : decode cX1_forceOf 142 = .ok (.aload_n 0, 1) := dk_42 (dk_at dksX1_forceOf_6 0 rfl rfl)
theorem dX1_forceOf_143 : decode cX1_forceOf 143 = .ok (.getfield 51, 3) := dk_180 0 51 (dk_at dksX1_forceOf_6 1 rfl rfl)
theorem dX1_forceOf_146 : decode cX1_forceOf 146 = .ok (.aaload, 1) := dk_50 (dk_at dksX1_forceOf_6 4 rfl rfl)
theorem dX1_forceOf_147 : decode cX1_forceOf 147 = .ok (.bipush 121, 2) := dk_16 121 (dk_at dksX1_forceOf_6 5 rfl rfl)
theorem dX1_forceOf_149 : decode cX1_forceOf 149 = .ok (.aload_n 0, 1) := dk_42 (dk_at dksX1_forceOf_6 7 rfl rfl)
theorem dX1_forceOf_150 : decode cX1_forceOf 150 = .ok (.getfield 20, 3) := dk_180 0 20 (dk_at dksX1_forceOf_6 8 rfl rfl)
theorem dX1_forceOf_153 : decode cX1_forceOf 153 = .ok (.invokestatic 342, 3) := dk_184 1 86 (dk_at dksX1_forceOf_6 11 rfl rfl)
theorem dX1_forceOf_156 : decode cX1_forceOf 156 = .ok (.istore 4, 2) := dk_54 4 (dk_at dksX1_forceOf_6 14 rfl rfl)
theorem dX1_forceOf_158 : decode cX1_forceOf 158 = .ok (.iconst 0, 1) := dk_3 (dk_at dksX1_forceOf_6 16 rfl rfl)
theorem dX1_forceOf_159 : decode cX1_forceOf 159 = .ok (.bipush 60, 2) := dk_16 60 (dk_at dksX1_forceOf_6 17 rfl rfl)
theorem dX1_forceOf_161 : decode cX1_forceOf 161 = .ok (.iload 4, 2) := dk_21 4 (dk_at dksX1_forceOf_6 19 rfl rfl)
theorem dX1_forceOf_163 : decode cX1_forceOf 163 = .ok (.invokestatic 346, 3) := dk_184 1 90 (dk_at dksX1_forceOf_6 21 rfl rfl)
theorem dX1_forceOf_166 : decode cX1_forceOf 166 = .ok (.invokestatic 351, 3) := dk_184 1 95 (dk_at dksX1_forceOf_7 0 rfl rfl)
theorem dX1_forceOf_169 : decode cX1_forceOf 169 = .ok (.istore 4, 2) := dk_54 4 (dk_at dksX1_forceOf_7 3 rfl rfl)
theorem dX1_forceOf_171 : decode cX1_forceOf 171 = .ok (.aload_n 0, 1) := dk_42 (dk_at dksX1_forceOf_7 5 rfl rfl)
theorem dX1_forceOf_172 : decode cX1_forceOf 172 = .ok (.getfield 58, 3) := dk_180 0 58 (dk_at dksX1_forceOf_7 6 rfl rfl)
theorem dX1_forceOf_175 : decode cX1_forceOf 175 = .ok (.bipush 16, 2) := dk_16 16 (dk_at dksX1_forceOf_7 9 rfl rfl)
theorem dX1_forceOf_177 : decode cX1_forceOf 177 = .ok (.iaload, 1) := dk_46 (dk_at dksX1_forceOf_7 11 rfl rfl)
theorem dX1_forceOf_178 : decode cX1_forceOf 178 = .ok (.iload_n 1, 1) := dk_27 (dk_at dksX1_forceOf_7 12 rfl rfl)
theorem dX1_forceOf_179 : decode cX1_forceOf 179 = .ok (.invokestatic 250, 3) := dk_184 0 250 (dk_at dksX1_forceOf_7 13 rfl rfl)
theorem dX1_forceOf_182 : decode cX1_forceOf 182 = .ok (.ifCond .eq 10, 3) := dk_153 0 10 (dk_at dksX1_forceOf_7 16 rfl rfl)
theorem dX1_forceOf_185 : decode cX1_forceOf 185 = .ok (.iload 4, 2) := dk_21 4 (dk_at dksX1_forceOf_7 19 rfl rfl)
theorem dX1_forceOf_187 : decode cX1_forceOf 187 = .ok (.iconst 2, 1) := dk_5 (dk_at dksX1_forceOf_7 21 rfl rfl)
theorem dX1_forceOf_188 : decode cX1_forceOf 188 = .ok (.idiv, 1) := dk_108 (dk_at dksX1_forceOf_7 22 rfl rfl)
theorem dX1_forceOf_189 : decode cX1_forceOf 189 = .ok (.goto 5, 3) := dk_167 0 5 (dk_at dksX1_forceOf_8 0 rfl rfl)
theorem dX1_forceOf_192 : decode cX1_forceOf 192 = .ok (.iload 4, 2) := dk_21 4 (dk_at dksX1_forceOf_8 3 rfl rfl)
theorem dX1_forceOf_194 : decode cX1_forceOf 194 = .ok (.ireturn, 1) := dk_172 (dk_at dksX1_forceOf_8 5 rfl rfl)
abbrev cX1_forget : ByteArray := prog_1_method_23_code
def yX1_forget : MethodName := ⟨RX1, "forget", "()V"⟩
def dkwX1_forget_1 : List UInt8 := [132, 1, 1, 167, 255, 232, 177]
abbrev dktX1_forget_1 : List UInt8 := dkwX1_forget_1 ++ []
def dkwX1_forget_0 : List UInt8 := [3, 60, 27, 18, 117, 182, 0, 201, 162, 0, 21, 42, 180, 0, 20, 18, 117, 27, 182, 0, 204, 3, 79]
abbrev dktX1_forget_0 : List UInt8 := dkwX1_forget_0 ++ dktX1_forget_1
theorem dksX1_forget_0 : cX1_forget.data.toList.drop 0 = dktX1_forget_0 := by decide +kernel
theorem dksX1_forget_1 : cX1_forget.data.toList.drop 23 = dktX1_forget_1 := dk_seg dksX1_forget_0 23 rfl rfl
theorem dX1_forget_0 : decode cX1_forget 0 = .ok (.iconst 0, 1) := dk_3 (dk_at dksX1_forget_0 0 rfl rfl)
theorem dX1_forget_1 : decode cX1_forget 1 = .ok (.istore_n 1, 1) := dk_60 (dk_at dksX1_forget_0 1 rfl rfl)
theorem dX1_forget_2 : decode cX1_forget 2 = .ok (.iload_n 1, 1) := dk_27 (dk_at dksX1_forget_0 2 rfl rfl)
theorem dX1_forget_3 : decode cX1_forget 3 = .ok (.ldc 117, 2) := dk_18 117 (dk_at dksX1_forget_0 3 rfl rfl)
theorem dX1_forget_5 : decode cX1_forget 5 = .ok (.invokevirtual 201, 3) := dk_182 0 201 (dk_at dksX1_forget_0 5 rfl rfl)
theorem dX1_forget_8 : decode cX1_forget 8 = .ok (.if_icmp .ge 21, 3) := dk_162 0 21 (dk_at dksX1_forget_0 8 rfl rfl)
theorem dX1_forget_11 : decode cX1_forget 11 = .ok (.aload_n 0, 1) := dk_42 (dk_at dksX1_forget_0 11 rfl rfl)
theorem dX1_forget_12 : decode cX1_forget 12 = .ok (.getfield 20, 3) := dk_180 0 20 (dk_at dksX1_forget_0 12 rfl rfl)
theorem dX1_forget_15 : decode cX1_forget 15 = .ok (.ldc 117, 2) := dk_18 117 (dk_at dksX1_forget_0 15 rfl rfl)
theorem dX1_forget_17 : decode cX1_forget 17 = .ok (.iload_n 1, 1) := dk_27 (dk_at dksX1_forget_0 17 rfl rfl)
theorem dX1_forget_18 : decode cX1_forget 18 = .ok (.invokevirtual 204, 3) := dk_182 0 204 (dk_at dksX1_forget_0 18 rfl rfl)
theorem dX1_forget_21 : decode cX1_forget 21 = .ok (.iconst 0, 1) := dk_3 (dk_at dksX1_forget_0 21 rfl rfl)
theorem dX1_forget_22 : decode cX1_forget 22 = .ok (.iastore, 1) := dk_79 (dk_at dksX1_forget_0 22 rfl rfl)
theorem dX1_forget_23 : decode cX1_forget 23 = .ok (.iinc 1 1, 3) := dk_132 1 1 (dk_at dksX1_forget_1 0 rfl rfl)
theorem dX1_forget_26 : decode cX1_forget 26 = .ok (.goto (-24), 3) := dk_167 255 232 (dk_at dksX1_forget_1 3 rfl rfl)
theorem dX1_forget_29 : decode cX1_forget 29 = .ok (.return_, 1) := dk_177 (dk_at dksX1_forget_1 6 rfl rfl)
abbrev cX1_pagesOf : ByteArray := prog_1_method_46_code
def yX1_pagesOf : MethodName := ⟨RX1, "pagesOf", "(I)I"⟩
def dkwX1_pagesOf_1 : List UInt8 := [160, 0, 6, 132, 2, 1, 132, 3, 1, 167, 255, 229, 28, 172]
abbrev dktX1_pagesOf_1 : List UInt8 := dkwX1_pagesOf_1 ++ []
def dkwX1_pagesOf_0 : List UInt8 := [3, 61, 3, 62, 29, 42, 180, 0, 58, 16, 19, 46, 162, 0, 22, 42, 29, 4, 182, 1, 65, 27]
abbrev dktX1_pagesOf_0 : List UInt8 := dkwX1_pagesOf_0 ++ dktX1_pagesOf_1
theorem dksX1_pagesOf_0 : cX1_pagesOf.data.toList.drop 0 = dktX1_pagesOf_0 := by decide +kernel
theorem dksX1_pagesOf_1 : cX1_pagesOf.data.toList.drop 22 = dktX1_pagesOf_1 := dk_seg dksX1_pagesOf_0 22 rfl rfl
theorem dX1_pagesOf_0 : decode cX1_pagesOf 0 = .ok (.iconst 0, 1) := dk_3 (dk_at dksX1_pagesOf_0 0 rfl rfl)
theorem dX1_pagesOf_1 : decode cX1_pagesOf 1 = .ok (.istore_n 2, 1) := dk_61 (dk_at dksX1_pagesOf_0 1 rfl rfl)
theorem dX1_pagesOf_2 : decode cX1_pagesOf 2 = .ok (.iconst 0, 1) := dk_3 (dk_at dksX1_pagesOf_0 2 rfl rfl)
theorem dX1_pagesOf_3 : decode cX1_pagesOf 3 = .ok (.istore_n 3, 1) := dk_62 (dk_at dksX1_pagesOf_0 3 rfl rfl)
theorem dX1_pagesOf_4 : decode cX1_pagesOf 4 = .ok (.iload_n 3, 1) := dk_29 (dk_at dksX1_pagesOf_0 4 rfl rfl)
theorem dX1_pagesOf_5 : decode cX1_pagesOf 5 = .ok (.aload_n 0, 1) := dk_42 (dk_at dksX1_pagesOf_0 5 rfl rfl)
theorem dX1_pagesOf_6 : decode cX1_pagesOf 6 = .ok (.getfield 58, 3) := dk_180 0 58 (dk_at dksX1_pagesOf_0 6 rfl rfl)
theorem dX1_pagesOf_9 : decode cX1_pagesOf 9 = .ok (.bipush 19, 2) := dk_16 19 (dk_at dksX1_pagesOf_0 9 rfl rfl)
theorem dX1_pagesOf_11 : decode cX1_pagesOf 11 = .ok (.iaload, 1) := dk_46 (dk_at dksX1_pagesOf_0 11 rfl rfl)
theorem dX1_pagesOf_12 : decode cX1_pagesOf 12 = .ok (.if_icmp .ge 22, 3) := dk_162 0 22 (dk_at dksX1_pagesOf_0 12 rfl rfl)
theorem dX1_pagesOf_15 : decode cX1_pagesOf 15 = .ok (.aload_n 0, 1) := dk_42 (dk_at dksX1_pagesOf_0 15 rfl rfl)
theorem dX1_pagesOf_16 : decode cX1_pagesOf 16 = .ok (.iload_n 3, 1) := dk_29 (dk_at dksX1_pagesOf_0 16 rfl rfl)
theorem dX1_pagesOf_17 : decode cX1_pagesOf 17 = .ok (.iconst 1, 1) := dk_4 (dk_at dksX1_pagesOf_0 17 rfl rfl)
theorem dX1_pagesOf_18 : decode cX1_pagesOf 18 = .ok (.invokevirtual 321, 3) := dk_182 1 65 (dk_at dksX1_pagesOf_0 18 rfl rfl)
theorem dX1_pagesOf_21 : decode cX1_pagesOf 21 = .ok (.iload_n 1, 1) := dk_27 (dk_at dksX1_pagesOf_0 21 rfl rfl)
theorem dX1_pagesOf_22 : decode cX1_pagesOf 22 = .ok (.if_icmp .ne 6, 3) := dk_160 0 6 (dk_at dksX1_pagesOf_1 0 rfl rfl)
theorem dX1_pagesOf_25 : decode cX1_pagesOf 25 = .ok (.iinc 2 1, 3) := dk_132 2 1 (dk_at dksX1_pagesOf_1 3 rfl rfl)
theorem dX1_pagesOf_28 : decode cX1_pagesOf 28 = .ok (.iinc 3 1, 3) := dk_132 3 1 (dk_at dksX1_pagesOf_1 6 rfl rfl)
theorem dX1_pagesOf_31 : decode cX1_pagesOf 31 = .ok (.goto (-27), 3) := dk_167 255 229 (dk_at dksX1_pagesOf_1 9 rfl rfl)
theorem dX1_pagesOf_34 : decode cX1_pagesOf 34 = .ok (.iload_n 2, 1) := dk_28 (dk_at dksX1_pagesOf_1 12 rfl rfl)
theorem dX1_pagesOf_35 : decode cX1_pagesOf 35 = .ok (.ireturn, 1) := dk_172 (dk_at dksX1_pagesOf_1 13 rfl rfl)
abbrev cX1_pageOf : ByteArray := prog_1_method_45_code
def yX1_pageOf : MethodName := ⟨RX1, "pageOf", "(II)I"⟩
def dkwX1_pageOf_0 : List UInt8 := [42, 180, 0, 58, 16, 20, 6, 27, 104, 96, 28, 96, 46, 172]
abbrev dktX1_pageOf_0 : List UInt8 := dkwX1_pageOf_0 ++ []
theorem dksX1_pageOf_0 : cX1_pageOf.data.toList.drop 0 = dktX1_pageOf_0 := by decide +kernel
theorem dX1_pageOf_0 : decode cX1_pageOf 0 = .ok (.aload_n 0, 1) := dk_42 (dk_at dksX1_pageOf_0 0 rfl rfl)
theorem dX1_pageOf_1 : decode cX1_pageOf 1 = .ok (.getfield 58, 3) := dk_180 0 58 (dk_at dksX1_pageOf_0 1 rfl rfl)
theorem dX1_pageOf_4 : decode cX1_pageOf 4 = .ok (.bipush 20, 2) := dk_16 20 (dk_at dksX1_pageOf_0 4 rfl rfl)
theorem dX1_pageOf_6 : decode cX1_pageOf 6 = .ok (.iconst 3, 1) := dk_6 (dk_at dksX1_pageOf_0 6 rfl rfl)
theorem dX1_pageOf_7 : decode cX1_pageOf 7 = .ok (.iload_n 1, 1) := dk_27 (dk_at dksX1_pageOf_0 7 rfl rfl)
theorem dX1_pageOf_8 : decode cX1_pageOf 8 = .ok (.imul, 1) := dk_104 (dk_at dksX1_pageOf_0 8 rfl rfl)
theorem dX1_pageOf_9 : decode cX1_pageOf 9 = .ok (.iadd, 1) := dk_96 (dk_at dksX1_pageOf_0 9 rfl rfl)
theorem dX1_pageOf_10 : decode cX1_pageOf 10 = .ok (.iload_n 2, 1) := dk_28 (dk_at dksX1_pageOf_0 10 rfl rfl)
theorem dX1_pageOf_11 : decode cX1_pageOf 11 = .ok (.iadd, 1) := dk_96 (dk_at dksX1_pageOf_0 11 rfl rfl)
theorem dX1_pageOf_12 : decode cX1_pageOf 12 = .ok (.iaload, 1) := dk_46 (dk_at dksX1_pageOf_0 12 rfl rfl)
theorem dX1_pageOf_13 : decode cX1_pageOf 13 = .ok (.ireturn, 1) := dk_172 (dk_at dksX1_pageOf_0 13 rfl rfl)
abbrev cX1_worth : ByteArray := prog_1_method_24_code
def yX1_worth : MethodName := ⟨RX1, "worth", "(LLosersBooks$Clause;I[I)I"⟩
def dkwX1_worth_2 : List UInt8 := [167, 255, 212, 3, 172]
abbrev dktX1_worth_2 : List UInt8 := dkwX1_worth_2 ++ []
def dkwX1_worth_1 : List UInt8 := [180, 0, 211, 44, 182, 0, 215, 153, 0, 12, 45, 180, 0, 221, 44, 182, 0, 224, 172, 45, 180, 0, 194, 78]
abbrev dktX1_worth_1 : List UInt8 := dkwX1_worth_1 ++ dktX1_worth_2
def dkwX1_worth_0 : List UInt8 := [42, 78, 45, 198, 0, 46, 45, 180, 0, 208, 27, 160, 0, 30, 45, 180, 0, 211, 198, 0, 14, 45]
abbrev dktX1_worth_0 : List UInt8 := dkwX1_worth_0 ++ dktX1_worth_1
theorem dksX1_worth_0 : cX1_worth.data.toList.drop 0 = dktX1_worth_0 := by decide +kernel
theorem dksX1_worth_1 : cX1_worth.data.toList.drop 22 = dktX1_worth_1 := dk_seg dksX1_worth_0 22 rfl rfl
theorem dksX1_worth_2 : cX1_worth.data.toList.drop 46 = dktX1_worth_2 := dk_seg dksX1_worth_1 24 rfl rfl
theorem dX1_worth_0 : decode cX1_worth 0 = .ok (.aload_n 0, 1) := dk_42 (dk_at dksX1_worth_0 0 rfl rfl)
theorem dX1_worth_1 : decode cX1_worth 1 = .ok (.astore_n 3, 1) := dk_78 (dk_at dksX1_worth_0 1 rfl rfl)
theorem dX1_worth_2 : decode cX1_worth 2 = .ok (.aload_n 3, 1) := dk_45 (dk_at dksX1_worth_0 2 rfl rfl)
theorem dX1_worth_3 : decode cX1_worth 3 = .ok (.ifnull 46, 3) := dk_198 0 46 (dk_at dksX1_worth_0 3 rfl rfl)
theorem dX1_worth_6 : decode cX1_worth 6 = .ok (.aload_n 3, 1) := dk_45 (dk_at dksX1_worth_0 6 rfl rfl)
theorem dX1_worth_7 : decode cX1_worth 7 = .ok (.getfield 208, 3) := dk_180 0 208 (dk_at dksX1_worth_0 7 rfl rfl)
theorem dX1_worth_10 : decode cX1_worth 10 = .ok (.iload_n 1, 1) := dk_27 (dk_at dksX1_worth_0 10 rfl rfl)
theorem dX1_worth_11 : decode cX1_worth 11 = .ok (.if_icmp .ne 30, 3) := dk_160 0 30 (dk_at dksX1_worth_0 11 rfl rfl)
theorem dX1_worth_14 : decode cX1_worth 14 = .ok (.aload_n 3, 1) := dk_45 (dk_at dksX1_worth_0 14 rfl rfl)
theorem dX1_worth_15 : decode cX1_worth 15 = .ok (.getfield 211, 3) := dk_180 0 211 (dk_at dksX1_worth_0 15 rfl rfl)
theorem dX1_worth_18 : decode cX1_worth 18 = .ok (.ifnull 14, 3) := dk_198 0 14 (dk_at dksX1_worth_0 18 rfl rfl)
theorem dX1_worth_21 : decode cX1_worth 21 = .ok (.aload_n 3, 1) := dk_45 (dk_at dksX1_worth_0 21 rfl rfl)
theorem dX1_worth_22 : decode cX1_worth 22 = .ok (.getfield 211, 3) := dk_180 0 211 (dk_at dksX1_worth_1 0 rfl rfl)
theorem dX1_worth_25 : decode cX1_worth 25 = .ok (.aload_n 2, 1) := dk_44 (dk_at dksX1_worth_1 3 rfl rfl)
theorem dX1_worth_26 : decode cX1_worth 26 = .ok (.invokevirtual 215, 3) := dk_182 0 215 (dk_at dksX1_worth_1 4 rfl rfl)
theorem dX1_worth_29 : decode cX1_worth 29 = .ok (.ifCond .eq 12, 3) := dk_153 0 12 (dk_at dksX1_worth_1 7 rfl rfl)
theorem dX1_worth_32 : decode cX1_worth 32 = .ok (.aload_n 3, 1) := dk_45 (dk_at dksX1_worth_1 10 rfl rfl)
theorem dX1_worth_33 : decode cX1_worth 33 = .ok (.getfield 221, 3) := dk_180 0 221 (dk_at dksX1_worth_1 11 rfl rfl)
theorem dX1_worth_36 : decode cX1_worth 36 = .ok (.aload_n 2, 1) := dk_44 (dk_at dksX1_worth_1 14 rfl rfl)
theorem dX1_worth_37 : decode cX1_worth 37 = .ok (.invokevirtual 224, 3) := dk_182 0 224 (dk_at dksX1_worth_1 15 rfl rfl)
theorem dX1_worth_40 : decode cX1_worth 40 = .ok (.ireturn, 1) := dk_172 (dk_at dksX1_worth_1 18 rfl rfl)
theorem dX1_worth_41 : decode cX1_worth 41 = .ok (.aload_n 3, 1) := dk_45 (dk_at dksX1_worth_1 19 rfl rfl)
theorem dX1_worth_42 : decode cX1_worth 42 = .ok (.getfield 194, 3) := dk_180 0 194 (dk_at dksX1_worth_1 20 rfl rfl)
theorem dX1_worth_45 : decode cX1_worth 45 = .ok (.astore_n 3, 1) := dk_78 (dk_at dksX1_worth_1 23 rfl rfl)
theorem dX1_worth_46 : decode cX1_worth 46 = .ok (.goto (-44), 3) := dk_167 255 212 (dk_at dksX1_worth_2 0 rfl rfl)
theorem dX1_worth_49 : decode cX1_worth 49 = .ok (.iconst 0, 1) := dk_3 (dk_at dksX1_worth_2 3 rfl rfl)
theorem dX1_worth_50 : decode cX1_worth 50 = .ok (.ireturn, 1) := dk_172 (dk_at dksX1_worth_2 4 rfl rfl)
abbrev cX1_beatenOf : ByteArray := prog_1_method_53_code
def yX1_beatenOf : MethodName := ⟨RX1, "beatenOf", "(I)I"⟩
def dkwX1_beatenOf_1 : List UInt8 := [182, 1, 80, 96, 28, 100, 172]
abbrev dktX1_beatenOf_1 : List UInt8 := dkwX1_beatenOf_1 ++ []
def dkwX1_beatenOf_0 : List UInt8 := [42, 27, 182, 1, 101, 61, 28, 2, 160, 0, 7, 2, 167, 0, 18, 42, 27, 3, 182, 1, 80, 42, 27, 4]
abbrev dktX1_beatenOf_0 : List UInt8 := dkwX1_beatenOf_0 ++ dktX1_beatenOf_1
theorem dksX1_beatenOf_0 : cX1_beatenOf.data.toList.drop 0 = dktX1_beatenOf_0 := by decide +kernel
theorem dksX1_beatenOf_1 : cX1_beatenOf.data.toList.drop 24 = dktX1_beatenOf_1 := dk_seg dksX1_beatenOf_0 24 rfl rfl
theorem dX1_beatenOf_0 : decode cX1_beatenOf 0 = .ok (.aload_n 0, 1) := dk_42 (dk_at dksX1_beatenOf_0 0 rfl rfl)
theorem dX1_beatenOf_1 : decode cX1_beatenOf 1 = .ok (.iload_n 1, 1) := dk_27 (dk_at dksX1_beatenOf_0 1 rfl rfl)
theorem dX1_beatenOf_2 : decode cX1_beatenOf 2 = .ok (.invokevirtual 357, 3) := dk_182 1 101 (dk_at dksX1_beatenOf_0 2 rfl rfl)
theorem dX1_beatenOf_5 : decode cX1_beatenOf 5 = .ok (.istore_n 2, 1) := dk_61 (dk_at dksX1_beatenOf_0 5 rfl rfl)
theorem dX1_beatenOf_6 : decode cX1_beatenOf 6 = .ok (.iload_n 2, 1) := dk_28 (dk_at dksX1_beatenOf_0 6 rfl rfl)
theorem dX1_beatenOf_7 : decode cX1_beatenOf 7 = .ok (.iconst (-1), 1) := dk_2 (dk_at dksX1_beatenOf_0 7 rfl rfl)
theorem dX1_beatenOf_8 : decode cX1_beatenOf 8 = .ok (.if_icmp .ne 7, 3) := dk_160 0 7 (dk_at dksX1_beatenOf_0 8 rfl rfl)
theorem dX1_beatenOf_11 : decode cX1_beatenOf 11 = .ok (.iconst (-1), 1) := dk_2 (dk_at dksX1_beatenOf_0 11 rfl rfl)
theorem dX1_beatenOf_12 : decode cX1_beatenOf 12 = .ok (.goto 18, 3) := dk_167 0 18 (dk_at dksX1_beatenOf_0 12 rfl rfl)
theorem dX1_beatenOf_15 : decode cX1_beatenOf 15 = .ok (.aload_n 0, 1) := dk_42 (dk_at dksX1_beatenOf_0 15 rfl rfl)
theorem dX1_beatenOf_16 : decode cX1_beatenOf 16 = .ok (.iload_n 1, 1) := dk_27 (dk_at dksX1_beatenOf_0 16 rfl rfl)
theorem dX1_beatenOf_17 : decode cX1_beatenOf 17 = .ok (.iconst 0, 1) := dk_3 (dk_at dksX1_beatenOf_0 17 rfl rfl)
theorem dX1_beatenOf_18 : decode cX1_beatenOf 18 = .ok (.invokevirtual 336, 3) := dk_182 1 80 (dk_at dksX1_beatenOf_0 18 rfl rfl)
theorem dX1_beatenOf_21 : decode cX1_beatenOf 21 = .ok (.aload_n 0, 1) := dk_42 (dk_at dksX1_beatenOf_0 21 rfl rfl)
theorem dX1_beatenOf_22 : decode cX1_beatenOf 22 = .ok (.iload_n 1, 1) := dk_27 (dk_at dksX1_beatenOf_0 22 rfl rfl)
theorem dX1_beatenOf_23 : decode cX1_beatenOf 23 = .ok (.iconst 1, 1) := dk_4 (dk_at dksX1_beatenOf_0 23 rfl rfl)
theorem dX1_beatenOf_24 : decode cX1_beatenOf 24 = .ok (.invokevirtual 336, 3) := dk_182 1 80 (dk_at dksX1_beatenOf_1 0 rfl rfl)
theorem dX1_beatenOf_27 : decode cX1_beatenOf 27 = .ok (.iadd, 1) := dk_96 (dk_at dksX1_beatenOf_1 3 rfl rfl)
theorem dX1_beatenOf_28 : decode cX1_beatenOf 28 = .ok (.iload_n 2, 1) := dk_28 (dk_at dksX1_beatenOf_1 4 rfl rfl)
theorem dX1_beatenOf_29 : decode cX1_beatenOf 29 = .ok (.isub, 1) := dk_100 (dk_at dksX1_beatenOf_1 5 rfl rfl)
theorem dX1_beatenOf_30 : decode cX1_beatenOf 30 = .ok (.ireturn, 1) := dk_172 (dk_at dksX1_beatenOf_1 6 rfl rfl)
abbrev cX1_writePage : ByteArray := prog_1_method_55_code
def yX1_writePage : MethodName := ⟨RX1, "writePage", "(II)V"⟩
def dkwX1_writePage_3 : List UInt8 := [180, 0, 58, 16, 19, 92, 46, 4, 96, 79, 177]
abbrev dktX1_writePage_3 : List UInt8 := dkwX1_writePage_3 ++ []
def dkwX1_writePage_2 : List UInt8 := [180, 0, 58, 29, 5, 96, 42, 27, 6, 182, 1, 80, 42, 180, 0, 58, 7, 28, 96, 46, 96, 79, 42]
abbrev dktX1_writePage_2 : List UInt8 := dkwX1_writePage_2 ++ dktX1_writePage_3
def dkwX1_writePage_1 : List UInt8 := [16, 19, 46, 104, 96, 62, 42, 180, 0, 58, 29, 27, 79, 42, 180, 0, 58, 29, 4, 96, 28, 79, 42]
abbrev dktX1_writePage_1 : List UInt8 := dkwX1_writePage_1 ++ dktX1_writePage_2
def dkwX1_writePage_0 : List UInt8 := [42, 180, 0, 58, 16, 19, 46, 16, 30, 160, 0, 8, 42, 3, 182, 1, 104, 16, 20, 6, 42, 180, 0, 58]
abbrev dktX1_writePage_0 : List UInt8 := dkwX1_writePage_0 ++ dktX1_writePage_1
theorem dksX1_writePage_0 : cX1_writePage.data.toList.drop 0 = dktX1_writePage_0 := by decide +kernel
theorem dksX1_writePage_1 : cX1_writePage.data.toList.drop 24 = dktX1_writePage_1 := dk_seg dksX1_writePage_0 24 rfl rfl
theorem dksX1_writePage_2 : cX1_writePage.data.toList.drop 47 = dktX1_writePage_2 := dk_seg dksX1_writePage_1 23 rfl rfl
theorem dksX1_writePage_3 : cX1_writePage.data.toList.drop 70 = dktX1_writePage_3 := dk_seg dksX1_writePage_2 23 rfl rfl
theorem dX1_writePage_0 : decode cX1_writePage 0 = .ok (.aload_n 0, 1) := dk_42 (dk_at dksX1_writePage_0 0 rfl rfl)
theorem dX1_writePage_1 : decode cX1_writePage 1 = .ok (.getfield 58, 3) := dk_180 0 58 (dk_at dksX1_writePage_0 1 rfl rfl)
theorem dX1_writePage_4 : decode cX1_writePage 4 = .ok (.bipush 19, 2) := dk_16 19 (dk_at dksX1_writePage_0 4 rfl rfl)
theorem dX1_writePage_6 : decode cX1_writePage 6 = .ok (.iaload, 1) := dk_46 (dk_at dksX1_writePage_0 6 rfl rfl)
theorem dX1_writePage_7 : decode cX1_writePage 7 = .ok (.bipush 30, 2) := dk_16 30 (dk_at dksX1_writePage_0 7 rfl rfl)
theorem dX1_writePage_9 : decode cX1_writePage 9 = .ok (.if_icmp .ne 8, 3) := dk_160 0 8 (dk_at dksX1_writePage_0 9 rfl rfl)
theorem dX1_writePage_12 : decode cX1_writePage 12 = .ok (.aload_n 0, 1) := dk_42 (dk_at dksX1_writePage_0 12 rfl rfl)
theorem dX1_writePage_13 : decode cX1_writePage 13 = .ok (.iconst 0, 1) := dk_3 (dk_at dksX1_writePage_0 13 rfl rfl)
theorem dX1_writePage_14 : decode cX1_writePage 14 = .ok (.invokevirtual 360, 3) := dk_182 1 104 (dk_at dksX1_writePage_0 14 rfl rfl)
theorem dX1_writePage_17 : decode cX1_writePage 17 = .ok (.bipush 20, 2) := dk_16 20 (dk_at dksX1_writePage_0 17 rfl rfl)
theorem dX1_writePage_19 : decode cX1_writePage 19 = .ok (.iconst 3, 1) := dk_6 (dk_at dksX1_writePage_0 19 rfl rfl)
theorem dX1_writePage_20 : decode cX1_writePage 20 = .ok (.aload_n 0, 1) := dk_42 (dk_at dksX1_writePage_0 20 rfl rfl)
theorem dX1_writePage_21 : decode cX1_writePage 21 = .ok (.getfield 58, 3) := dk_180 0 58 (dk_at dksX1_writePage_0 21 rfl rfl)
theorem dX1_writePage_24 : decode cX1_writePage 24 = .ok (.bipush 19, 2) := dk_16 19 (dk_at dksX1_writePage_1 0 rfl rfl)
theorem dX1_writePage_26 : decode cX1_writePage 26 = .ok (.iaload, 1) := dk_46 (dk_at dksX1_writePage_1 2 rfl rfl)
theorem dX1_writePage_27 : decode cX1_writePage 27 = .ok (.imul, 1) := dk_104 (dk_at dksX1_writePage_1 3 rfl rfl)
theorem dX1_writePage_28 : decode cX1_writePage 28 = .ok (.iadd, 1) := dk_96 (dk_at dksX1_writePage_1 4 rfl rfl)
theorem dX1_writePage_29 : decode cX1_writePage 29 = .ok (.istore_n 3, 1) := dk_62 (dk_at dksX1_writePage_1 5 rfl rfl)
theorem dX1_writePage_30 : decode cX1_writePage 30 = .ok (.aload_n 0, 1) := dk_42 (dk_at dksX1_writePage_1 6 rfl rfl)
theorem dX1_writePage_31 : decode cX1_writePage 31 = .ok (.getfield 58, 3) := dk_180 0 58 (dk_at dksX1_writePage_1 7 rfl rfl)
theorem dX1_writePage_34 : decode cX1_writePage 34 = .ok (.iload_n 3, 1) := dk_29 (dk_at dksX1_writePage_1 10 rfl rfl)
theorem dX1_writePage_35 : decode cX1_writePage 35 = .ok (.iload_n 1, 1) := dk_27 (dk_at dksX1_writePage_1 11 rfl rfl)
theorem dX1_writePage_36 : decode cX1_writePage 36 = .ok (.iastore, 1) := dk_79 (dk_at dksX1_writePage_1 12 rfl rfl)
theorem dX1_writePage_37 : decode cX1_writePage 37 = .ok (.aload_n 0, 1) := dk_42 (dk_at dksX1_writePage_1 13 rfl rfl)
theorem dX1_writePage_38 : decode cX1_writePage 38 = .ok (.getfield 58, 3) := dk_180 0 58 (dk_at dksX1_writePage_1 14 rfl rfl)
theorem dX1_writePage_41 : decode cX1_writePage 41 = .ok (.iload_n 3, 1) := dk_29 (dk_at dksX1_writePage_1 17 rfl rfl)
theorem dX1_writePage_42 : decode cX1_writePage 42 = .ok (.iconst 1, 1) := dk_4 (dk_at dksX1_writePage_1 18 rfl rfl)
theorem dX1_writePage_43 : decode cX1_writePage 43 = .ok (.iadd, 1) := dk_96 (dk_at dksX1_writePage_1 19 rfl rfl)
theorem dX1_writePage_44 : decode cX1_writePage 44 = .ok (.iload_n 2, 1) := dk_28 (dk_at dksX1_writePage_1 20 rfl rfl)
theorem dX1_writePage_45 : decode cX1_writePage 45 = .ok (.iastore, 1) := dk_79 (dk_at dksX1_writePage_1 21 rfl rfl)
theorem dX1_writePage_46 : decode cX1_writePage 46 = .ok (.aload_n 0, 1) := dk_42 (dk_at dksX1_writePage_1 22 rfl rfl)
theorem dX1_writePage_47 : decode cX1_writePage 47 = .ok (.getfield 58, 3) := dk_180 0 58 (dk_at dksX1_writePage_2 0 rfl rfl)
theorem dX1_writePage_50 : decode cX1_writePage 50 = .ok (.iload_n 3, 1) := dk_29 (dk_at dksX1_writePage_2 3 rfl rfl)
theorem dX1_writePage_51 : decode cX1_writePage 51 = .ok (.iconst 2, 1) := dk_5 (dk_at dksX1_writePage_2 4 rfl rfl)
theorem dX1_writePage_52 : decode cX1_writePage 52 = .ok (.iadd, 1) := dk_96 (dk_at dksX1_writePage_2 5 rfl rfl)
theorem dX1_writePage_53 : decode cX1_writePage 53 = .ok (.aload_n 0, 1) := dk_42 (dk_at dksX1_writePage_2 6 rfl rfl)
theorem dX1_writePage_54 : decode cX1_writePage 54 = .ok (.iload_n 1, 1) := dk_27 (dk_at dksX1_writePage_2 7 rfl rfl)
theorem dX1_writePage_55 : decode cX1_writePage 55 = .ok (.iconst 3, 1) := dk_6 (dk_at dksX1_writePage_2 8 rfl rfl)
theorem dX1_writePage_56 : decode cX1_writePage 56 = .ok (.invokevirtual 336, 3) := dk_182 1 80 (dk_at dksX1_writePage_2 9 rfl rfl)
theorem dX1_writePage_59 : decode cX1_writePage 59 = .ok (.aload_n 0, 1) := dk_42 (dk_at dksX1_writePage_2 12 rfl rfl)
theorem dX1_writePage_60 : decode cX1_writePage 60 = .ok (.getfield 58, 3) := dk_180 0 58 (dk_at dksX1_writePage_2 13 rfl rfl)
theorem dX1_writePage_63 : decode cX1_writePage 63 = .ok (.iconst 4, 1) := dk_7 (dk_at dksX1_writePage_2 16 rfl rfl)
theorem dX1_writePage_64 : decode cX1_writePage 64 = .ok (.iload_n 2, 1) := dk_28 (dk_at dksX1_writePage_2 17 rfl rfl)
theorem dX1_writePage_65 : decode cX1_writePage 65 = .ok (.iadd, 1) := dk_96 (dk_at dksX1_writePage_2 18 rfl rfl)
theorem dX1_writePage_66 : decode cX1_writePage 66 = .ok (.iaload, 1) := dk_46 (dk_at dksX1_writePage_2 19 rfl rfl)
theorem dX1_writePage_67 : decode cX1_writePage 67 = .ok (.iadd, 1) := dk_96 (dk_at dksX1_writePage_2 20 rfl rfl)
theorem dX1_writePage_68 : decode cX1_writePage 68 = .ok (.iastore, 1) := dk_79 (dk_at dksX1_writePage_2 21 rfl rfl)
theorem dX1_writePage_69 : decode cX1_writePage 69 = .ok (.aload_n 0, 1) := dk_42 (dk_at dksX1_writePage_2 22 rfl rfl)
theorem dX1_writePage_70 : decode cX1_writePage 70 = .ok (.getfield 58, 3) := dk_180 0 58 (dk_at dksX1_writePage_3 0 rfl rfl)
theorem dX1_writePage_73 : decode cX1_writePage 73 = .ok (.bipush 19, 2) := dk_16 19 (dk_at dksX1_writePage_3 3 rfl rfl)
theorem dX1_writePage_75 : decode cX1_writePage 75 = .ok (.dup2, 1) := dk_92 (dk_at dksX1_writePage_3 5 rfl rfl)
theorem dX1_writePage_76 : decode cX1_writePage 76 = .ok (.iaload, 1) := dk_46 (dk_at dksX1_writePage_3 6 rfl rfl)
theorem dX1_writePage_77 : decode cX1_writePage 77 = .ok (.iconst 1, 1) := dk_4 (dk_at dksX1_writePage_3 7 rfl rfl)
theorem dX1_writePage_78 : decode cX1_writePage 78 = .ok (.iadd, 1) := dk_96 (dk_at dksX1_writePage_3 8 rfl rfl)
theorem dX1_writePage_79 : decode cX1_writePage 79 = .ok (.iastore, 1) := dk_79 (dk_at dksX1_writePage_3 9 rfl rfl)
theorem dX1_writePage_80 : decode cX1_writePage 80 = .ok (.return_, 1) := dk_177 (dk_at dksX1_writePage_3 10 rfl rfl)
abbrev cX1_dropPage : ByteArray := prog_1_method_54_code
def yX1_dropPage : MethodName := ⟨RX1, "dropPage", "(I)V"⟩
def dkwX1_dropPage_3 : List UInt8 := [100, 79, 177]
abbrev dktX1_dropPage_3 : List UInt8 := dkwX1_dropPage_3 ++ []
def dkwX1_dropPage_2 : List UInt8 := [180, 0, 58, 16, 109, 28, 100, 3, 79, 132, 2, 1, 167, 255, 238, 42, 180, 0, 58, 16, 19, 92, 46, 4]
abbrev dktX1_dropPage_2 : List UInt8 := dkwX1_dropPage_2 ++ dktX1_dropPage_3
def dkwX1_dropPage_1 : List UInt8 := [180, 0, 58, 16, 20, 28, 96, 46, 79, 132, 2, 1, 167, 255, 227, 3, 61, 28, 6, 162, 0, 19, 42]
abbrev dktX1_dropPage_1 : List UInt8 := dkwX1_dropPage_1 ++ dktX1_dropPage_2
def dkwX1_dropPage_0 : List UInt8 := [6, 27, 104, 6, 96, 61, 28, 16, 90, 162, 0, 29, 42, 180, 0, 58, 16, 20, 28, 96, 6, 100, 42]
abbrev dktX1_dropPage_0 : List UInt8 := dkwX1_dropPage_0 ++ dktX1_dropPage_1
theorem dksX1_dropPage_0 : cX1_dropPage.data.toList.drop 0 = dktX1_dropPage_0 := by decide +kernel
theorem dksX1_dropPage_1 : cX1_dropPage.data.toList.drop 23 = dktX1_dropPage_1 := dk_seg dksX1_dropPage_0 23 rfl rfl
theorem dksX1_dropPage_2 : cX1_dropPage.data.toList.drop 46 = dktX1_dropPage_2 := dk_seg dksX1_dropPage_1 23 rfl rfl
theorem dksX1_dropPage_3 : cX1_dropPage.data.toList.drop 70 = dktX1_dropPage_3 := dk_seg dksX1_dropPage_2 24 rfl rfl
theorem dX1_dropPage_0 : decode cX1_dropPage 0 = .ok (.iconst 3, 1) := dk_6 (dk_at dksX1_dropPage_0 0 rfl rfl)
theorem dX1_dropPage_1 : decode cX1_dropPage 1 = .ok (.iload_n 1, 1) := dk_27 (dk_at dksX1_dropPage_0 1 rfl rfl)
theorem dX1_dropPage_2 : decode cX1_dropPage 2 = .ok (.imul, 1) := dk_104 (dk_at dksX1_dropPage_0 2 rfl rfl)
theorem dX1_dropPage_3 : decode cX1_dropPage 3 = .ok (.iconst 3, 1) := dk_6 (dk_at dksX1_dropPage_0 3 rfl rfl)
theorem dX1_dropPage_4 : decode cX1_dropPage 4 = .ok (.iadd, 1) := dk_96 (dk_at dksX1_dropPage_0 4 rfl rfl)
theorem dX1_dropPage_5 : decode cX1_dropPage 5 = .ok (.istore_n 2, 1) := dk_61 (dk_at dksX1_dropPage_0 5 rfl rfl)
theorem dX1_dropPage_6 : decode cX1_dropPage 6 = .ok (.iload_n 2, 1) := dk_28 (dk_at dksX1_dropPage_0 6 rfl rfl)
theorem dX1_dropPage_7 : decode cX1_dropPage 7 = .ok (.bipush 90, 2) := dk_16 90 (dk_at dksX1_dropPage_0 7 rfl rfl)
theorem dX1_dropPage_9 : decode cX1_dropPage 9 = .ok (.if_icmp .ge 29, 3) := dk_162 0 29 (dk_at dksX1_dropPage_0 9 rfl rfl)
theorem dX1_dropPage_12 : decode cX1_dropPage 12 = .ok (.aload_n 0, 1) := dk_42 (dk_at dksX1_dropPage_0 12 rfl rfl)
theorem dX1_dropPage_13 : decode cX1_dropPage 13 = .ok (.getfield 58, 3) := dk_180 0 58 (dk_at dksX1_dropPage_0 13 rfl rfl)
theorem dX1_dropPage_16 : decode cX1_dropPage 16 = .ok (.bipush 20, 2) := dk_16 20 (dk_at dksX1_dropPage_0 16 rfl rfl)
theorem dX1_dropPage_18 : decode cX1_dropPage 18 = .ok (.iload_n 2, 1) := dk_28 (dk_at dksX1_dropPage_0 18 rfl rfl)
theorem dX1_dropPage_19 : decode cX1_dropPage 19 = .ok (.iadd, 1) := dk_96 (dk_at dksX1_dropPage_0 19 rfl rfl)
theorem dX1_dropPage_20 : decode cX1_dropPage 20 = .ok (.iconst 3, 1) := dk_6 (dk_at dksX1_dropPage_0 20 rfl rfl)
theorem dX1_dropPage_21 : decode cX1_dropPage 21 = .ok (.isub, 1) := dk_100 (dk_at dksX1_dropPage_0 21 rfl rfl)
theorem dX1_dropPage_22 : decode cX1_dropPage 22 = .ok (.aload_n 0, 1) := dk_42 (dk_at dksX1_dropPage_0 22 rfl rfl)
theorem dX1_dropPage_23 : decode cX1_dropPage 23 = .ok (.getfield 58, 3) := dk_180 0 58 (dk_at dksX1_dropPage_1 0 rfl rfl)
theorem dX1_dropPage_26 : decode cX1_dropPage 26 = .ok (.bipush 20, 2) := dk_16 20 (dk_at dksX1_dropPage_1 3 rfl rfl)
theorem dX1_dropPage_28 : decode cX1_dropPage 28 = .ok (.iload_n 2, 1) := dk_28 (dk_at dksX1_dropPage_1 5 rfl rfl)
theorem dX1_dropPage_29 : decode cX1_dropPage 29 = .ok (.iadd, 1) := dk_96 (dk_at dksX1_dropPage_1 6 rfl rfl)
theorem dX1_dropPage_30 : decode cX1_dropPage 30 = .ok (.iaload, 1) := dk_46 (dk_at dksX1_dropPage_1 7 rfl rfl)
theorem dX1_dropPage_31 : decode cX1_dropPage 31 = .ok (.iastore, 1) := dk_79 (dk_at dksX1_dropPage_1 8 rfl rfl)
theorem dX1_dropPage_32 : decode cX1_dropPage 32 = .ok (.iinc 2 1, 3) := dk_132 2 1 (dk_at dksX1_dropPage_1 9 rfl rfl)
theorem dX1_dropPage_35 : decode cX1_dropPage 35 = .ok (.goto (-29), 3) := dk_167 255 227 (dk_at dksX1_dropPage_1 12 rfl rfl)
theorem dX1_dropPage_38 : decode cX1_dropPage 38 = .ok (.iconst 0, 1) := dk_3 (dk_at dksX1_dropPage_1 15 rfl rfl)
theorem dX1_dropPage_39 : decode cX1_dropPage 39 = .ok (.istore_n 2, 1) := dk_61 (dk_at dksX1_dropPage_1 16 rfl rfl)
theorem dX1_dropPage_40 : decode cX1_dropPage 40 = .ok (.iload_n 2, 1) := dk_28 (dk_at dksX1_dropPage_1 17 rfl rfl)
theorem dX1_dropPage_41 : decode cX1_dropPage 41 = .ok (.iconst 3, 1) := dk_6 (dk_at dksX1_dropPage_1 18 rfl rfl)
theorem dX1_dropPage_42 : decode cX1_dropPage 42 = .ok (.if_icmp .ge 19, 3) := dk_162 0 19 (dk_at dksX1_dropPage_1 19 rfl rfl)
theorem dX1_dropPage_45 : decode cX1_dropPage 45 = .ok (.aload_n 0, 1) := dk_42 (dk_at dksX1_dropPage_1 22 rfl rfl)
theorem dX1_dropPage_46 : decode cX1_dropPage 46 = .ok (.getfield 58, 3) := dk_180 0 58 (dk_at dksX1_dropPage_2 0 rfl rfl)
theorem dX1_dropPage_49 : decode cX1_dropPage 49 = .ok (.bipush 109, 2) := dk_16 109 (dk_at dksX1_dropPage_2 3 rfl rfl)
theorem dX1_dropPage_51 : decode cX1_dropPage 51 = .ok (.iload_n 2, 1) := dk_28 (dk_at dksX1_dropPage_2 5 rfl rfl)
theorem dX1_dropPage_52 : decode cX1_dropPage 52 = .ok (.isub, 1) := dk_100 (dk_at dksX1_dropPage_2 6 rfl rfl)
theorem dX1_dropPage_53 : decode cX1_dropPage 53 = .ok (.iconst 0, 1) := dk_3 (dk_at dksX1_dropPage_2 7 rfl rfl)
theorem dX1_dropPage_54 : decode cX1_dropPage 54 = .ok (.iastore, 1) := dk_79 (dk_at dksX1_dropPage_2 8 rfl rfl)
theorem dX1_dropPage_55 : decode cX1_dropPage 55 = .ok (.iinc 2 1, 3) := dk_132 2 1 (dk_at dksX1_dropPage_2 9 rfl rfl)
theorem dX1_dropPage_58 : decode cX1_dropPage 58 = .ok (.goto (-18), 3) := dk_167 255 238 (dk_at dksX1_dropPage_2 12 rfl rfl)
theorem dX1_dropPage_61 : decode cX1_dropPage 61 = .ok (.aload_n 0, 1) := dk_42 (dk_at dksX1_dropPage_2 15 rfl rfl)
theorem dX1_dropPage_62 : decode cX1_dropPage 62 = .ok (.getfield 58, 3) := dk_180 0 58 (dk_at dksX1_dropPage_2 16 rfl rfl)
theorem dX1_dropPage_65 : decode cX1_dropPage 65 = .ok (.bipush 19, 2) := dk_16 19 (dk_at dksX1_dropPage_2 19 rfl rfl)
theorem dX1_dropPage_67 : decode cX1_dropPage 67 = .ok (.dup2, 1) := dk_92 (dk_at dksX1_dropPage_2 21 rfl rfl)
theorem dX1_dropPage_68 : decode cX1_dropPage 68 = .ok (.iaload, 1) := dk_46 (dk_at dksX1_dropPage_2 22 rfl rfl)
theorem dX1_dropPage_69 : decode cX1_dropPage 69 = .ok (.iconst 1, 1) := dk_4 (dk_at dksX1_dropPage_2 23 rfl rfl)
theorem dX1_dropPage_70 : decode cX1_dropPage 70 = .ok (.isub, 1) := dk_100 (dk_at dksX1_dropPage_3 0 rfl rfl)
theorem dX1_dropPage_71 : decode cX1_dropPage 71 = .ok (.iastore, 1) := dk_79 (dk_at dksX1_dropPage_3 1 rfl rfl)
theorem dX1_dropPage_72 : decode cX1_dropPage 72 = .ok (.return_, 1) := dk_177 (dk_at dksX1_dropPage_3 2 rfl rfl)
abbrev cX1_hold : ByteArray := prog_1_method_61_code
def yX1_hold : MethodName := ⟨RX1, "hold", "(I)I"⟩
def dkwX1_hold_1 : List UInt8 := [120, 130, 79, 42, 180, 0, 58, 16, 16, 46, 27, 122, 4, 126, 172]
abbrev dktX1_hold_1 : List UInt8 := dkwX1_hold_1 ++ []
def dkwX1_hold_0 : List UInt8 := [42, 27, 182, 1, 68, 154, 0, 5, 2, 172, 42, 182, 1, 123, 42, 180, 0, 58, 16, 16, 92, 46, 4, 27]
abbrev dktX1_hold_0 : List UInt8 := dkwX1_hold_0 ++ dktX1_hold_1
theorem dksX1_hold_0 : cX1_hold.data.toList.drop 0 = dktX1_hold_0 := by decide +kernel
theorem dksX1_hold_1 : cX1_hold.data.toList.drop 24 = dktX1_hold_1 := dk_seg dksX1_hold_0 24 rfl rfl
theorem dX1_hold_0 : decode cX1_hold 0 = .ok (.aload_n 0, 1) := dk_42 (dk_at dksX1_hold_0 0 rfl rfl)
theorem dX1_hold_1 : decode cX1_hold 1 = .ok (.iload_n 1, 1) := dk_27 (dk_at dksX1_hold_0 1 rfl rfl)
theorem dX1_hold_2 : decode cX1_hold 2 = .ok (.invokevirtual 324, 3) := dk_182 1 68 (dk_at dksX1_hold_0 2 rfl rfl)
theorem dX1_hold_5 : decode cX1_hold 5 = .ok (.ifCond .ne 5, 3) := dk_154 0 5 (dk_at dksX1_hold_0 5 rfl rfl)
theorem dX1_hold_8 : decode cX1_hold 8 = .ok (.iconst (-1), 1) := dk_2 (dk_at dksX1_hold_0 8 rfl rfl)
theorem dX1_hold_9 : decode cX1_hold 9 = .ok (.ireturn, 1) := dk_172 (dk_at dksX1_hold_0 9 rfl rfl)
theorem dX1_hold_10 : decode cX1_hold 10 = .ok (.aload_n 0, 1) := dk_42 (dk_at dksX1_hold_0 10 rfl rfl)
theorem dX1_hold_11 : decode cX1_hold 11 = .ok (.invokevirtual 379, 3) := dk_182 1 123 (dk_at dksX1_hold_0 11 rfl rfl)
theorem dX1_hold_14 : decode cX1_hold 14 = .ok (.aload_n 0, 1) := dk_42 (dk_at dksX1_hold_0 14 rfl rfl)
theorem dX1_hold_15 : decode cX1_hold 15 = .ok (.getfield 58, 3) := dk_180 0 58 (dk_at dksX1_hold_0 15 rfl rfl)
theorem dX1_hold_18 : decode cX1_hold 18 = .ok (.bipush 16, 2) := dk_16 16 (dk_at dksX1_hold_0 18 rfl rfl)
theorem dX1_hold_20 : decode cX1_hold 20 = .ok (.dup2, 1) := dk_92 (dk_at dksX1_hold_0 20 rfl rfl)
theorem dX1_hold_21 : decode cX1_hold 21 = .ok (.iaload, 1) := dk_46 (dk_at dksX1_hold_0 21 rfl rfl)
theorem dX1_hold_22 : decode cX1_hold 22 = .ok (.iconst 1, 1) := dk_4 (dk_at dksX1_hold_0 22 rfl rfl)
theorem dX1_hold_23 : decode cX1_hold 23 = .ok (.iload_n 1, 1) := dk_27 (dk_at dksX1_hold_0 23 rfl rfl)
theorem dX1_hold_24 : decode cX1_hold 24 = .ok (.ishl, 1) := dk_120 (dk_at dksX1_hold_1 0 rfl rfl)
theorem dX1_hold_25 : decode cX1_hold 25 = .ok (.ixor, 1) := dk_130 (dk_at dksX1_hold_1 1 rfl rfl)
theorem dX1_hold_26 : decode cX1_hold 26 = .ok (.iastore, 1) := dk_79 (dk_at dksX1_hold_1 2 rfl rfl)
theorem dX1_hold_27 : decode cX1_hold 27 = .ok (.aload_n 0, 1) := dk_42 (dk_at dksX1_hold_1 3 rfl rfl)
theorem dX1_hold_28 : decode cX1_hold 28 = .ok (.getfield 58, 3) := dk_180 0 58 (dk_at dksX1_hold_1 4 rfl rfl)
theorem dX1_hold_31 : decode cX1_hold 31 = .ok (.bipush 16, 2) := dk_16 16 (dk_at dksX1_hold_1 7 rfl rfl)
theorem dX1_hold_33 : decode cX1_hold 33 = .ok (.iaload, 1) := dk_46 (dk_at dksX1_hold_1 9 rfl rfl)
theorem dX1_hold_34 : decode cX1_hold 34 = .ok (.iload_n 1, 1) := dk_27 (dk_at dksX1_hold_1 10 rfl rfl)
theorem dX1_hold_35 : decode cX1_hold 35 = .ok (.ishr, 1) := dk_122 (dk_at dksX1_hold_1 11 rfl rfl)
theorem dX1_hold_36 : decode cX1_hold 36 = .ok (.iconst 1, 1) := dk_4 (dk_at dksX1_hold_1 12 rfl rfl)
theorem dX1_hold_37 : decode cX1_hold 37 = .ok (.iand, 1) := dk_126 (dk_at dksX1_hold_1 13 rfl rfl)
theorem dX1_hold_38 : decode cX1_hold 38 = .ok (.ireturn, 1) := dk_172 (dk_at dksX1_hold_1 14 rfl rfl)
abbrev cX1_isKingdom : ByteArray := prog_1_method_41_code
def yX1_isKingdom : MethodName := ⟨RX1, "isKingdom", "(I)Z"⟩
def dkwX1_isKingdom_0 : List UInt8 := [27, 3, 42, 180, 1, 49, 4, 100, 184, 0, 233, 172]
abbrev dktX1_isKingdom_0 : List UInt8 := dkwX1_isKingdom_0 ++ []
theorem dksX1_isKingdom_0 : cX1_isKingdom.data.toList.drop 0 = dktX1_isKingdom_0 := by decide +kernel
theorem dX1_isKingdom_0 : decode cX1_isKingdom 0 = .ok (.iload_n 1, 1) := dk_27 (dk_at dksX1_isKingdom_0 0 rfl rfl)
theorem dX1_isKingdom_1 : decode cX1_isKingdom 1 = .ok (.iconst 0, 1) := dk_3 (dk_at dksX1_isKingdom_0 1 rfl rfl)
theorem dX1_isKingdom_2 : decode cX1_isKingdom 2 = .ok (.aload_n 0, 1) := dk_42 (dk_at dksX1_isKingdom_0 2 rfl rfl)
theorem dX1_isKingdom_3 : decode cX1_isKingdom 3 = .ok (.getfield 305, 3) := dk_180 1 49 (dk_at dksX1_isKingdom_0 3 rfl rfl)
theorem dX1_isKingdom_6 : decode cX1_isKingdom 6 = .ok (.iconst 1, 1) := dk_4 (dk_at dksX1_isKingdom_0 6 rfl rfl)
theorem dX1_isKingdom_7 : decode cX1_isKingdom 7 = .ok (.isub, 1) := dk_100 (dk_at dksX1_isKingdom_0 7 rfl rfl)
theorem dX1_isKingdom_8 : decode cX1_isKingdom 8 = .ok (.invokestatic 233, 3) := dk_184 0 233 (dk_at dksX1_isKingdom_0 8 rfl rfl)
theorem dX1_isKingdom_11 : decode cX1_isKingdom 11 = .ok (.ireturn, 1) := dk_172 (dk_at dksX1_isKingdom_0 11 rfl rfl)
abbrev cX1_arm : ByteArray := prog_1_method_64_code
def yX1_arm : MethodName := ⟨RX1, "arm", "(I)I"⟩
def dkwX1_arm_1 : List UInt8 := [27, 96, 46, 172]
abbrev dktX1_arm_1 : List UInt8 := dkwX1_arm_1 ++ []
def dkwX1_arm_0 : List UInt8 := [42, 27, 182, 1, 129, 154, 0, 5, 2, 172, 42, 182, 1, 123, 42, 27, 182, 1, 132, 42, 180, 0, 58, 3]
abbrev dktX1_arm_0 : List UInt8 := dkwX1_arm_0 ++ dktX1_arm_1
theorem dksX1_arm_0 : cX1_arm.data.toList.drop 0 = dktX1_arm_0 := by decide +kernel
theorem dksX1_arm_1 : cX1_arm.data.toList.drop 24 = dktX1_arm_1 := dk_seg dksX1_arm_0 24 rfl rfl
theorem dX1_arm_0 : decode cX1_arm 0 = .ok (.aload_n 0, 1) := dk_42 (dk_at dksX1_arm_0 0 rfl rfl)
theorem dX1_arm_1 : decode cX1_arm 1 = .ok (.iload_n 1, 1) := dk_27 (dk_at dksX1_arm_0 1 rfl rfl)
theorem dX1_arm_2 : decode cX1_arm 2 = .ok (.invokevirtual 385, 3) := dk_182 1 129 (dk_at dksX1_arm_0 2 rfl rfl)
theorem dX1_arm_5 : decode cX1_arm 5 = .ok (.ifCond .ne 5, 3) := dk_154 0 5 (dk_at dksX1_arm_0 5 rfl rfl)
theorem dX1_arm_8 : decode cX1_arm 8 = .ok (.iconst (-1), 1) := dk_2 (dk_at dksX1_arm_0 8 rfl rfl)
theorem dX1_arm_9 : decode cX1_arm 9 = .ok (.ireturn, 1) := dk_172 (dk_at dksX1_arm_0 9 rfl rfl)
theorem dX1_arm_10 : decode cX1_arm 10 = .ok (.aload_n 0, 1) := dk_42 (dk_at dksX1_arm_0 10 rfl rfl)
theorem dX1_arm_11 : decode cX1_arm 11 = .ok (.invokevirtual 379, 3) := dk_182 1 123 (dk_at dksX1_arm_0 11 rfl rfl)
theorem dX1_arm_14 : decode cX1_arm 14 = .ok (.aload_n 0, 1) := dk_42 (dk_at dksX1_arm_0 14 rfl rfl)
theorem dX1_arm_15 : decode cX1_arm 15 = .ok (.iload_n 1, 1) := dk_27 (dk_at dksX1_arm_0 15 rfl rfl)
theorem dX1_arm_16 : decode cX1_arm 16 = .ok (.invokevirtual 388, 3) := dk_182 1 132 (dk_at dksX1_arm_0 16 rfl rfl)
theorem dX1_arm_19 : decode cX1_arm 19 = .ok (.aload_n 0, 1) := dk_42 (dk_at dksX1_arm_0 19 rfl rfl)
theorem dX1_arm_20 : decode cX1_arm 20 = .ok (.getfield 58, 3) := dk_180 0 58 (dk_at dksX1_arm_0 20 rfl rfl)
theorem dX1_arm_23 : decode cX1_arm 23 = .ok (.iconst 0, 1) := dk_3 (dk_at dksX1_arm_0 23 rfl rfl)
theorem dX1_arm_24 : decode cX1_arm 24 = .ok (.iload_n 1, 1) := dk_27 (dk_at dksX1_arm_1 0 rfl rfl)
theorem dX1_arm_25 : decode cX1_arm 25 = .ok (.iadd, 1) := dk_96 (dk_at dksX1_arm_1 1 rfl rfl)
theorem dX1_arm_26 : decode cX1_arm 26 = .ok (.iaload, 1) := dk_46 (dk_at dksX1_arm_1 2 rfl rfl)
theorem dX1_arm_27 : decode cX1_arm 27 = .ok (.ireturn, 1) := dk_172 (dk_at dksX1_arm_1 3 rfl rfl)
abbrev cX1_canArm : ByteArray := prog_1_method_62_code
def yX1_canArm : MethodName := ⟨RX1, "canArm", "(I)Z"⟩
def dkwX1_canArm_1 : List UInt8 := [180, 0, 58, 16, 17, 46, 5, 161, 0, 7, 4, 167, 0, 4, 3, 172]
abbrev dktX1_canArm_1 : List UInt8 := dkwX1_canArm_1 ++ []
def dkwX1_canArm_0 : List UInt8 := [42, 27, 182, 1, 68, 153, 0, 31, 42, 180, 0, 58, 3, 27, 96, 46, 16, 30, 162, 0, 18, 42]
abbrev dktX1_canArm_0 : List UInt8 := dkwX1_canArm_0 ++ dktX1_canArm_1
theorem dksX1_canArm_0 : cX1_canArm.data.toList.drop 0 = dktX1_canArm_0 := by decide +kernel
theorem dksX1_canArm_1 : cX1_canArm.data.toList.drop 22 = dktX1_canArm_1 := dk_seg dksX1_canArm_0 22 rfl rfl
theorem dX1_canArm_0 : decode cX1_canArm 0 = .ok (.aload_n 0, 1) := dk_42 (dk_at dksX1_canArm_0 0 rfl rfl)
theorem dX1_canArm_1 : decode cX1_canArm 1 = .ok (.iload_n 1, 1) := dk_27 (dk_at dksX1_canArm_0 1 rfl rfl)
theorem dX1_canArm_2 : decode cX1_canArm 2 = .ok (.invokevirtual 324, 3) := dk_182 1 68 (dk_at dksX1_canArm_0 2 rfl rfl)
theorem dX1_canArm_5 : decode cX1_canArm 5 = .ok (.ifCond .eq 31, 3) := dk_153 0 31 (dk_at dksX1_canArm_0 5 rfl rfl)
theorem dX1_canArm_8 : decode cX1_canArm 8 = .ok (.aload_n 0, 1) := dk_42 (dk_at dksX1_canArm_0 8 rfl rfl)
theorem dX1_canArm_9 : decode cX1_canArm 9 = .ok (.getfield 58, 3) := dk_180 0 58 (dk_at dksX1_canArm_0 9 rfl rfl)
theorem dX1_canArm_12 : decode cX1_canArm 12 = .ok (.iconst 0, 1) := dk_3 (dk_at dksX1_canArm_0 12 rfl rfl)
theorem dX1_canArm_13 : decode cX1_canArm 13 = .ok (.iload_n 1, 1) := dk_27 (dk_at dksX1_canArm_0 13 rfl rfl)
theorem dX1_canArm_14 : decode cX1_canArm 14 = .ok (.iadd, 1) := dk_96 (dk_at dksX1_canArm_0 14 rfl rfl)
theorem dX1_canArm_15 : decode cX1_canArm 15 = .ok (.iaload, 1) := dk_46 (dk_at dksX1_canArm_0 15 rfl rfl)
theorem dX1_canArm_16 : decode cX1_canArm 16 = .ok (.bipush 30, 2) := dk_16 30 (dk_at dksX1_canArm_0 16 rfl rfl)
theorem dX1_canArm_18 : decode cX1_canArm 18 = .ok (.if_icmp .ge 18, 3) := dk_162 0 18 (dk_at dksX1_canArm_0 18 rfl rfl)
theorem dX1_canArm_21 : decode cX1_canArm 21 = .ok (.aload_n 0, 1) := dk_42 (dk_at dksX1_canArm_0 21 rfl rfl)
theorem dX1_canArm_22 : decode cX1_canArm 22 = .ok (.getfield 58, 3) := dk_180 0 58 (dk_at dksX1_canArm_1 0 rfl rfl)
theorem dX1_canArm_25 : decode cX1_canArm 25 = .ok (.bipush 17, 2) := dk_16 17 (dk_at dksX1_canArm_1 3 rfl rfl)
theorem dX1_canArm_27 : decode cX1_canArm 27 = .ok (.iaload, 1) := dk_46 (dk_at dksX1_canArm_1 5 rfl rfl)
theorem dX1_canArm_28 : decode cX1_canArm 28 = .ok (.iconst 2, 1) := dk_5 (dk_at dksX1_canArm_1 6 rfl rfl)
theorem dX1_canArm_29 : decode cX1_canArm 29 = .ok (.if_icmp .lt 7, 3) := dk_161 0 7 (dk_at dksX1_canArm_1 7 rfl rfl)
theorem dX1_canArm_32 : decode cX1_canArm 32 = .ok (.iconst 1, 1) := dk_4 (dk_at dksX1_canArm_1 10 rfl rfl)
theorem dX1_canArm_33 : decode cX1_canArm 33 = .ok (.goto 4, 3) := dk_167 0 4 (dk_at dksX1_canArm_1 11 rfl rfl)
theorem dX1_canArm_36 : decode cX1_canArm 36 = .ok (.iconst 0, 1) := dk_3 (dk_at dksX1_canArm_1 14 rfl rfl)
theorem dX1_canArm_37 : decode cX1_canArm 37 = .ok (.ireturn, 1) := dk_172 (dk_at dksX1_canArm_1 15 rfl rfl)
abbrev cX1_armNow : ByteArray := prog_1_method_63_code
def yX1_armNow : MethodName := ⟨RX1, "armNow", "(I)V"⟩
def dkwX1_armNow_0 : List UInt8 := [42, 180, 0, 58, 16, 17, 92, 46, 5, 100, 79, 42, 180, 0, 58, 3, 27, 96, 92, 46, 4, 96, 79, 177]
abbrev dktX1_armNow_0 : List UInt8 := dkwX1_armNow_0 ++ []
theorem dksX1_armNow_0 : cX1_armNow.data.toList.drop 0 = dktX1_armNow_0 := by decide +kernel
theorem dX1_armNow_0 : decode cX1_armNow 0 = .ok (.aload_n 0, 1) := dk_42 (dk_at dksX1_armNow_0 0 rfl rfl)
theorem dX1_armNow_1 : decode cX1_armNow 1 = .ok (.getfield 58, 3) := dk_180 0 58 (dk_at dksX1_armNow_0 1 rfl rfl)
theorem dX1_armNow_4 : decode cX1_armNow 4 = .ok (.bipush 17, 2) := dk_16 17 (dk_at dksX1_armNow_0 4 rfl rfl)
theorem dX1_armNow_6 : decode cX1_armNow 6 = .ok (.dup2, 1) := dk_92 (dk_at dksX1_armNow_0 6 rfl rfl)
theorem dX1_armNow_7 : decode cX1_armNow 7 = .ok (.iaload, 1) := dk_46 (dk_at dksX1_armNow_0 7 rfl rfl)
theorem dX1_armNow_8 : decode cX1_armNow 8 = .ok (.iconst 2, 1) := dk_5 (dk_at dksX1_armNow_0 8 rfl rfl)
theorem dX1_armNow_9 : decode cX1_armNow 9 = .ok (.isub, 1) := dk_100 (dk_at dksX1_armNow_0 9 rfl rfl)
theorem dX1_armNow_10 : decode cX1_armNow 10 = .ok (.iastore, 1) := dk_79 (dk_at dksX1_armNow_0 10 rfl rfl)
theorem dX1_armNow_11 : decode cX1_armNow 11 = .ok (.aload_n 0, 1) := dk_42 (dk_at dksX1_armNow_0 11 rfl rfl)
theorem dX1_armNow_12 : decode cX1_armNow 12 = .ok (.getfield 58, 3) := dk_180 0 58 (dk_at dksX1_armNow_0 12 rfl rfl)
theorem dX1_armNow_15 : decode cX1_armNow 15 = .ok (.iconst 0, 1) := dk_3 (dk_at dksX1_armNow_0 15 rfl rfl)
theorem dX1_armNow_16 : decode cX1_armNow 16 = .ok (.iload_n 1, 1) := dk_27 (dk_at dksX1_armNow_0 16 rfl rfl)
theorem dX1_armNow_17 : decode cX1_armNow 17 = .ok (.iadd, 1) := dk_96 (dk_at dksX1_armNow_0 17 rfl rfl)
theorem dX1_armNow_18 : decode cX1_armNow 18 = .ok (.dup2, 1) := dk_92 (dk_at dksX1_armNow_0 18 rfl rfl)
theorem dX1_armNow_19 : decode cX1_armNow 19 = .ok (.iaload, 1) := dk_46 (dk_at dksX1_armNow_0 19 rfl rfl)
theorem dX1_armNow_20 : decode cX1_armNow 20 = .ok (.iconst 1, 1) := dk_4 (dk_at dksX1_armNow_0 20 rfl rfl)
theorem dX1_armNow_21 : decode cX1_armNow 21 = .ok (.iadd, 1) := dk_96 (dk_at dksX1_armNow_0 21 rfl rfl)
theorem dX1_armNow_22 : decode cX1_armNow 22 = .ok (.iastore, 1) := dk_79 (dk_at dksX1_armNow_0 22 rfl rfl)
theorem dX1_armNow_23 : decode cX1_armNow 23 = .ok (.return_, 1) := dk_177 (dk_at dksX1_armNow_0 23 rfl rfl)
abbrev cX1_teach : ByteArray := prog_1_method_67_code
def yX1_teach : MethodName := ⟨RX1, "teach", "(I)I"⟩
def dkwX1_teach_1 : List UInt8 := [16, 8, 27, 96, 46, 172]
abbrev dktX1_teach_1 : List UInt8 := dkwX1_teach_1 ++ []
def dkwX1_teach_0 : List UInt8 := [42, 27, 182, 1, 135, 154, 0, 5, 2, 172, 42, 182, 1, 123, 42, 27, 182, 1, 138, 42, 180, 0, 58]
abbrev dktX1_teach_0 : List UInt8 := dkwX1_teach_0 ++ dktX1_teach_1
theorem dksX1_teach_0 : cX1_teach.data.toList.drop 0 = dktX1_teach_0 := by decide +kernel
theorem dksX1_teach_1 : cX1_teach.data.toList.drop 23 = dktX1_teach_1 := dk_seg dksX1_teach_0 23 rfl rfl
theorem dX1_teach_0 : decode cX1_teach 0 = .ok (.aload_n 0, 1) := dk_42 (dk_at dksX1_teach_0 0 rfl rfl)
theorem dX1_teach_1 : decode cX1_teach 1 = .ok (.iload_n 1, 1) := dk_27 (dk_at dksX1_teach_0 1 rfl rfl)
theorem dX1_teach_2 : decode cX1_teach 2 = .ok (.invokevirtual 391, 3) := dk_182 1 135 (dk_at dksX1_teach_0 2 rfl rfl)
theorem dX1_teach_5 : decode cX1_teach 5 = .ok (.ifCond .ne 5, 3) := dk_154 0 5 (dk_at dksX1_teach_0 5 rfl rfl)
theorem dX1_teach_8 : decode cX1_teach 8 = .ok (.iconst (-1), 1) := dk_2 (dk_at dksX1_teach_0 8 rfl rfl)
theorem dX1_teach_9 : decode cX1_teach 9 = .ok (.ireturn, 1) := dk_172 (dk_at dksX1_teach_0 9 rfl rfl)
theorem dX1_teach_10 : decode cX1_teach 10 = .ok (.aload_n 0, 1) := dk_42 (dk_at dksX1_teach_0 10 rfl rfl)
theorem dX1_teach_11 : decode cX1_teach 11 = .ok (.invokevirtual 379, 3) := dk_182 1 123 (dk_at dksX1_teach_0 11 rfl rfl)
theorem dX1_teach_14 : decode cX1_teach 14 = .ok (.aload_n 0, 1) := dk_42 (dk_at dksX1_teach_0 14 rfl rfl)
theorem dX1_teach_15 : decode cX1_teach 15 = .ok (.iload_n 1, 1) := dk_27 (dk_at dksX1_teach_0 15 rfl rfl)
theorem dX1_teach_16 : decode cX1_teach 16 = .ok (.invokevirtual 394, 3) := dk_182 1 138 (dk_at dksX1_teach_0 16 rfl rfl)
theorem dX1_teach_19 : decode cX1_teach 19 = .ok (.aload_n 0, 1) := dk_42 (dk_at dksX1_teach_0 19 rfl rfl)
theorem dX1_teach_20 : decode cX1_teach 20 = .ok (.getfield 58, 3) := dk_180 0 58 (dk_at dksX1_teach_0 20 rfl rfl)
theorem dX1_teach_23 : decode cX1_teach 23 = .ok (.bipush 8, 2) := dk_16 8 (dk_at dksX1_teach_1 0 rfl rfl)
theorem dX1_teach_25 : decode cX1_teach 25 = .ok (.iload_n 1, 1) := dk_27 (dk_at dksX1_teach_1 2 rfl rfl)
theorem dX1_teach_26 : decode cX1_teach 26 = .ok (.iadd, 1) := dk_96 (dk_at dksX1_teach_1 3 rfl rfl)
theorem dX1_teach_27 : decode cX1_teach 27 = .ok (.iaload, 1) := dk_46 (dk_at dksX1_teach_1 4 rfl rfl)
theorem dX1_teach_28 : decode cX1_teach 28 = .ok (.ireturn, 1) := dk_172 (dk_at dksX1_teach_1 5 rfl rfl)
abbrev cX1_canTeach : ByteArray := prog_1_method_65_code
def yX1_canTeach : MethodName := ⟨RX1, "canTeach", "(I)Z"⟩
def dkwX1_canTeach_1 : List UInt8 := [180, 0, 58, 16, 17, 46, 6, 161, 0, 7, 4, 167, 0, 4, 3, 172]
abbrev dktX1_canTeach_1 : List UInt8 := dkwX1_canTeach_1 ++ []
def dkwX1_canTeach_0 : List UInt8 := [42, 27, 182, 1, 68, 153, 0, 32, 42, 180, 0, 58, 16, 8, 27, 96, 46, 16, 9, 162, 0, 18, 42]
abbrev dktX1_canTeach_0 : List UInt8 := dkwX1_canTeach_0 ++ dktX1_canTeach_1
theorem dksX1_canTeach_0 : cX1_canTeach.data.toList.drop 0 = dktX1_canTeach_0 := by decide +kernel
theorem dksX1_canTeach_1 : cX1_canTeach.data.toList.drop 23 = dktX1_canTeach_1 := dk_seg dksX1_canTeach_0 23 rfl rfl
theorem dX1_canTeach_0 : decode cX1_canTeach 0 = .ok (.aload_n 0, 1) := dk_42 (dk_at dksX1_canTeach_0 0 rfl rfl)
theorem dX1_canTeach_1 : decode cX1_canTeach 1 = .ok (.iload_n 1, 1) := dk_27 (dk_at dksX1_canTeach_0 1 rfl rfl)
theorem dX1_canTeach_2 : decode cX1_canTeach 2 = .ok (.invokevirtual 324, 3) := dk_182 1 68 (dk_at dksX1_canTeach_0 2 rfl rfl)
theorem dX1_canTeach_5 : decode cX1_canTeach 5 = .ok (.ifCond .eq 32, 3) := dk_153 0 32 (dk_at dksX1_canTeach_0 5 rfl rfl)
theorem dX1_canTeach_8 : decode cX1_canTeach 8 = .ok (.aload_n 0, 1) := dk_42 (dk_at dksX1_canTeach_0 8 rfl rfl)
theorem dX1_canTeach_9 : decode cX1_canTeach 9 = .ok (.getfield 58, 3) := dk_180 0 58 (dk_at dksX1_canTeach_0 9 rfl rfl)
theorem dX1_canTeach_12 : decode cX1_canTeach 12 = .ok (.bipush 8, 2) := dk_16 8 (dk_at dksX1_canTeach_0 12 rfl rfl)
theorem dX1_canTeach_14 : decode cX1_canTeach 14 = .ok (.iload_n 1, 1) := dk_27 (dk_at dksX1_canTeach_0 14 rfl rfl)
theorem dX1_canTeach_15 : decode cX1_canTeach 15 = .ok (.iadd, 1) := dk_96 (dk_at dksX1_canTeach_0 15 rfl rfl)
theorem dX1_canTeach_16 : decode cX1_canTeach 16 = .ok (.iaload, 1) := dk_46 (dk_at dksX1_canTeach_0 16 rfl rfl)
theorem dX1_canTeach_17 : decode cX1_canTeach 17 = .ok (.bipush 9, 2) := dk_16 9 (dk_at dksX1_canTeach_0 17 rfl rfl)
theorem dX1_canTeach_19 : decode cX1_canTeach 19 = .ok (.if_icmp .ge 18, 3) := dk_162 0 18 (dk_at dksX1_canTeach_0 19 rfl rfl)
theorem dX1_canTeach_22 : decode cX1_canTeach 22 = .ok (.aload_n 0, 1) := dk_42 (dk_at dksX1_canTeach_0 22 rfl rfl)
theorem dX1_canTeach_23 : decode cX1_canTeach 23 = .ok (.getfield 58, 3) := dk_180 0 58 (dk_at dksX1_canTeach_1 0 rfl rfl)
theorem dX1_canTeach_26 : decode cX1_canTeach 26 = .ok (.bipush 17, 2) := dk_16 17 (dk_at dksX1_canTeach_1 3 rfl rfl)
theorem dX1_canTeach_28 : decode cX1_canTeach 28 = .ok (.iaload, 1) := dk_46 (dk_at dksX1_canTeach_1 5 rfl rfl)
theorem dX1_canTeach_29 : decode cX1_canTeach 29 = .ok (.iconst 3, 1) := dk_6 (dk_at dksX1_canTeach_1 6 rfl rfl)
theorem dX1_canTeach_30 : decode cX1_canTeach 30 = .ok (.if_icmp .lt 7, 3) := dk_161 0 7 (dk_at dksX1_canTeach_1 7 rfl rfl)
theorem dX1_canTeach_33 : decode cX1_canTeach 33 = .ok (.iconst 1, 1) := dk_4 (dk_at dksX1_canTeach_1 10 rfl rfl)
theorem dX1_canTeach_34 : decode cX1_canTeach 34 = .ok (.goto 4, 3) := dk_167 0 4 (dk_at dksX1_canTeach_1 11 rfl rfl)
theorem dX1_canTeach_37 : decode cX1_canTeach 37 = .ok (.iconst 0, 1) := dk_3 (dk_at dksX1_canTeach_1 14 rfl rfl)
theorem dX1_canTeach_38 : decode cX1_canTeach 38 = .ok (.ireturn, 1) := dk_172 (dk_at dksX1_canTeach_1 15 rfl rfl)
abbrev cX1_teachNow : ByteArray := prog_1_method_66_code
def yX1_teachNow : MethodName := ⟨RX1, "teachNow", "(I)V"⟩
def dkwX1_teachNow_1 : List UInt8 := [177]
abbrev dktX1_teachNow_1 : List UInt8 := dkwX1_teachNow_1 ++ []
def dkwX1_teachNow_0 : List UInt8 := [42, 180, 0, 58, 16, 17, 92, 46, 6, 100, 79, 42, 180, 0, 58, 16, 8, 27, 96, 92, 46, 4, 96, 79]
abbrev dktX1_teachNow_0 : List UInt8 := dkwX1_teachNow_0 ++ dktX1_teachNow_1
theorem dksX1_teachNow_0 : cX1_teachNow.data.toList.drop 0 = dktX1_teachNow_0 := by decide +kernel
theorem dksX1_teachNow_1 : cX1_teachNow.data.toList.drop 24 = dktX1_teachNow_1 := dk_seg dksX1_teachNow_0 24 rfl rfl
theorem dX1_teachNow_0 : decode cX1_teachNow 0 = .ok (.aload_n 0, 1) := dk_42 (dk_at dksX1_teachNow_0 0 rfl rfl)
theorem dX1_teachNow_1 : decode cX1_teachNow 1 = .ok (.getfield 58, 3) := dk_180 0 58 (dk_at dksX1_teachNow_0 1 rfl rfl)
theorem dX1_teachNow_4 : decode cX1_teachNow 4 = .ok (.bipush 17, 2) := dk_16 17 (dk_at dksX1_teachNow_0 4 rfl rfl)
theorem dX1_teachNow_6 : decode cX1_teachNow 6 = .ok (.dup2, 1) := dk_92 (dk_at dksX1_teachNow_0 6 rfl rfl)
theorem dX1_teachNow_7 : decode cX1_teachNow 7 = .ok (.iaload, 1) := dk_46 (dk_at dksX1_teachNow_0 7 rfl rfl)
theorem dX1_teachNow_8 : decode cX1_teachNow 8 = .ok (.iconst 3, 1) := dk_6 (dk_at dksX1_teachNow_0 8 rfl rfl)
theorem dX1_teachNow_9 : decode cX1_teachNow 9 = .ok (.isub, 1) := dk_100 (dk_at dksX1_teachNow_0 9 rfl rfl)
theorem dX1_teachNow_10 : decode cX1_teachNow 10 = .ok (.iastore, 1) := dk_79 (dk_at dksX1_teachNow_0 10 rfl rfl)
theorem dX1_teachNow_11 : decode cX1_teachNow 11 = .ok (.aload_n 0, 1) := dk_42 (dk_at dksX1_teachNow_0 11 rfl rfl)
theorem dX1_teachNow_12 : decode cX1_teachNow 12 = .ok (.getfield 58, 3) := dk_180 0 58 (dk_at dksX1_teachNow_0 12 rfl rfl)
theorem dX1_teachNow_15 : decode cX1_teachNow 15 = .ok (.bipush 8, 2) := dk_16 8 (dk_at dksX1_teachNow_0 15 rfl rfl)
theorem dX1_teachNow_17 : decode cX1_teachNow 17 = .ok (.iload_n 1, 1) := dk_27 (dk_at dksX1_teachNow_0 17 rfl rfl)
theorem dX1_teachNow_18 : decode cX1_teachNow 18 = .ok (.iadd, 1) := dk_96 (dk_at dksX1_teachNow_0 18 rfl rfl)
theorem dX1_teachNow_19 : decode cX1_teachNow 19 = .ok (.dup2, 1) := dk_92 (dk_at dksX1_teachNow_0 19 rfl rfl)
theorem dX1_teachNow_20 : decode cX1_teachNow 20 = .ok (.iaload, 1) := dk_46 (dk_at dksX1_teachNow_0 20 rfl rfl)
theorem dX1_teachNow_21 : decode cX1_teachNow 21 = .ok (.iconst 1, 1) := dk_4 (dk_at dksX1_teachNow_0 21 rfl rfl)
theorem dX1_teachNow_22 : decode cX1_teachNow 22 = .ok (.iadd, 1) := dk_96 (dk_at dksX1_teachNow_0 22 rfl rfl)
theorem dX1_teachNow_23 : decode cX1_teachNow 23 = .ok (.iastore, 1) := dk_79 (dk_at dksX1_teachNow_0 23 rfl rfl)
theorem dX1_teachNow_24 : decode cX1_teachNow 24 = .ok (.return_, 1) := dk_177 (dk_at dksX1_teachNow_1 0 rfl rfl)
abbrev cX1_swear : ByteArray := prog_1_method_68_code
def yX1_swear : MethodName := ⟨RX1, "swear", "(I)I"⟩
def dkwX1_swear_2 : List UInt8 := [42, 180, 0, 58, 7, 27, 96, 92, 46, 4, 100, 79, 42, 180, 0, 58, 7, 27, 96, 46, 172]
abbrev dktX1_swear_2 : List UInt8 := dkwX1_swear_2 ++ []
def dkwX1_swear_1 : List UInt8 := [16, 17, 46, 7, 162, 0, 5, 2, 172, 42, 182, 1, 123, 42, 180, 0, 58, 16, 17, 92, 46, 7, 100, 79]
abbrev dktX1_swear_1 : List UInt8 := dkwX1_swear_1 ++ dktX1_swear_2
def dkwX1_swear_0 : List UInt8 := [42, 27, 182, 1, 68, 153, 0, 25, 42, 180, 0, 58, 7, 27, 96, 46, 153, 0, 14, 42, 180, 0, 58]
abbrev dktX1_swear_0 : List UInt8 := dkwX1_swear_0 ++ dktX1_swear_1
theorem dksX1_swear_0 : cX1_swear.data.toList.drop 0 = dktX1_swear_0 := by decide +kernel
theorem dksX1_swear_1 : cX1_swear.data.toList.drop 23 = dktX1_swear_1 := dk_seg dksX1_swear_0 23 rfl rfl
theorem dksX1_swear_2 : cX1_swear.data.toList.drop 47 = dktX1_swear_2 := dk_seg dksX1_swear_1 24 rfl rfl
theorem dX1_swear_0 : decode cX1_swear 0 = .ok (.aload_n 0, 1) := dk_42 (dk_at dksX1_swear_0 0 rfl rfl)
theorem dX1_swear_1 : decode cX1_swear 1 = .ok (.iload_n 1, 1) := dk_27 (dk_at dksX1_swear_0 1 rfl rfl)
theorem dX1_swear_2 : decode cX1_swear 2 = .ok (.invokevirtual 324, 3) := dk_182 1 68 (dk_at dksX1_swear_0 2 rfl rfl)
theorem dX1_swear_5 : decode cX1_swear 5 = .ok (.ifCond .eq 25, 3) := dk_153 0 25 (dk_at dksX1_swear_0 5 rfl rfl)
theorem dX1_swear_8 : decode cX1_swear 8 = .ok (.aload_n 0, 1) := dk_42 (dk_at dksX1_swear_0 8 rfl rfl)
theorem dX1_swear_9 : decode cX1_swear 9 = .ok (.getfield 58, 3) := dk_180 0 58 (dk_at dksX1_swear_0 9 rfl rfl)
theorem dX1_swear_12 : decode cX1_swear 12 = .ok (.iconst 4, 1) := dk_7 (dk_at dksX1_swear_0 12 rfl rfl)
theorem dX1_swear_13 : decode cX1_swear 13 = .ok (.iload_n 1, 1) := dk_27 (dk_at dksX1_swear_0 13 rfl rfl)
theorem dX1_swear_14 : decode cX1_swear 14 = .ok (.iadd, 1) := dk_96 (dk_at dksX1_swear_0 14 rfl rfl)
theorem dX1_swear_15 : decode cX1_swear 15 = .ok (.iaload, 1) := dk_46 (dk_at dksX1_swear_0 15 rfl rfl)
theorem dX1_swear_16 : decode cX1_swear 16 = .ok (.ifCond .eq 14, 3) := dk_153 0 14 (dk_at dksX1_swear_0 16 rfl rfl)
theorem dX1_swear_19 : decode cX1_swear 19 = .ok (.aload_n 0, 1) := dk_42 (dk_at dksX1_swear_0 19 rfl rfl)
theorem dX1_swear_20 : decode cX1_swear 20 = .ok (.getfield 58, 3) := dk_180 0 58 (dk_at dksX1_swear_0 20 rfl rfl)
theorem dX1_swear_23 : decode cX1_swear 23 = .ok (.bipush 17, 2) := dk_16 17 (dk_at dksX1_swear_1 0 rfl rfl)
theorem dX1_swear_25 : decode cX1_swear 25 = .ok (.iaload, 1) := dk_46 (dk_at dksX1_swear_1 2 rfl rfl)
theorem dX1_swear_26 : decode cX1_swear 26 = .ok (.iconst 4, 1) := dk_7 (dk_at dksX1_swear_1 3 rfl rfl)
theorem dX1_swear_27 : decode cX1_swear 27 = .ok (.if_icmp .ge 5, 3) := dk_162 0 5 (dk_at dksX1_swear_1 4 rfl rfl)
theorem dX1_swear_30 : decode cX1_swear 30 = .ok (.iconst (-1), 1) := dk_2 (dk_at dksX1_swear_1 7 rfl rfl)
theorem dX1_swear_31 : decode cX1_swear 31 = .ok (.ireturn, 1) := dk_172 (dk_at dksX1_swear_1 8 rfl rfl)
theorem dX1_swear_32 : decode cX1_swear 32 = .ok (.aload_n 0, 1) := dk_42 (dk_at dksX1_swear_1 9 rfl rfl)
theorem dX1_swear_33 : decode cX1_swear 33 = .ok (.invokevirtual 379, 3) := dk_182 1 123 (dk_at dksX1_swear_1 10 rfl rfl)
theorem dX1_swear_36 : decode cX1_swear 36 = .ok (.aload_n 0, 1) := dk_42 (dk_at dksX1_swear_1 13 rfl rfl)
theorem dX1_swear_37 : decode cX1_swear 37 = .ok (.getfield 58, 3) := dk_180 0 58 (dk_at dksX1_swear_1 14 rfl rfl)
theorem dX1_swear_40 : decode cX1_swear 40 = .ok (.bipush 17, 2) := dk_16 17 (dk_at dksX1_swear_1 17 rfl rfl)
theorem dX1_swear_42 : decode cX1_swear 42 = .ok (.dup2, 1) := dk_92 (dk_at dksX1_swear_1 19 rfl rfl)
theorem dX1_swear_43 : decode cX1_swear 43 = .ok (.iaload, 1) := dk_46 (dk_at dksX1_swear_1 20 rfl rfl)
theorem dX1_swear_44 : decode cX1_swear 44 = .ok (.iconst 4, 1) := dk_7 (dk_at dksX1_swear_1 21 rfl rfl)
theorem dX1_swear_45 : decode cX1_swear 45 = .ok (.isub, 1) := dk_100 (dk_at dksX1_swear_1 22 rfl rfl)
theorem dX1_swear_46 : decode cX1_swear 46 = .ok (.iastore, 1) := dk_79 (dk_at dksX1_swear_1 23 rfl rfl)
theorem dX1_swear_47 : decode cX1_swear 47 = .ok (.aload_n 0, 1) := dk_42 (dk_at dksX1_swear_2 0 rfl rfl)
theorem dX1_swear_48 : decode cX1_swear 48 = .ok (.getfield 58, 3) := dk_180 0 58 (dk_at dksX1_swear_2 1 rfl rfl)
theorem dX1_swear_51 : decode cX1_swear 51 = .ok (.iconst 4, 1) := dk_7 (dk_at dksX1_swear_2 4 rfl rfl)
theorem dX1_swear_52 : decode cX1_swear 52 = .ok (.iload_n 1, 1) := dk_27 (dk_at dksX1_swear_2 5 rfl rfl)
theorem dX1_swear_53 : decode cX1_swear 53 = .ok (.iadd, 1) := dk_96 (dk_at dksX1_swear_2 6 rfl rfl)
theorem dX1_swear_54 : decode cX1_swear 54 = .ok (.dup2, 1) := dk_92 (dk_at dksX1_swear_2 7 rfl rfl)
theorem dX1_swear_55 : decode cX1_swear 55 = .ok (.iaload, 1) := dk_46 (dk_at dksX1_swear_2 8 rfl rfl)
theorem dX1_swear_56 : decode cX1_swear 56 = .ok (.iconst 1, 1) := dk_4 (dk_at dksX1_swear_2 9 rfl rfl)
theorem dX1_swear_57 : decode cX1_swear 57 = .ok (.isub, 1) := dk_100 (dk_at dksX1_swear_2 10 rfl rfl)
theorem dX1_swear_58 : decode cX1_swear 58 = .ok (.iastore, 1) := dk_79 (dk_at dksX1_swear_2 11 rfl rfl)
theorem dX1_swear_59 : decode cX1_swear 59 = .ok (.aload_n 0, 1) := dk_42 (dk_at dksX1_swear_2 12 rfl rfl)
theorem dX1_swear_60 : decode cX1_swear 60 = .ok (.getfield 58, 3) := dk_180 0 58 (dk_at dksX1_swear_2 13 rfl rfl)
theorem dX1_swear_63 : decode cX1_swear 63 = .ok (.iconst 4, 1) := dk_7 (dk_at dksX1_swear_2 16 rfl rfl)
theorem dX1_swear_64 : decode cX1_swear 64 = .ok (.iload_n 1, 1) := dk_27 (dk_at dksX1_swear_2 17 rfl rfl)
theorem dX1_swear_65 : decode cX1_swear 65 = .ok (.iadd, 1) := dk_96 (dk_at dksX1_swear_2 18 rfl rfl)
theorem dX1_swear_66 : decode cX1_swear 66 = .ok (.iaload, 1) := dk_46 (dk_at dksX1_swear_2 19 rfl rfl)
theorem dX1_swear_67 : decode cX1_swear 67 = .ok (.ireturn, 1) := dk_172 (dk_at dksX1_swear_2 20 rfl rfl)
abbrev cX1_burn : ByteArray := prog_1_method_69_code
def yX1_burn : MethodName := ⟨RX1, "burn", "(I)I"⟩
def dkwX1_burn_1 : List UInt8 := [27, 182, 1, 104, 42, 180, 0, 58, 16, 19, 46, 172]
abbrev dktX1_burn_1 : List UInt8 := dkwX1_burn_1 ++ []
def dkwX1_burn_0 : List UInt8 := [27, 3, 42, 180, 0, 58, 16, 19, 46, 4, 100, 184, 0, 233, 154, 0, 5, 2, 172, 42, 182, 1, 123, 42]
abbrev dktX1_burn_0 : List UInt8 := dkwX1_burn_0 ++ dktX1_burn_1
theorem dksX1_burn_0 : cX1_burn.data.toList.drop 0 = dktX1_burn_0 := by decide +kernel
theorem dksX1_burn_1 : cX1_burn.data.toList.drop 24 = dktX1_burn_1 := dk_seg dksX1_burn_0 24 rfl rfl
theorem dX1_burn_0 : decode cX1_burn 0 = .ok (.iload_n 1, 1) := dk_27 (dk_at dksX1_burn_0 0 rfl rfl)
theorem dX1_burn_1 : decode cX1_burn 1 = .ok (.iconst 0, 1) := dk_3 (dk_at dksX1_burn_0 1 rfl rfl)
theorem dX1_burn_2 : decode cX1_burn 2 = .ok (.aload_n 0, 1) := dk_42 (dk_at dksX1_burn_0 2 rfl rfl)
theorem dX1_burn_3 : decode cX1_burn 3 = .ok (.getfield 58, 3) := dk_180 0 58 (dk_at dksX1_burn_0 3 rfl rfl)
theorem dX1_burn_6 : decode cX1_burn 6 = .ok (.bipush 19, 2) := dk_16 19 (dk_at dksX1_burn_0 6 rfl rfl)
theorem dX1_burn_8 : decode cX1_burn 8 = .ok (.iaload, 1) := dk_46 (dk_at dksX1_burn_0 8 rfl rfl)
theorem dX1_burn_9 : decode cX1_burn 9 = .ok (.iconst 1, 1) := dk_4 (dk_at dksX1_burn_0 9 rfl rfl)
theorem dX1_burn_10 : decode cX1_burn 10 = .ok (.isub, 1) := dk_100 (dk_at dksX1_burn_0 10 rfl rfl)
theorem dX1_burn_11 : decode cX1_burn 11 = .ok (.invokestatic 233, 3) := dk_184 0 233 (dk_at dksX1_burn_0 11 rfl rfl)
theorem dX1_burn_14 : decode cX1_burn 14 = .ok (.ifCond .ne 5, 3) := dk_154 0 5 (dk_at dksX1_burn_0 14 rfl rfl)
theorem dX1_burn_17 : decode cX1_burn 17 = .ok (.iconst (-1), 1) := dk_2 (dk_at dksX1_burn_0 17 rfl rfl)
theorem dX1_burn_18 : decode cX1_burn 18 = .ok (.ireturn, 1) := dk_172 (dk_at dksX1_burn_0 18 rfl rfl)
theorem dX1_burn_19 : decode cX1_burn 19 = .ok (.aload_n 0, 1) := dk_42 (dk_at dksX1_burn_0 19 rfl rfl)
theorem dX1_burn_20 : decode cX1_burn 20 = .ok (.invokevirtual 379, 3) := dk_182 1 123 (dk_at dksX1_burn_0 20 rfl rfl)
theorem dX1_burn_23 : decode cX1_burn 23 = .ok (.aload_n 0, 1) := dk_42 (dk_at dksX1_burn_0 23 rfl rfl)
theorem dX1_burn_24 : decode cX1_burn 24 = .ok (.iload_n 1, 1) := dk_27 (dk_at dksX1_burn_1 0 rfl rfl)
theorem dX1_burn_25 : decode cX1_burn 25 = .ok (.invokevirtual 360, 3) := dk_182 1 104 (dk_at dksX1_burn_1 1 rfl rfl)
theorem dX1_burn_28 : decode cX1_burn 28 = .ok (.aload_n 0, 1) := dk_42 (dk_at dksX1_burn_1 4 rfl rfl)
theorem dX1_burn_29 : decode cX1_burn 29 = .ok (.getfield 58, 3) := dk_180 0 58 (dk_at dksX1_burn_1 5 rfl rfl)
theorem dX1_burn_32 : decode cX1_burn 32 = .ok (.bipush 19, 2) := dk_16 19 (dk_at dksX1_burn_1 8 rfl rfl)
theorem dX1_burn_34 : decode cX1_burn 34 = .ok (.iaload, 1) := dk_46 (dk_at dksX1_burn_1 10 rfl rfl)
theorem dX1_burn_35 : decode cX1_burn 35 = .ok (.ireturn, 1) := dk_172 (dk_at dksX1_burn_1 11 rfl rfl)
abbrev cX1_give : ByteArray := prog_1_method_70_code
def yX1_give : MethodName := ⟨RX1, "give", "(I)I"⟩
def dkwX1_give_2 : List UInt8 := [79, 42, 180, 0, 58, 16, 17, 46, 172]
abbrev dktX1_give_2 : List UInt8 := dkwX1_give_2 ++ []
def dkwX1_give_1 : List UInt8 := [27, 96, 17, 3, 231, 164, 0, 5, 2, 172, 42, 182, 1, 123, 42, 180, 0, 58, 16, 17, 92, 46, 27, 96]
abbrev dktX1_give_1 : List UInt8 := dkwX1_give_1 ++ dktX1_give_2
def dkwX1_give_0 : List UInt8 := [42, 182, 1, 117, 153, 0, 28, 27, 4, 16, 50, 184, 0, 233, 153, 0, 18, 42, 180, 0, 58, 16, 17, 46]
abbrev dktX1_give_0 : List UInt8 := dkwX1_give_0 ++ dktX1_give_1
theorem dksX1_give_0 : cX1_give.data.toList.drop 0 = dktX1_give_0 := by decide +kernel
theorem dksX1_give_1 : cX1_give.data.toList.drop 24 = dktX1_give_1 := dk_seg dksX1_give_0 24 rfl rfl
theorem dksX1_give_2 : cX1_give.data.toList.drop 48 = dktX1_give_2 := dk_seg dksX1_give_1 24 rfl rfl
theorem dX1_give_0 : decode cX1_give 0 = .ok (.aload_n 0, 1) := dk_42 (dk_at dksX1_give_0 0 rfl rfl)
theorem dX1_give_1 : decode cX1_give 1 = .ok (.invokevirtual 373, 3) := dk_182 1 117 (dk_at dksX1_give_0 1 rfl rfl)
theorem dX1_give_4 : decode cX1_give 4 = .ok (.ifCond .eq 28, 3) := dk_153 0 28 (dk_at dksX1_give_0 4 rfl rfl)
theorem dX1_give_7 : decode cX1_give 7 = .ok (.iload_n 1, 1) := dk_27 (dk_at dksX1_give_0 7 rfl rfl)
theorem dX1_give_8 : decode cX1_give 8 = .ok (.iconst 1, 1) := dk_4 (dk_at dksX1_give_0 8 rfl rfl)
theorem dX1_give_9 : decode cX1_give 9 = .ok (.bipush 50, 2) := dk_16 50 (dk_at dksX1_give_0 9 rfl rfl)
theorem dX1_give_11 : decode cX1_give 11 = .ok (.invokestatic 233, 3) := dk_184 0 233 (dk_at dksX1_give_0 11 rfl rfl)
theorem dX1_give_14 : decode cX1_give 14 = .ok (.ifCond .eq 18, 3) := dk_153 0 18 (dk_at dksX1_give_0 14 rfl rfl)
theorem dX1_give_17 : decode cX1_give 17 = .ok (.aload_n 0, 1) := dk_42 (dk_at dksX1_give_0 17 rfl rfl)
theorem dX1_give_18 : decode cX1_give 18 = .ok (.getfield 58, 3) := dk_180 0 58 (dk_at dksX1_give_0 18 rfl rfl)
theorem dX1_give_21 : decode cX1_give 21 = .ok (.bipush 17, 2) := dk_16 17 (dk_at dksX1_give_0 21 rfl rfl)
theorem dX1_give_23 : decode cX1_give 23 = .ok (.iaload, 1) := dk_46 (dk_at dksX1_give_0 23 rfl rfl)
theorem dX1_give_24 : decode cX1_give 24 = .ok (.iload_n 1, 1) := dk_27 (dk_at dksX1_give_1 0 rfl rfl)
theorem dX1_give_25 : decode cX1_give 25 = .ok (.iadd, 1) := dk_96 (dk_at dksX1_give_1 1 rfl rfl)
theorem dX1_give_26 : decode cX1_give 26 = .ok (.sipush 999, 3) := dk_17 3 231 (dk_at dksX1_give_1 2 rfl rfl)
theorem dX1_give_29 : decode cX1_give 29 = .ok (.if_icmp .le 5, 3) := dk_164 0 5 (dk_at dksX1_give_1 5 rfl rfl)
theorem dX1_give_32 : decode cX1_give 32 = .ok (.iconst (-1), 1) := dk_2 (dk_at dksX1_give_1 8 rfl rfl)
theorem dX1_give_33 : decode cX1_give 33 = .ok (.ireturn, 1) := dk_172 (dk_at dksX1_give_1 9 rfl rfl)
theorem dX1_give_34 : decode cX1_give 34 = .ok (.aload_n 0, 1) := dk_42 (dk_at dksX1_give_1 10 rfl rfl)
theorem dX1_give_35 : decode cX1_give 35 = .ok (.invokevirtual 379, 3) := dk_182 1 123 (dk_at dksX1_give_1 11 rfl rfl)
theorem dX1_give_38 : decode cX1_give 38 = .ok (.aload_n 0, 1) := dk_42 (dk_at dksX1_give_1 14 rfl rfl)
theorem dX1_give_39 : decode cX1_give 39 = .ok (.getfield 58, 3) := dk_180 0 58 (dk_at dksX1_give_1 15 rfl rfl)
theorem dX1_give_42 : decode cX1_give 42 = .ok (.bipush 17, 2) := dk_16 17 (dk_at dksX1_give_1 18 rfl rfl)
theorem dX1_give_44 : decode cX1_give 44 = .ok (.dup2, 1) := dk_92 (dk_at dksX1_give_1 20 rfl rfl)
theorem dX1_give_45 : decode cX1_give 45 = .ok (.iaload, 1) := dk_46 (dk_at dksX1_give_1 21 rfl rfl)
theorem dX1_give_46 : decode cX1_give 46 = .ok (.iload_n 1, 1) := dk_27 (dk_at dksX1_give_1 22 rfl rfl)
theorem dX1_give_47 : decode cX1_give 47 = .ok (.iadd, 1) := dk_96 (dk_at dksX1_give_1 23 rfl rfl)
theorem dX1_give_48 : decode cX1_give 48 = .ok (.iastore, 1) := dk_79 (dk_at dksX1_give_2 0 rfl rfl)
theorem dX1_give_49 : decode cX1_give 49 = .ok (.aload_n 0, 1) := dk_42 (dk_at dksX1_give_2 1 rfl rfl)
theorem dX1_give_50 : decode cX1_give 50 = .ok (.getfield 58, 3) := dk_180 0 58 (dk_at dksX1_give_2 2 rfl rfl)
theorem dX1_give_53 : decode cX1_give 53 = .ok (.bipush 17, 2) := dk_16 17 (dk_at dksX1_give_2 5 rfl rfl)
theorem dX1_give_55 : decode cX1_give 55 = .ok (.iaload, 1) := dk_46 (dk_at dksX1_give_2 7 rfl rfl)
theorem dX1_give_56 : decode cX1_give 56 = .ok (.ireturn, 1) := dk_172 (dk_at dksX1_give_2 8 rfl rfl)
abbrev cX1_years : ByteArray := prog_1_method_73_code
def yX1_years : MethodName := ⟨RX1, "years", "(IJ)I"⟩
def dkwX1_years_2 : List UInt8 := [87, 132, 4, 1, 167, 255, 234, 42, 180, 0, 58, 16, 18, 46, 172]
abbrev dktX1_years_2 : List UInt8 := dkwX1_years_2 ++ []
def dkwX1_years_1 : List UInt8 := [181, 1, 141, 3, 54, 4, 21, 4, 27, 162, 0, 22, 42, 182, 1, 123, 42, 182, 1, 152, 42, 182, 1, 126]
abbrev dktX1_years_1 : List UInt8 := dkwX1_years_1 ++ dktX1_years_2
def dkwX1_years_0 : List UInt8 := [27, 4, 16, 30, 184, 0, 233, 153, 0, 11, 42, 27, 182, 1, 120, 154, 0, 5, 2, 172, 42, 32]
abbrev dktX1_years_0 : List UInt8 := dkwX1_years_0 ++ dktX1_years_1
theorem dksX1_years_0 : cX1_years.data.toList.drop 0 = dktX1_years_0 := by decide +kernel
theorem dksX1_years_1 : cX1_years.data.toList.drop 22 = dktX1_years_1 := dk_seg dksX1_years_0 22 rfl rfl
theorem dksX1_years_2 : cX1_years.data.toList.drop 46 = dktX1_years_2 := dk_seg dksX1_years_1 24 rfl rfl
theorem dX1_years_0 : decode cX1_years 0 = .ok (.iload_n 1, 1) := dk_27 (dk_at dksX1_years_0 0 rfl rfl)
theorem dX1_years_1 : decode cX1_years 1 = .ok (.iconst 1, 1) := dk_4 (dk_at dksX1_years_0 1 rfl rfl)
theorem dX1_years_2 : decode cX1_years 2 = .ok (.bipush 30, 2) := dk_16 30 (dk_at dksX1_years_0 2 rfl rfl)
theorem dX1_years_4 : decode cX1_years 4 = .ok (.invokestatic 233, 3) := dk_184 0 233 (dk_at dksX1_years_0 4 rfl rfl)
theorem dX1_years_7 : decode cX1_years 7 = .ok (.ifCond .eq 11, 3) := dk_153 0 11 (dk_at dksX1_years_0 7 rfl rfl)
theorem dX1_years_10 : decode cX1_years 10 = .ok (.aload_n 0, 1) := dk_42 (dk_at dksX1_years_0 10 rfl rfl)
theorem dX1_years_11 : decode cX1_years 11 = .ok (.iload_n 1, 1) := dk_27 (dk_at dksX1_years_0 11 rfl rfl)
theorem dX1_years_12 : decode cX1_years 12 = .ok (.invokevirtual 376, 3) := dk_182 1 120 (dk_at dksX1_years_0 12 rfl rfl)
theorem dX1_years_15 : decode cX1_years 15 = .ok (.ifCond .ne 5, 3) := dk_154 0 5 (dk_at dksX1_years_0 15 rfl rfl)
theorem dX1_years_18 : decode cX1_years 18 = .ok (.iconst (-1), 1) := dk_2 (dk_at dksX1_years_0 18 rfl rfl)
theorem dX1_years_19 : decode cX1_years 19 = .ok (.ireturn, 1) := dk_172 (dk_at dksX1_years_0 19 rfl rfl)
theorem dX1_years_20 : decode cX1_years 20 = .ok (.aload_n 0, 1) := dk_42 (dk_at dksX1_years_0 20 rfl rfl)
theorem dX1_years_21 : decode cX1_years 21 = .ok (.lload_n 2, 1) := dk_32 (dk_at dksX1_years_0 21 rfl rfl)
theorem dX1_years_22 : decode cX1_years 22 = .ok (.putfield 397, 3) := dk_181 1 141 (dk_at dksX1_years_1 0 rfl rfl)
theorem dX1_years_25 : decode cX1_years 25 = .ok (.iconst 0, 1) := dk_3 (dk_at dksX1_years_1 3 rfl rfl)
theorem dX1_years_26 : decode cX1_years 26 = .ok (.istore 4, 2) := dk_54 4 (dk_at dksX1_years_1 4 rfl rfl)
theorem dX1_years_28 : decode cX1_years 28 = .ok (.iload 4, 2) := dk_21 4 (dk_at dksX1_years_1 6 rfl rfl)
theorem dX1_years_30 : decode cX1_years 30 = .ok (.iload_n 1, 1) := dk_27 (dk_at dksX1_years_1 8 rfl rfl)
theorem dX1_years_31 : decode cX1_years 31 = .ok (.if_icmp .ge 22, 3) := dk_162 0 22 (dk_at dksX1_years_1 9 rfl rfl)
theorem dX1_years_34 : decode cX1_years 34 = .ok (.aload_n 0, 1) := dk_42 (dk_at dksX1_years_1 12 rfl rfl)
theorem dX1_years_35 : decode cX1_years 35 = .ok (.invokevirtual 379, 3) := dk_182 1 123 (dk_at dksX1_years_1 13 rfl rfl)
theorem dX1_years_38 : decode cX1_years 38 = .ok (.aload_n 0, 1) := dk_42 (dk_at dksX1_years_1 16 rfl rfl)
theorem dX1_years_39 : decode cX1_years 39 = .ok (.invokevirtual 408, 3) := dk_182 1 152 (dk_at dksX1_years_1 17 rfl rfl)
theorem dX1_years_42 : decode cX1_years 42 = .ok (.aload_n 0, 1) := dk_42 (dk_at dksX1_years_1 20 rfl rfl)
theorem dX1_years_43 : decode cX1_years 43 = .ok (.invokevirtual 382, 3) := dk_182 1 126 (dk_at dksX1_years_1 21 rfl rfl)
theorem dX1_years_46 : decode cX1_years 46 = .ok (.pop, 1) := dk_87 (dk_at dksX1_years_2 0 rfl rfl)
theorem dX1_years_47 : decode cX1_years 47 = .ok (.iinc 4 1, 3) := dk_132 4 1 (dk_at dksX1_years_2 1 rfl rfl)
theorem dX1_years_50 : decode cX1_years 50 = .ok (.goto (-22), 3) := dk_167 255 234 (dk_at dksX1_years_2 4 rfl rfl)
theorem dX1_years_53 : decode cX1_years 53 = .ok (.aload_n 0, 1) := dk_42 (dk_at dksX1_years_2 7 rfl rfl)
theorem dX1_years_54 : decode cX1_years 54 = .ok (.getfield 58, 3) := dk_180 0 58 (dk_at dksX1_years_2 8 rfl rfl)
theorem dX1_years_57 : decode cX1_years 57 = .ok (.bipush 18, 2) := dk_16 18 (dk_at dksX1_years_2 11 rfl rfl)
theorem dX1_years_59 : decode cX1_years 59 = .ok (.iaload, 1) := dk_46 (dk_at dksX1_years_2 13 rfl rfl)
theorem dX1_years_60 : decode cX1_years 60 = .ok (.ireturn, 1) := dk_172 (dk_at dksX1_years_2 14 rfl rfl)
abbrev cX1_drawYear : ByteArray := prog_1_method_72_code
def yX1_drawYear : MethodName := ⟨RX1, "drawYear", "()V"⟩
def dkwX1_drawYear_3 : List UInt8 := [5, 96, 184, 1, 90, 79, 177]
abbrev dktX1_drawYear_3 : List UInt8 := dkwX1_drawYear_3 ++ []
def dkwX1_drawYear_2 : List UInt8 := [180, 1, 49, 182, 1, 149, 60, 42, 180, 0, 58, 3, 27, 96, 16, 30, 42, 180, 0, 58, 3, 27, 96, 46]
abbrev dktX1_drawYear_2 : List UInt8 := dkwX1_drawYear_2 ++ dktX1_drawYear_3
def dkwX1_drawYear_1 : List UInt8 := [180, 1, 49, 182, 1, 149, 120, 130, 79, 42, 16, 10, 182, 1, 149, 16, 7, 162, 0, 4, 177, 42, 42]
abbrev dktX1_drawYear_1 : List UInt8 := dkwX1_drawYear_1 ++ dktX1_drawYear_2
def dkwX1_drawYear_0 : List UInt8 := [42, 16, 10, 182, 1, 149, 42, 180, 0, 55, 162, 0, 23, 42, 180, 0, 58, 16, 16, 92, 46, 4, 42, 42]
abbrev dktX1_drawYear_0 : List UInt8 := dkwX1_drawYear_0 ++ dktX1_drawYear_1
theorem dksX1_drawYear_0 : cX1_drawYear.data.toList.drop 0 = dktX1_drawYear_0 := by decide +kernel
theorem dksX1_drawYear_1 : cX1_drawYear.data.toList.drop 24 = dktX1_drawYear_1 := dk_seg dksX1_drawYear_0 24 rfl rfl
theorem dksX1_drawYear_2 : cX1_drawYear.data.toList.drop 47 = dktX1_drawYear_2 := dk_seg dksX1_drawYear_1 23 rfl rfl
theorem dksX1_drawYear_3 : cX1_drawYear.data.toList.drop 71 = dktX1_drawYear_3 := dk_seg dksX1_drawYear_2 24 rfl rfl
theorem dX1_drawYear_0 : decode cX1_drawYear 0 = .ok (.aload_n 0, 1) := dk_42 (dk_at dksX1_drawYear_0 0 rfl rfl)
theorem dX1_drawYear_1 : decode cX1_drawYear 1 = .ok (.bipush 10, 2) := dk_16 10 (dk_at dksX1_drawYear_0 1 rfl rfl)
theorem dX1_drawYear_3 : decode cX1_drawYear 3 = .ok (.invokevirtual 405, 3) := dk_182 1 149 (dk_at dksX1_drawYear_0 3 rfl rfl)
theorem dX1_drawYear_6 : decode cX1_drawYear 6 = .ok (.aload_n 0, 1) := dk_42 (dk_at dksX1_drawYear_0 6 rfl rfl)
theorem dX1_drawYear_7 : decode cX1_drawYear 7 = .ok (.getfield 55, 3) := dk_180 0 55 (dk_at dksX1_drawYear_0 7 rfl rfl)
theorem dX1_drawYear_10 : decode cX1_drawYear 10 = .ok (.if_icmp .ge 23, 3) := dk_162 0 23 (dk_at dksX1_drawYear_0 10 rfl rfl)
theorem dX1_drawYear_13 : decode cX1_drawYear 13 = .ok (.aload_n 0, 1) := dk_42 (dk_at dksX1_drawYear_0 13 rfl rfl)
theorem dX1_drawYear_14 : decode cX1_drawYear 14 = .ok (.getfield 58, 3) := dk_180 0 58 (dk_at dksX1_drawYear_0 14 rfl rfl)
theorem dX1_drawYear_17 : decode cX1_drawYear 17 = .ok (.bipush 16, 2) := dk_16 16 (dk_at dksX1_drawYear_0 17 rfl rfl)
theorem dX1_drawYear_19 : decode cX1_drawYear 19 = .ok (.dup2, 1) := dk_92 (dk_at dksX1_drawYear_0 19 rfl rfl)
theorem dX1_drawYear_20 : decode cX1_drawYear 20 = .ok (.iaload, 1) := dk_46 (dk_at dksX1_drawYear_0 20 rfl rfl)
theorem dX1_drawYear_21 : decode cX1_drawYear 21 = .ok (.iconst 1, 1) := dk_4 (dk_at dksX1_drawYear_0 21 rfl rfl)
theorem dX1_drawYear_22 : decode cX1_drawYear 22 = .ok (.aload_n 0, 1) := dk_42 (dk_at dksX1_drawYear_0 22 rfl rfl)
theorem dX1_drawYear_23 : decode cX1_drawYear 23 = .ok (.aload_n 0, 1) := dk_42 (dk_at dksX1_drawYear_0 23 rfl rfl)
theorem dX1_drawYear_24 : decode cX1_drawYear 24 = .ok (.getfield 305, 3) := dk_180 1 49 (dk_at dksX1_drawYear_1 0 rfl rfl)
theorem dX1_drawYear_27 : decode cX1_drawYear 27 = .ok (.invokevirtual 405, 3) := dk_182 1 149 (dk_at dksX1_drawYear_1 3 rfl rfl)
theorem dX1_drawYear_30 : decode cX1_drawYear 30 = .ok (.ishl, 1) := dk_120 (dk_at dksX1_drawYear_1 6 rfl rfl)
theorem dX1_drawYear_31 : decode cX1_drawYear 31 = .ok (.ixor, 1) := dk_130 (dk_at dksX1_drawYear_1 7 rfl rfl)
theorem dX1_drawYear_32 : decode cX1_drawYear 32 = .ok (.iastore, 1) := dk_79 (dk_at dksX1_drawYear_1 8 rfl rfl)
theorem dX1_drawYear_33 : decode cX1_drawYear 33 = .ok (.aload_n 0, 1) := dk_42 (dk_at dksX1_drawYear_1 9 rfl rfl)
theorem dX1_drawYear_34 : decode cX1_drawYear 34 = .ok (.bipush 10, 2) := dk_16 10 (dk_at dksX1_drawYear_1 10 rfl rfl)
theorem dX1_drawYear_36 : decode cX1_drawYear 36 = .ok (.invokevirtual 405, 3) := dk_182 1 149 (dk_at dksX1_drawYear_1 12 rfl rfl)
theorem dX1_drawYear_39 : decode cX1_drawYear 39 = .ok (.bipush 7, 2) := dk_16 7 (dk_at dksX1_drawYear_1 15 rfl rfl)
theorem dX1_drawYear_41 : decode cX1_drawYear 41 = .ok (.if_icmp .ge 4, 3) := dk_162 0 4 (dk_at dksX1_drawYear_1 17 rfl rfl)
theorem dX1_drawYear_44 : decode cX1_drawYear 44 = .ok (.return_, 1) := dk_177 (dk_at dksX1_drawYear_1 20 rfl rfl)
theorem dX1_drawYear_45 : decode cX1_drawYear 45 = .ok (.aload_n 0, 1) := dk_42 (dk_at dksX1_drawYear_1 21 rfl rfl)
theorem dX1_drawYear_46 : decode cX1_drawYear 46 = .ok (.aload_n 0, 1) := dk_42 (dk_at dksX1_drawYear_1 22 rfl rfl)
theorem dX1_drawYear_47 : decode cX1_drawYear 47 = .ok (.getfield 305, 3) := dk_180 1 49 (dk_at dksX1_drawYear_2 0 rfl rfl)
theorem dX1_drawYear_50 : decode cX1_drawYear 50 = .ok (.invokevirtual 405, 3) := dk_182 1 149 (dk_at dksX1_drawYear_2 3 rfl rfl)
theorem dX1_drawYear_53 : decode cX1_drawYear 53 = .ok (.istore_n 1, 1) := dk_60 (dk_at dksX1_drawYear_2 6 rfl rfl)
theorem dX1_drawYear_54 : decode cX1_drawYear 54 = .ok (.aload_n 0, 1) := dk_42 (dk_at dksX1_drawYear_2 7 rfl rfl)
theorem dX1_drawYear_55 : decode cX1_drawYear 55 = .ok (.getfield 58, 3) := dk_180 0 58 (dk_at dksX1_drawYear_2 8 rfl rfl)
theorem dX1_drawYear_58 : decode cX1_drawYear 58 = .ok (.iconst 0, 1) := dk_3 (dk_at dksX1_drawYear_2 11 rfl rfl)
theorem dX1_drawYear_59 : decode cX1_drawYear 59 = .ok (.iload_n 1, 1) := dk_27 (dk_at dksX1_drawYear_2 12 rfl rfl)
theorem dX1_drawYear_60 : decode cX1_drawYear 60 = .ok (.iadd, 1) := dk_96 (dk_at dksX1_drawYear_2 13 rfl rfl)
theorem dX1_drawYear_61 : decode cX1_drawYear 61 = .ok (.bipush 30, 2) := dk_16 30 (dk_at dksX1_drawYear_2 14 rfl rfl)
theorem dX1_drawYear_63 : decode cX1_drawYear 63 = .ok (.aload_n 0, 1) := dk_42 (dk_at dksX1_drawYear_2 16 rfl rfl)
theorem dX1_drawYear_64 : decode cX1_drawYear 64 = .ok (.getfield 58, 3) := dk_180 0 58 (dk_at dksX1_drawYear_2 17 rfl rfl)
theorem dX1_drawYear_67 : decode cX1_drawYear 67 = .ok (.iconst 0, 1) := dk_3 (dk_at dksX1_drawYear_2 20 rfl rfl)
theorem dX1_drawYear_68 : decode cX1_drawYear 68 = .ok (.iload_n 1, 1) := dk_27 (dk_at dksX1_drawYear_2 21 rfl rfl)
theorem dX1_drawYear_69 : decode cX1_drawYear 69 = .ok (.iadd, 1) := dk_96 (dk_at dksX1_drawYear_2 22 rfl rfl)
theorem dX1_drawYear_70 : decode cX1_drawYear 70 = .ok (.iaload, 1) := dk_46 (dk_at dksX1_drawYear_2 23 rfl rfl)
theorem dX1_drawYear_71 : decode cX1_drawYear 71 = .ok (.iconst 2, 1) := dk_5 (dk_at dksX1_drawYear_3 0 rfl rfl)
theorem dX1_drawYear_72 : decode cX1_drawYear 72 = .ok (.iadd, 1) := dk_96 (dk_at dksX1_drawYear_3 1 rfl rfl)
theorem dX1_drawYear_73 : decode cX1_drawYear 73 = .ok (.invokestatic 346, 3) := dk_184 1 90 (dk_at dksX1_drawYear_3 2 rfl rfl)
theorem dX1_drawYear_76 : decode cX1_drawYear 76 = .ok (.iastore, 1) := dk_79 (dk_at dksX1_drawYear_3 5 rfl rfl)
theorem dX1_drawYear_77 : decode cX1_drawYear 77 = .ok (.return_, 1) := dk_177 (dk_at dksX1_drawYear_3 6 rfl rfl)
abbrev cX1_draw : ByteArray := prog_1_method_71_code
def yX1_draw : MethodName := ⟨RX1, "draw", "(I)I"⟩
def dkwX1_draw_1 : List UInt8 := [133, 113, 136, 172]
abbrev dktX1_draw_1 : List UInt8 := dkwX1_draw_1 ++ []
def dkwX1_draw_0 : List UInt8 := [42, 42, 180, 1, 141, 20, 1, 145, 105, 20, 1, 147, 97, 181, 1, 141, 42, 180, 1, 141, 16, 33, 125, 27]
abbrev dktX1_draw_0 : List UInt8 := dkwX1_draw_0 ++ dktX1_draw_1
theorem dksX1_draw_0 : cX1_draw.data.toList.drop 0 = dktX1_draw_0 := by decide +kernel
theorem dksX1_draw_1 : cX1_draw.data.toList.drop 24 = dktX1_draw_1 := dk_seg dksX1_draw_0 24 rfl rfl
theorem dX1_draw_0 : decode cX1_draw 0 = .ok (.aload_n 0, 1) := dk_42 (dk_at dksX1_draw_0 0 rfl rfl)
theorem dX1_draw_1 : decode cX1_draw 1 = .ok (.aload_n 0, 1) := dk_42 (dk_at dksX1_draw_0 1 rfl rfl)
theorem dX1_draw_2 : decode cX1_draw 2 = .ok (.getfield 397, 3) := dk_180 1 141 (dk_at dksX1_draw_0 2 rfl rfl)
theorem dX1_draw_5 : decode cX1_draw 5 = .ok (.ldc2_w 401, 3) := dk_20 1 145 (dk_at dksX1_draw_0 5 rfl rfl)
theorem dX1_draw_8 : decode cX1_draw 8 = .ok (.lmul, 1) := dk_105 (dk_at dksX1_draw_0 8 rfl rfl)
theorem dX1_draw_9 : decode cX1_draw 9 = .ok (.ldc2_w 403, 3) := dk_20 1 147 (dk_at dksX1_draw_0 9 rfl rfl)
theorem dX1_draw_12 : decode cX1_draw 12 = .ok (.ladd, 1) := dk_97 (dk_at dksX1_draw_0 12 rfl rfl)
theorem dX1_draw_13 : decode cX1_draw 13 = .ok (.putfield 397, 3) := dk_181 1 141 (dk_at dksX1_draw_0 13 rfl rfl)
theorem dX1_draw_16 : decode cX1_draw 16 = .ok (.aload_n 0, 1) := dk_42 (dk_at dksX1_draw_0 16 rfl rfl)
theorem dX1_draw_17 : decode cX1_draw 17 = .ok (.getfield 397, 3) := dk_180 1 141 (dk_at dksX1_draw_0 17 rfl rfl)
theorem dX1_draw_20 : decode cX1_draw 20 = .ok (.bipush 33, 2) := dk_16 33 (dk_at dksX1_draw_0 20 rfl rfl)
theorem dX1_draw_22 : decode cX1_draw 22 = .ok (.lushr, 1) := dk_125 (dk_at dksX1_draw_0 22 rfl rfl)
theorem dX1_draw_23 : decode cX1_draw 23 = .ok (.iload_n 1, 1) := dk_27 (dk_at dksX1_draw_0 23 rfl rfl)
theorem dX1_draw_24 : decode cX1_draw 24 = .ok (.i2l, 1) := dk_133 (dk_at dksX1_draw_1 0 rfl rfl)
theorem dX1_draw_25 : decode cX1_draw 25 = .ok (.lrem, 1) := dk_113 (dk_at dksX1_draw_1 1 rfl rfl)
theorem dX1_draw_26 : decode cX1_draw 26 = .ok (.l2i, 1) := dk_136 (dk_at dksX1_draw_1 2 rfl rfl)
theorem dX1_draw_27 : decode cX1_draw 27 = .ok (.ireturn, 1) := dk_172 (dk_at dksX1_draw_1 3 rfl rfl)
abbrev cX1_undo : ByteArray := prog_1_method_74_code
def yX1_undo : MethodName := ⟨RX1, "undo", "()I"⟩
def dkwX1_undo_2 : List UInt8 := [96, 46, 79, 132, 1, 1, 167, 255, 225, 42, 180, 1, 58, 172]
abbrev dktX1_undo_2 : List UInt8 := dkwX1_undo_2 ++ []
def dkwX1_undo_1 : List UInt8 := [17, 1, 35, 162, 0, 30, 42, 180, 0, 58, 27, 42, 180, 0, 61, 17, 1, 35, 42, 180, 1, 58, 104, 27]
abbrev dktX1_undo_1 : List UInt8 := dkwX1_undo_1 ++ dktX1_undo_2
def dkwX1_undo_0 : List UInt8 := [42, 180, 1, 58, 154, 0, 5, 2, 172, 42, 89, 180, 1, 58, 4, 100, 181, 1, 58, 3, 60, 27]
abbrev dktX1_undo_0 : List UInt8 := dkwX1_undo_0 ++ dktX1_undo_1
theorem dksX1_undo_0 : cX1_undo.data.toList.drop 0 = dktX1_undo_0 := by decide +kernel
theorem dksX1_undo_1 : cX1_undo.data.toList.drop 22 = dktX1_undo_1 := dk_seg dksX1_undo_0 22 rfl rfl
theorem dksX1_undo_2 : cX1_undo.data.toList.drop 46 = dktX1_undo_2 := dk_seg dksX1_undo_1 24 rfl rfl
theorem dX1_undo_0 : decode cX1_undo 0 = .ok (.aload_n 0, 1) := dk_42 (dk_at dksX1_undo_0 0 rfl rfl)
theorem dX1_undo_1 : decode cX1_undo 1 = .ok (.getfield 314, 3) := dk_180 1 58 (dk_at dksX1_undo_0 1 rfl rfl)
theorem dX1_undo_4 : decode cX1_undo 4 = .ok (.ifCond .ne 5, 3) := dk_154 0 5 (dk_at dksX1_undo_0 4 rfl rfl)
theorem dX1_undo_7 : decode cX1_undo 7 = .ok (.iconst (-1), 1) := dk_2 (dk_at dksX1_undo_0 7 rfl rfl)
theorem dX1_undo_8 : decode cX1_undo 8 = .ok (.ireturn, 1) := dk_172 (dk_at dksX1_undo_0 8 rfl rfl)
theorem dX1_undo_9 : decode cX1_undo 9 = .ok (.aload_n 0, 1) := dk_42 (dk_at dksX1_undo_0 9 rfl rfl)
theorem dX1_undo_10 : decode cX1_undo 10 = .ok (.dup, 1) := dk_89 (dk_at dksX1_undo_0 10 rfl rfl)
theorem dX1_undo_11 : decode cX1_undo 11 = .ok (.getfield 314, 3) := dk_180 1 58 (dk_at dksX1_undo_0 11 rfl rfl)
theorem dX1_undo_14 : decode cX1_undo 14 = .ok (.iconst 1, 1) := dk_4 (dk_at dksX1_undo_0 14 rfl rfl)
theorem dX1_undo_15 : decode cX1_undo 15 = .ok (.isub, 1) := dk_100 (dk_at dksX1_undo_0 15 rfl rfl)
theorem dX1_undo_16 : decode cX1_undo 16 = .ok (.putfield 314, 3) := dk_181 1 58 (dk_at dksX1_undo_0 16 rfl rfl)
theorem dX1_undo_19 : decode cX1_undo 19 = .ok (.iconst 0, 1) := dk_3 (dk_at dksX1_undo_0 19 rfl rfl)
theorem dX1_undo_20 : decode cX1_undo 20 = .ok (.istore_n 1, 1) := dk_60 (dk_at dksX1_undo_0 20 rfl rfl)
theorem dX1_undo_21 : decode cX1_undo 21 = .ok (.iload_n 1, 1) := dk_27 (dk_at dksX1_undo_0 21 rfl rfl)
theorem dX1_undo_22 : decode cX1_undo 22 = .ok (.sipush 291, 3) := dk_17 1 35 (dk_at dksX1_undo_1 0 rfl rfl)
theorem dX1_undo_25 : decode cX1_undo 25 = .ok (.if_icmp .ge 30, 3) := dk_162 0 30 (dk_at dksX1_undo_1 3 rfl rfl)
theorem dX1_undo_28 : decode cX1_undo 28 = .ok (.aload_n 0, 1) := dk_42 (dk_at dksX1_undo_1 6 rfl rfl)
theorem dX1_undo_29 : decode cX1_undo 29 = .ok (.getfield 58, 3) := dk_180 0 58 (dk_at dksX1_undo_1 7 rfl rfl)
theorem dX1_undo_32 : decode cX1_undo 32 = .ok (.iload_n 1, 1) := dk_27 (dk_at dksX1_undo_1 10 rfl rfl)
theorem dX1_undo_33 : decode cX1_undo 33 = .ok (.aload_n 0, 1) := dk_42 (dk_at dksX1_undo_1 11 rfl rfl)
theorem dX1_undo_34 : decode cX1_undo 34 = .ok (.getfield 61, 3) := dk_180 0 61 (dk_at dksX1_undo_1 12 rfl rfl)
theorem dX1_undo_37 : decode cX1_undo 37 = .ok (.sipush 291, 3) := dk_17 1 35 (dk_at dksX1_undo_1 15 rfl rfl)
theorem dX1_undo_40 : decode cX1_undo 40 = .ok (.aload_n 0, 1) := dk_42 (dk_at dksX1_undo_1 18 rfl rfl)
theorem dX1_undo_41 : decode cX1_undo 41 = .ok (.getfield 314, 3) := dk_180 1 58 (dk_at dksX1_undo_1 19 rfl rfl)
theorem dX1_undo_44 : decode cX1_undo 44 = .ok (.imul, 1) := dk_104 (dk_at dksX1_undo_1 22 rfl rfl)
theorem dX1_undo_45 : decode cX1_undo 45 = .ok (.iload_n 1, 1) := dk_27 (dk_at dksX1_undo_1 23 rfl rfl)
theorem dX1_undo_46 : decode cX1_undo 46 = .ok (.iadd, 1) := dk_96 (dk_at dksX1_undo_2 0 rfl rfl)
theorem dX1_undo_47 : decode cX1_undo 47 = .ok (.iaload, 1) := dk_46 (dk_at dksX1_undo_2 1 rfl rfl)
theorem dX1_undo_48 : decode cX1_undo 48 = .ok (.iastore, 1) := dk_79 (dk_at dksX1_undo_2 2 rfl rfl)
theorem dX1_undo_49 : decode cX1_undo 49 = .ok (.iinc 1 1, 3) := dk_132 1 1 (dk_at dksX1_undo_2 3 rfl rfl)
theorem dX1_undo_52 : decode cX1_undo 52 = .ok (.goto (-31), 3) := dk_167 255 225 (dk_at dksX1_undo_2 6 rfl rfl)
theorem dX1_undo_55 : decode cX1_undo 55 = .ok (.aload_n 0, 1) := dk_42 (dk_at dksX1_undo_2 9 rfl rfl)
theorem dX1_undo_56 : decode cX1_undo 56 = .ok (.getfield 314, 3) := dk_180 1 58 (dk_at dksX1_undo_2 10 rfl rfl)
theorem dX1_undo_59 : decode cX1_undo 59 = .ok (.ireturn, 1) := dk_172 (dk_at dksX1_undo_2 13 rfl rfl)
abbrev cX1_log : ByteArray := prog_1_method_75_code
def yX1_log : MethodName := ⟨RX1, "log", "(II)I"⟩
def dkwX1_log_2 : List UInt8 := [96, 46, 167, 0, 6, 19, 1, 155, 172]
abbrev dktX1_log_2 : List UInt8 := dkwX1_log_2 ++ []
def dkwX1_log_1 : List UInt8 := [153, 0, 29, 42, 180, 0, 58, 16, 111, 6, 42, 180, 0, 58, 16, 110, 46, 4, 100, 27, 100, 104, 96, 28]
abbrev dktX1_log_1 : List UInt8 := dkwX1_log_1 ++ dktX1_log_2
def dkwX1_log_0 : List UInt8 := [27, 3, 42, 180, 0, 58, 16, 110, 46, 4, 100, 184, 0, 233, 153, 0, 38, 28, 3, 5, 184, 0, 233]
abbrev dktX1_log_0 : List UInt8 := dkwX1_log_0 ++ dktX1_log_1
theorem dksX1_log_0 : cX1_log.data.toList.drop 0 = dktX1_log_0 := by decide +kernel
theorem dksX1_log_1 : cX1_log.data.toList.drop 23 = dktX1_log_1 := dk_seg dksX1_log_0 23 rfl rfl
theorem dksX1_log_2 : cX1_log.data.toList.drop 47 = dktX1_log_2 := dk_seg dksX1_log_1 24 rfl rfl
theorem dX1_log_0 : decode cX1_log 0 = .ok (.iload_n 1, 1) := dk_27 (dk_at dksX1_log_0 0 rfl rfl)
theorem dX1_log_1 : decode cX1_log 1 = .ok (.iconst 0, 1) := dk_3 (dk_at dksX1_log_0 1 rfl rfl)
theorem dX1_log_2 : decode cX1_log 2 = .ok (.aload_n 0, 1) := dk_42 (dk_at dksX1_log_0 2 rfl rfl)
theorem dX1_log_3 : decode cX1_log 3 = .ok (.getfield 58, 3) := dk_180 0 58 (dk_at dksX1_log_0 3 rfl rfl)
theorem dX1_log_6 : decode cX1_log 6 = .ok (.bipush 110, 2) := dk_16 110 (dk_at dksX1_log_0 6 rfl rfl)
theorem dX1_log_8 : decode cX1_log 8 = .ok (.iaload, 1) := dk_46 (dk_at dksX1_log_0 8 rfl rfl)
theorem dX1_log_9 : decode cX1_log 9 = .ok (.iconst 1, 1) := dk_4 (dk_at dksX1_log_0 9 rfl rfl)
theorem dX1_log_10 : decode cX1_log 10 = .ok (.isub, 1) := dk_100 (dk_at dksX1_log_0 10 rfl rfl)
theorem dX1_log_11 : decode cX1_log 11 = .ok (.invokestatic 233, 3) := dk_184 0 233 (dk_at dksX1_log_0 11 rfl rfl)
theorem dX1_log_14 : decode cX1_log 14 = .ok (.ifCond .eq 38, 3) := dk_153 0 38 (dk_at dksX1_log_0 14 rfl rfl)
theorem dX1_log_17 : decode cX1_log 17 = .ok (.iload_n 2, 1) := dk_28 (dk_at dksX1_log_0 17 rfl rfl)
theorem dX1_log_18 : decode cX1_log 18 = .ok (.iconst 0, 1) := dk_3 (dk_at dksX1_log_0 18 rfl rfl)
theorem dX1_log_19 : decode cX1_log 19 = .ok (.iconst 2, 1) := dk_5 (dk_at dksX1_log_0 19 rfl rfl)
theorem dX1_log_20 : decode cX1_log 20 = .ok (.invokestatic 233, 3) := dk_184 0 233 (dk_at dksX1_log_0 20 rfl rfl)
theorem dX1_log_23 : decode cX1_log 23 = .ok (.ifCond .eq 29, 3) := dk_153 0 29 (dk_at dksX1_log_1 0 rfl rfl)
theorem dX1_log_26 : decode cX1_log 26 = .ok (.aload_n 0, 1) := dk_42 (dk_at dksX1_log_1 3 rfl rfl)
theorem dX1_log_27 : decode cX1_log 27 = .ok (.getfield 58, 3) := dk_180 0 58 (dk_at dksX1_log_1 4 rfl rfl)
theorem dX1_log_30 : decode cX1_log 30 = .ok (.bipush 111, 2) := dk_16 111 (dk_at dksX1_log_1 7 rfl rfl)
theorem dX1_log_32 : decode cX1_log 32 = .ok (.iconst 3, 1) := dk_6 (dk_at dksX1_log_1 9 rfl rfl)
theorem dX1_log_33 : decode cX1_log 33 = .ok (.aload_n 0, 1) := dk_42 (dk_at dksX1_log_1 10 rfl rfl)
theorem dX1_log_34 : decode cX1_log 34 = .ok (.getfield 58, 3) := dk_180 0 58 (dk_at dksX1_log_1 11 rfl rfl)
theorem dX1_log_37 : decode cX1_log 37 = .ok (.bipush 110, 2) := dk_16 110 (dk_at dksX1_log_1 14 rfl rfl)
theorem dX1_log_39 : decode cX1_log 39 = .ok (.iaload, 1) := dk_46 (dk_at dksX1_log_1 16 rfl rfl)
theorem dX1_log_40 : decode cX1_log 40 = .ok (.iconst 1, 1) := dk_4 (dk_at dksX1_log_1 17 rfl rfl)
theorem dX1_log_41 : decode cX1_log 41 = .ok (.isub, 1) := dk_100 (dk_at dksX1_log_1 18 rfl rfl)
theorem dX1_log_42 : decode cX1_log 42 = .ok (.iload_n 1, 1) := dk_27 (dk_at dksX1_log_1 19 rfl rfl)
theorem dX1_log_43 : decode cX1_log 43 = .ok (.isub, 1) := dk_100 (dk_at dksX1_log_1 20 rfl rfl)
theorem dX1_log_44 : decode cX1_log 44 = .ok (.imul, 1) := dk_104 (dk_at dksX1_log_1 21 rfl rfl)
theorem dX1_log_45 : decode cX1_log 45 = .ok (.iadd, 1) := dk_96 (dk_at dksX1_log_1 22 rfl rfl)
theorem dX1_log_46 : decode cX1_log 46 = .ok (.iload_n 2, 1) := dk_28 (dk_at dksX1_log_1 23 rfl rfl)
theorem dX1_log_47 : decode cX1_log 47 = .ok (.iadd, 1) := dk_96 (dk_at dksX1_log_2 0 rfl rfl)
theorem dX1_log_48 : decode cX1_log 48 = .ok (.iaload, 1) := dk_46 (dk_at dksX1_log_2 1 rfl rfl)
theorem dX1_log_49 : decode cX1_log 49 = .ok (.goto 6, 3) := dk_167 0 6 (dk_at dksX1_log_2 2 rfl rfl)
theorem dX1_log_52 : decode cX1_log 52 = .ok (.ldc_w 411, 3) := dk_19 1 155 (dk_at dksX1_log_2 5 rfl rfl)
theorem dX1_log_55 : decode cX1_log 55 = .ok (.ireturn, 1) := dk_172 (dk_at dksX1_log_2 8 rfl rfl)
abbrev cX1_step : ByteArray := prog_1_method_76_code
def yX1_step : MethodName := ⟨RX1, "step", "(III)I"⟩
def dkwX1_step_2 : List UInt8 := [167, 0, 6, 19, 1, 155, 172]
abbrev dktX1_step_2 : List UInt8 := dkwX1_step_2 ++ []
def dkwX1_step_1 : List UInt8 := [29, 3, 4, 184, 0, 233, 153, 0, 21, 42, 180, 0, 39, 5, 16, 16, 27, 104, 28, 96, 104, 29, 96, 46]
abbrev dktX1_step_1 : List UInt8 := dkwX1_step_1 ++ dktX1_step_2
def dkwX1_step_0 : List UInt8 := [42, 27, 182, 1, 156, 153, 0, 46, 28, 3, 42, 180, 0, 42, 27, 46, 4, 100, 184, 0, 233, 153, 0, 30]
abbrev dktX1_step_0 : List UInt8 := dkwX1_step_0 ++ dktX1_step_1
theorem dksX1_step_0 : cX1_step.data.toList.drop 0 = dktX1_step_0 := by decide +kernel
theorem dksX1_step_1 : cX1_step.data.toList.drop 24 = dktX1_step_1 := dk_seg dksX1_step_0 24 rfl rfl
theorem dksX1_step_2 : cX1_step.data.toList.drop 48 = dktX1_step_2 := dk_seg dksX1_step_1 24 rfl rfl
theorem dX1_step_0 : decode cX1_step 0 = .ok (.aload_n 0, 1) := dk_42 (dk_at dksX1_step_0 0 rfl rfl)
theorem dX1_step_1 : decode cX1_step 1 = .ok (.iload_n 1, 1) := dk_27 (dk_at dksX1_step_0 1 rfl rfl)
theorem dX1_step_2 : decode cX1_step 2 = .ok (.invokevirtual 412, 3) := dk_182 1 156 (dk_at dksX1_step_0 2 rfl rfl)
theorem dX1_step_5 : decode cX1_step 5 = .ok (.ifCond .eq 46, 3) := dk_153 0 46 (dk_at dksX1_step_0 5 rfl rfl)
theorem dX1_step_8 : decode cX1_step 8 = .ok (.iload_n 2, 1) := dk_28 (dk_at dksX1_step_0 8 rfl rfl)
theorem dX1_step_9 : decode cX1_step 9 = .ok (.iconst 0, 1) := dk_3 (dk_at dksX1_step_0 9 rfl rfl)
theorem dX1_step_10 : decode cX1_step 10 = .ok (.aload_n 0, 1) := dk_42 (dk_at dksX1_step_0 10 rfl rfl)
theorem dX1_step_11 : decode cX1_step 11 = .ok (.getfield 42, 3) := dk_180 0 42 (dk_at dksX1_step_0 11 rfl rfl)
theorem dX1_step_14 : decode cX1_step 14 = .ok (.iload_n 1, 1) := dk_27 (dk_at dksX1_step_0 14 rfl rfl)
theorem dX1_step_15 : decode cX1_step 15 = .ok (.iaload, 1) := dk_46 (dk_at dksX1_step_0 15 rfl rfl)
theorem dX1_step_16 : decode cX1_step 16 = .ok (.iconst 1, 1) := dk_4 (dk_at dksX1_step_0 16 rfl rfl)
theorem dX1_step_17 : decode cX1_step 17 = .ok (.isub, 1) := dk_100 (dk_at dksX1_step_0 17 rfl rfl)
theorem dX1_step_18 : decode cX1_step 18 = .ok (.invokestatic 233, 3) := dk_184 0 233 (dk_at dksX1_step_0 18 rfl rfl)
theorem dX1_step_21 : decode cX1_step 21 = .ok (.ifCond .eq 30, 3) := dk_153 0 30 (dk_at dksX1_step_0 21 rfl rfl)
theorem dX1_step_24 : decode cX1_step 24 = .ok (.iload_n 3, 1) := dk_29 (dk_at dksX1_step_1 0 rfl rfl)
theorem dX1_step_25 : decode cX1_step 25 = .ok (.iconst 0, 1) := dk_3 (dk_at dksX1_step_1 1 rfl rfl)
theorem dX1_step_26 : decode cX1_step 26 = .ok (.iconst 1, 1) := dk_4 (dk_at dksX1_step_1 2 rfl rfl)
theorem dX1_step_27 : decode cX1_step 27 = .ok (.invokestatic 233, 3) := dk_184 0 233 (dk_at dksX1_step_1 3 rfl rfl)
theorem dX1_step_30 : decode cX1_step 30 = .ok (.ifCond .eq 21, 3) := dk_153 0 21 (dk_at dksX1_step_1 6 rfl rfl)
theorem dX1_step_33 : decode cX1_step 33 = .ok (.aload_n 0, 1) := dk_42 (dk_at dksX1_step_1 9 rfl rfl)
theorem dX1_step_34 : decode cX1_step 34 = .ok (.getfield 39, 3) := dk_180 0 39 (dk_at dksX1_step_1 10 rfl rfl)
theorem dX1_step_37 : decode cX1_step 37 = .ok (.iconst 2, 1) := dk_5 (dk_at dksX1_step_1 13 rfl rfl)
theorem dX1_step_38 : decode cX1_step 38 = .ok (.bipush 16, 2) := dk_16 16 (dk_at dksX1_step_1 14 rfl rfl)
theorem dX1_step_40 : decode cX1_step 40 = .ok (.iload_n 1, 1) := dk_27 (dk_at dksX1_step_1 16 rfl rfl)
theorem dX1_step_41 : decode cX1_step 41 = .ok (.imul, 1) := dk_104 (dk_at dksX1_step_1 17 rfl rfl)
theorem dX1_step_42 : decode cX1_step 42 = .ok (.iload_n 2, 1) := dk_28 (dk_at dksX1_step_1 18 rfl rfl)
theorem dX1_step_43 : decode cX1_step 43 = .ok (.iadd, 1) := dk_96 (dk_at dksX1_step_1 19 rfl rfl)
theorem dX1_step_44 : decode cX1_step 44 = .ok (.imul, 1) := dk_104 (dk_at dksX1_step_1 20 rfl rfl)
theorem dX1_step_45 : decode cX1_step 45 = .ok (.iload_n 3, 1) := dk_29 (dk_at dksX1_step_1 21 rfl rfl)
theorem dX1_step_46 : decode cX1_step 46 = .ok (.iadd, 1) := dk_96 (dk_at dksX1_step_1 22 rfl rfl)
theorem dX1_step_47 : decode cX1_step 47 = .ok (.iaload, 1) := dk_46 (dk_at dksX1_step_1 23 rfl rfl)
theorem dX1_step_48 : decode cX1_step 48 = .ok (.goto 6, 3) := dk_167 0 6 (dk_at dksX1_step_2 0 rfl rfl)
theorem dX1_step_51 : decode cX1_step 51 = .ok (.ldc_w 411, 3) := dk_19 1 155 (dk_at dksX1_step_2 3 rfl rfl)
theorem dX1_step_54 : decode cX1_step 54 = .ok (.ireturn, 1) := dk_172 (dk_at dksX1_step_2 6 rfl rfl)
abbrev cX1_isCampaign : ByteArray := prog_1_method_43_code
def yX1_isCampaign : MethodName := ⟨RX1, "isCampaign", "(I)Z"⟩
def dkwX1_isCampaign_0 : List UInt8 := [27, 3, 42, 180, 1, 38, 4, 100, 184, 0, 233, 172]
abbrev dktX1_isCampaign_0 : List UInt8 := dkwX1_isCampaign_0 ++ []
theorem dksX1_isCampaign_0 : cX1_isCampaign.data.toList.drop 0 = dktX1_isCampaign_0 := by decide +kernel
theorem dX1_isCampaign_0 : decode cX1_isCampaign 0 = .ok (.iload_n 1, 1) := dk_27 (dk_at dksX1_isCampaign_0 0 rfl rfl)
theorem dX1_isCampaign_1 : decode cX1_isCampaign 1 = .ok (.iconst 0, 1) := dk_3 (dk_at dksX1_isCampaign_0 1 rfl rfl)
theorem dX1_isCampaign_2 : decode cX1_isCampaign 2 = .ok (.aload_n 0, 1) := dk_42 (dk_at dksX1_isCampaign_0 2 rfl rfl)
theorem dX1_isCampaign_3 : decode cX1_isCampaign 3 = .ok (.getfield 294, 3) := dk_180 1 38 (dk_at dksX1_isCampaign_0 3 rfl rfl)
theorem dX1_isCampaign_6 : decode cX1_isCampaign 6 = .ok (.iconst 1, 1) := dk_4 (dk_at dksX1_isCampaign_0 6 rfl rfl)
theorem dX1_isCampaign_7 : decode cX1_isCampaign 7 = .ok (.isub, 1) := dk_100 (dk_at dksX1_isCampaign_0 7 rfl rfl)
theorem dX1_isCampaign_8 : decode cX1_isCampaign 8 = .ok (.invokestatic 233, 3) := dk_184 0 233 (dk_at dksX1_isCampaign_0 8 rfl rfl)
theorem dX1_isCampaign_11 : decode cX1_isCampaign 11 = .ok (.ireturn, 1) := dk_172 (dk_at dksX1_isCampaign_0 11 rfl rfl)
abbrev cX1_run : ByteArray := prog_1_method_81_code
def yX1_run : MethodName := ⟨RX1, "run", "(II)I"⟩
def dkwX1_run_4 : List UInt8 := [21, 4, 167, 0, 18, 29, 42, 180, 0, 42, 27, 46, 160, 0, 7, 2, 167, 0, 4, 29, 172]
abbrev dktX1_run_4 : List UInt8 := dkwX1_run_4 ++ []
def dkwX1_run_3 : List UInt8 := [104, 3, 182, 1, 165, 96, 54, 4, 132, 3, 1, 167, 255, 210, 42, 182, 1, 169, 28, 4, 160, 0, 8]
abbrev dktX1_run_3 : List UInt8 := dkwX1_run_3 ++ dktX1_run_4
def dkwX1_run_2 : List UInt8 := [5, 16, 16, 27, 104, 29, 96, 104, 182, 1, 162, 153, 0, 27, 21, 4, 42, 5, 16, 16, 27, 104, 29, 96]
abbrev dktX1_run_2 : List UInt8 := dkwX1_run_2 ++ dktX1_run_3
def dkwX1_run_1 : List UInt8 := [19, 1, 155, 172, 42, 182, 1, 159, 3, 62, 3, 54, 4, 29, 42, 180, 0, 42, 27, 46, 162, 0, 42, 42]
abbrev dktX1_run_1 : List UInt8 := dkwX1_run_1 ++ dktX1_run_2
def dkwX1_run_0 : List UInt8 := [42, 182, 1, 117, 153, 0, 20, 42, 27, 182, 1, 156, 153, 0, 12, 28, 3, 4, 184, 0, 233, 154, 0, 7]
abbrev dktX1_run_0 : List UInt8 := dkwX1_run_0 ++ dktX1_run_1
theorem dksX1_run_0 : cX1_run.data.toList.drop 0 = dktX1_run_0 := by decide +kernel
theorem dksX1_run_1 : cX1_run.data.toList.drop 24 = dktX1_run_1 := dk_seg dksX1_run_0 24 rfl rfl
theorem dksX1_run_2 : cX1_run.data.toList.drop 48 = dktX1_run_2 := dk_seg dksX1_run_1 24 rfl rfl
theorem dksX1_run_3 : cX1_run.data.toList.drop 72 = dktX1_run_3 := dk_seg dksX1_run_2 24 rfl rfl
theorem dksX1_run_4 : cX1_run.data.toList.drop 95 = dktX1_run_4 := dk_seg dksX1_run_3 23 rfl rfl
theorem dX1_run_0 : decode cX1_run 0 = .ok (.aload_n 0, 1) := dk_42 (dk_at dksX1_run_0 0 rfl rfl)
theorem dX1_run_1 : decode cX1_run 1 = .ok (.invokevirtual 373, 3) := dk_182 1 117 (dk_at dksX1_run_0 1 rfl rfl)
theorem dX1_run_4 : decode cX1_run 4 = .ok (.ifCond .eq 20, 3) := dk_153 0 20 (dk_at dksX1_run_0 4 rfl rfl)
theorem dX1_run_7 : decode cX1_run 7 = .ok (.aload_n 0, 1) := dk_42 (dk_at dksX1_run_0 7 rfl rfl)
theorem dX1_run_8 : decode cX1_run 8 = .ok (.iload_n 1, 1) := dk_27 (dk_at dksX1_run_0 8 rfl rfl)
theorem dX1_run_9 : decode cX1_run 9 = .ok (.invokevirtual 412, 3) := dk_182 1 156 (dk_at dksX1_run_0 9 rfl rfl)
theorem dX1_run_12 : decode cX1_run 12 = .ok (.ifCond .eq 12, 3) := dk_153 0 12 (dk_at dksX1_run_0 12 rfl rfl)
theorem dX1_run_15 : decode cX1_run 15 = .ok (.iload_n 2, 1) := dk_28 (dk_at dksX1_run_0 15 rfl rfl)
theorem dX1_run_16 : decode cX1_run 16 = .ok (.iconst 0, 1) := dk_3 (dk_at dksX1_run_0 16 rfl rfl)
theorem dX1_run_17 : decode cX1_run 17 = .ok (.iconst 1, 1) := dk_4 (dk_at dksX1_run_0 17 rfl rfl)
theorem dX1_run_18 : decode cX1_run 18 = .ok (.invokestatic 233, 3) := dk_184 0 233 (dk_at dksX1_run_0 18 rfl rfl)
theorem dX1_run_21 : decode cX1_run 21 = .ok (.ifCond .ne 7, 3) := dk_154 0 7 (dk_at dksX1_run_0 21 rfl rfl)
theorem dX1_run_24 : decode cX1_run 24 = .ok (.ldc_w 411, 3) := dk_19 1 155 (dk_at dksX1_run_1 0 rfl rfl)
theorem dX1_run_27 : decode cX1_run 27 = .ok (.ireturn, 1) := dk_172 (dk_at dksX1_run_1 3 rfl rfl)
theorem dX1_run_28 : decode cX1_run 28 = .ok (.aload_n 0, 1) := dk_42 (dk_at dksX1_run_1 4 rfl rfl)
theorem dX1_run_29 : decode cX1_run 29 = .ok (.invokevirtual 415, 3) := dk_182 1 159 (dk_at dksX1_run_1 5 rfl rfl)
theorem dX1_run_32 : decode cX1_run 32 = .ok (.iconst 0, 1) := dk_3 (dk_at dksX1_run_1 8 rfl rfl)
theorem dX1_run_33 : decode cX1_run 33 = .ok (.istore_n 3, 1) := dk_62 (dk_at dksX1_run_1 9 rfl rfl)
theorem dX1_run_34 : decode cX1_run 34 = .ok (.iconst 0, 1) := dk_3 (dk_at dksX1_run_1 10 rfl rfl)
theorem dX1_run_35 : decode cX1_run 35 = .ok (.istore 4, 2) := dk_54 4 (dk_at dksX1_run_1 11 rfl rfl)
theorem dX1_run_37 : decode cX1_run 37 = .ok (.iload_n 3, 1) := dk_29 (dk_at dksX1_run_1 13 rfl rfl)
theorem dX1_run_38 : decode cX1_run 38 = .ok (.aload_n 0, 1) := dk_42 (dk_at dksX1_run_1 14 rfl rfl)
theorem dX1_run_39 : decode cX1_run 39 = .ok (.getfield 42, 3) := dk_180 0 42 (dk_at dksX1_run_1 15 rfl rfl)
theorem dX1_run_42 : decode cX1_run 42 = .ok (.iload_n 1, 1) := dk_27 (dk_at dksX1_run_1 18 rfl rfl)
theorem dX1_run_43 : decode cX1_run 43 = .ok (.iaload, 1) := dk_46 (dk_at dksX1_run_1 19 rfl rfl)
theorem dX1_run_44 : decode cX1_run 44 = .ok (.if_icmp .ge 42, 3) := dk_162 0 42 (dk_at dksX1_run_1 20 rfl rfl)
theorem dX1_run_47 : decode cX1_run 47 = .ok (.aload_n 0, 1) := dk_42 (dk_at dksX1_run_1 23 rfl rfl)
theorem dX1_run_48 : decode cX1_run 48 = .ok (.iconst 2, 1) := dk_5 (dk_at dksX1_run_2 0 rfl rfl)
theorem dX1_run_49 : decode cX1_run 49 = .ok (.bipush 16, 2) := dk_16 16 (dk_at dksX1_run_2 1 rfl rfl)
theorem dX1_run_51 : decode cX1_run 51 = .ok (.iload_n 1, 1) := dk_27 (dk_at dksX1_run_2 3 rfl rfl)
theorem dX1_run_52 : decode cX1_run 52 = .ok (.imul, 1) := dk_104 (dk_at dksX1_run_2 4 rfl rfl)
theorem dX1_run_53 : decode cX1_run 53 = .ok (.iload_n 3, 1) := dk_29 (dk_at dksX1_run_2 5 rfl rfl)
theorem dX1_run_54 : decode cX1_run 54 = .ok (.iadd, 1) := dk_96 (dk_at dksX1_run_2 6 rfl rfl)
theorem dX1_run_55 : decode cX1_run 55 = .ok (.imul, 1) := dk_104 (dk_at dksX1_run_2 7 rfl rfl)
theorem dX1_run_56 : decode cX1_run 56 = .ok (.invokevirtual 418, 3) := dk_182 1 162 (dk_at dksX1_run_2 8 rfl rfl)
theorem dX1_run_59 : decode cX1_run 59 = .ok (.ifCond .eq 27, 3) := dk_153 0 27 (dk_at dksX1_run_2 11 rfl rfl)
theorem dX1_run_62 : decode cX1_run 62 = .ok (.iload 4, 2) := dk_21 4 (dk_at dksX1_run_2 14 rfl rfl)
theorem dX1_run_64 : decode cX1_run 64 = .ok (.aload_n 0, 1) := dk_42 (dk_at dksX1_run_2 16 rfl rfl)
theorem dX1_run_65 : decode cX1_run 65 = .ok (.iconst 2, 1) := dk_5 (dk_at dksX1_run_2 17 rfl rfl)
theorem dX1_run_66 : decode cX1_run 66 = .ok (.bipush 16, 2) := dk_16 16 (dk_at dksX1_run_2 18 rfl rfl)
theorem dX1_run_68 : decode cX1_run 68 = .ok (.iload_n 1, 1) := dk_27 (dk_at dksX1_run_2 20 rfl rfl)
theorem dX1_run_69 : decode cX1_run 69 = .ok (.imul, 1) := dk_104 (dk_at dksX1_run_2 21 rfl rfl)
theorem dX1_run_70 : decode cX1_run 70 = .ok (.iload_n 3, 1) := dk_29 (dk_at dksX1_run_2 22 rfl rfl)
theorem dX1_run_71 : decode cX1_run 71 = .ok (.iadd, 1) := dk_96 (dk_at dksX1_run_2 23 rfl rfl)
theorem dX1_run_72 : decode cX1_run 72 = .ok (.imul, 1) := dk_104 (dk_at dksX1_run_3 0 rfl rfl)
theorem dX1_run_73 : decode cX1_run 73 = .ok (.iconst 0, 1) := dk_3 (dk_at dksX1_run_3 1 rfl rfl)
theorem dX1_run_74 : decode cX1_run 74 = .ok (.invokevirtual 421, 3) := dk_182 1 165 (dk_at dksX1_run_3 2 rfl rfl)
theorem dX1_run_77 : decode cX1_run 77 = .ok (.iadd, 1) := dk_96 (dk_at dksX1_run_3 5 rfl rfl)
theorem dX1_run_78 : decode cX1_run 78 = .ok (.istore 4, 2) := dk_54 4 (dk_at dksX1_run_3 6 rfl rfl)
theorem dX1_run_80 : decode cX1_run 80 = .ok (.iinc 3 1, 3) := dk_132 3 1 (dk_at dksX1_run_3 8 rfl rfl)
theorem dX1_run_83 : decode cX1_run 83 = .ok (.goto (-46), 3) := dk_167 255 210 (dk_at dksX1_run_3 11 rfl rfl)
theorem dX1_run_86 : decode cX1_run 86 = .ok (.aload_n 0, 1) := dk_42 (dk_at dksX1_run_3 14 rfl rfl)
theorem dX1_run_87 : decode cX1_run 87 = .ok (.invokevirtual 425, 3) := dk_182 1 169 (dk_at dksX1_run_3 15 rfl rfl)
theorem dX1_run_90 : decode cX1_run 90 = .ok (.iload_n 2, 1) := dk_28 (dk_at dksX1_run_3 18 rfl rfl)
theorem dX1_run_91 : decode cX1_run 91 = .ok (.iconst 1, 1) := dk_4 (dk_at dksX1_run_3 19 rfl rfl)
theorem dX1_run_92 : decode cX1_run 92 = .ok (.if_icmp .ne 8, 3) := dk_160 0 8 (dk_at dksX1_run_3 20 rfl rfl)
theorem dX1_run_95 : decode cX1_run 95 = .ok (.iload 4, 2) := dk_21 4 (dk_at dksX1_run_4 0 rfl rfl)
theorem dX1_run_97 : decode cX1_run 97 = .ok (.goto 18, 3) := dk_167 0 18 (dk_at dksX1_run_4 2 rfl rfl)
theorem dX1_run_100 : decode cX1_run 100 = .ok (.iload_n 3, 1) := dk_29 (dk_at dksX1_run_4 5 rfl rfl)
theorem dX1_run_101 : decode cX1_run 101 = .ok (.aload_n 0, 1) := dk_42 (dk_at dksX1_run_4 6 rfl rfl)
theorem dX1_run_102 : decode cX1_run 102 = .ok (.getfield 42, 3) := dk_180 0 42 (dk_at dksX1_run_4 7 rfl rfl)
theorem dX1_run_105 : decode cX1_run 105 = .ok (.iload_n 1, 1) := dk_27 (dk_at dksX1_run_4 10 rfl rfl)
theorem dX1_run_106 : decode cX1_run 106 = .ok (.iaload, 1) := dk_46 (dk_at dksX1_run_4 11 rfl rfl)
theorem dX1_run_107 : decode cX1_run 107 = .ok (.if_icmp .ne 7, 3) := dk_160 0 7 (dk_at dksX1_run_4 12 rfl rfl)
theorem dX1_run_110 : decode cX1_run 110 = .ok (.iconst (-1), 1) := dk_2 (dk_at dksX1_run_4 15 rfl rfl)
theorem dX1_run_111 : decode cX1_run 111 = .ok (.goto 4, 3) := dk_167 0 4 (dk_at dksX1_run_4 16 rfl rfl)
theorem dX1_run_114 : decode cX1_run 114 = .ok (.iload_n 3, 1) := dk_29 (dk_at dksX1_run_4 19 rfl rfl)
theorem dX1_run_115 : decode cX1_run 115 = .ok (.ireturn, 1) := dk_172 (dk_at dksX1_run_4 20 rfl rfl)
abbrev cX1_putAside : ByteArray := prog_1_method_79_code
def yX1_putAside : MethodName := ⟨RX1, "putAside", "()V"⟩
def dkwX1_putAside_1 : List UInt8 := [167, 255, 235, 177]
abbrev dktX1_putAside_1 : List UInt8 := dkwX1_putAside_1 ++ []
def dkwX1_putAside_0 : List UInt8 := [3, 60, 27, 16, 110, 162, 0, 21, 42, 180, 0, 64, 27, 42, 180, 0, 58, 27, 46, 79, 132, 1, 1]
abbrev dktX1_putAside_0 : List UInt8 := dkwX1_putAside_0 ++ dktX1_putAside_1
theorem dksX1_putAside_0 : cX1_putAside.data.toList.drop 0 = dktX1_putAside_0 := by decide +kernel
theorem dksX1_putAside_1 : cX1_putAside.data.toList.drop 23 = dktX1_putAside_1 := dk_seg dksX1_putAside_0 23 rfl rfl
theorem dX1_putAside_0 : decode cX1_putAside 0 = .ok (.iconst 0, 1) := dk_3 (dk_at dksX1_putAside_0 0 rfl rfl)
theorem dX1_putAside_1 : decode cX1_putAside 1 = .ok (.istore_n 1, 1) := dk_60 (dk_at dksX1_putAside_0 1 rfl rfl)
theorem dX1_putAside_2 : decode cX1_putAside 2 = .ok (.iload_n 1, 1) := dk_27 (dk_at dksX1_putAside_0 2 rfl rfl)
theorem dX1_putAside_3 : decode cX1_putAside 3 = .ok (.bipush 110, 2) := dk_16 110 (dk_at dksX1_putAside_0 3 rfl rfl)
theorem dX1_putAside_5 : decode cX1_putAside 5 = .ok (.if_icmp .ge 21, 3) := dk_162 0 21 (dk_at dksX1_putAside_0 5 rfl rfl)
theorem dX1_putAside_8 : decode cX1_putAside 8 = .ok (.aload_n 0, 1) := dk_42 (dk_at dksX1_putAside_0 8 rfl rfl)
theorem dX1_putAside_9 : decode cX1_putAside 9 = .ok (.getfield 64, 3) := dk_180 0 64 (dk_at dksX1_putAside_0 9 rfl rfl)
theorem dX1_putAside_12 : decode cX1_putAside 12 = .ok (.iload_n 1, 1) := dk_27 (dk_at dksX1_putAside_0 12 rfl rfl)
theorem dX1_putAside_13 : decode cX1_putAside 13 = .ok (.aload_n 0, 1) := dk_42 (dk_at dksX1_putAside_0 13 rfl rfl)
theorem dX1_putAside_14 : decode cX1_putAside 14 = .ok (.getfield 58, 3) := dk_180 0 58 (dk_at dksX1_putAside_0 14 rfl rfl)
theorem dX1_putAside_17 : decode cX1_putAside 17 = .ok (.iload_n 1, 1) := dk_27 (dk_at dksX1_putAside_0 17 rfl rfl)
theorem dX1_putAside_18 : decode cX1_putAside 18 = .ok (.iaload, 1) := dk_46 (dk_at dksX1_putAside_0 18 rfl rfl)
theorem dX1_putAside_19 : decode cX1_putAside 19 = .ok (.iastore, 1) := dk_79 (dk_at dksX1_putAside_0 19 rfl rfl)
theorem dX1_putAside_20 : decode cX1_putAside 20 = .ok (.iinc 1 1, 3) := dk_132 1 1 (dk_at dksX1_putAside_0 20 rfl rfl)
theorem dX1_putAside_23 : decode cX1_putAside 23 = .ok (.goto (-21), 3) := dk_167 255 235 (dk_at dksX1_putAside_1 0 rfl rfl)
theorem dX1_putAside_26 : decode cX1_putAside 26 = .ok (.return_, 1) := dk_177 (dk_at dksX1_putAside_1 3 rfl rfl)
abbrev cX1_canStep : ByteArray := prog_1_method_77_code
def yX1_canStep : MethodName := ⟨RX1, "canStep", "(I)Z"⟩
def dkwX1_canStep_2 : List UInt8 := [42, 4, 182, 1, 120, 172, 42, 28, 182, 1, 68, 172, 42, 28, 182, 1, 129, 172, 42, 28, 182, 1, 135, 172]
abbrev dktX1_canStep_2 : List UInt8 := dkwX1_canStep_2 ++ []
def dkwX1_canStep_1 : List UInt8 := [170, 0, 0, 0, 43, 0, 0, 0, 0, 0, 0, 0, 2, 0, 0, 0, 25, 0, 0, 0, 31, 0, 0, 0, 37]
abbrev dktX1_canStep_1 : List UInt8 := dkwX1_canStep_1 ++ dktX1_canStep_2
def dkwX1_canStep_0 : List UInt8 := [42, 180, 0, 39, 27, 4, 96, 46, 61, 42, 180, 0, 39, 27, 46]
abbrev dktX1_canStep_0 : List UInt8 := dkwX1_canStep_0 ++ dktX1_canStep_1
theorem dksX1_canStep_0 : cX1_canStep.data.toList.drop 0 = dktX1_canStep_0 := by decide +kernel
theorem dksX1_canStep_1 : cX1_canStep.data.toList.drop 15 = dktX1_canStep_1 := dk_seg dksX1_canStep_0 15 rfl rfl
theorem dksX1_canStep_2 : cX1_canStep.data.toList.drop 40 = dktX1_canStep_2 := dk_seg dksX1_canStep_1 25 rfl rfl
theorem dX1_canStep_0 : decode cX1_canStep 0 = .ok (.aload_n 0, 1) := dk_42 (dk_at dksX1_canStep_0 0 rfl rfl)
theorem dX1_canStep_1 : decode cX1_canStep 1 = .ok (.getfield 39, 3) := dk_180 0 39 (dk_at dksX1_canStep_0 1 rfl rfl)
theorem dX1_canStep_4 : decode cX1_canStep 4 = .ok (.iload_n 1, 1) := dk_27 (dk_at dksX1_canStep_0 4 rfl rfl)
theorem dX1_canStep_5 : decode cX1_canStep 5 = .ok (.iconst 1, 1) := dk_4 (dk_at dksX1_canStep_0 5 rfl rfl)
theorem dX1_canStep_6 : decode cX1_canStep 6 = .ok (.iadd, 1) := dk_96 (dk_at dksX1_canStep_0 6 rfl rfl)
theorem dX1_canStep_7 : decode cX1_canStep 7 = .ok (.iaload, 1) := dk_46 (dk_at dksX1_canStep_0 7 rfl rfl)
theorem dX1_canStep_8 : decode cX1_canStep 8 = .ok (.istore_n 2, 1) := dk_61 (dk_at dksX1_canStep_0 8 rfl rfl)
theorem dX1_canStep_9 : decode cX1_canStep 9 = .ok (.aload_n 0, 1) := dk_42 (dk_at dksX1_canStep_0 9 rfl rfl)
theorem dX1_canStep_10 : decode cX1_canStep 10 = .ok (.getfield 39, 3) := dk_180 0 39 (dk_at dksX1_canStep_0 10 rfl rfl)
theorem dX1_canStep_13 : decode cX1_canStep 13 = .ok (.iload_n 1, 1) := dk_27 (dk_at dksX1_canStep_0 13 rfl rfl)
theorem dX1_canStep_14 : decode cX1_canStep 14 = .ok (.iaload, 1) := dk_46 (dk_at dksX1_canStep_0 14 rfl rfl)
theorem dX1_canStep_15 : decode cX1_canStep 15 = .ok (.tableswitch 43 0 2 #[25, 31, 37], 25) := by decide +kernel
theorem dX1_canStep_40 : decode cX1_canStep 40 = .ok (.aload_n 0, 1) := dk_42 (dk_at dksX1_canStep_2 0 rfl rfl)
theorem dX1_canStep_41 : decode cX1_canStep 41 = .ok (.iconst 1, 1) := dk_4 (dk_at dksX1_canStep_2 1 rfl rfl)
theorem dX1_canStep_42 : decode cX1_canStep 42 = .ok (.invokevirtual 376, 3) := dk_182 1 120 (dk_at dksX1_canStep_2 2 rfl rfl)
theorem dX1_canStep_45 : decode cX1_canStep 45 = .ok (.ireturn, 1) := dk_172 (dk_at dksX1_canStep_2 5 rfl rfl)
theorem dX1_canStep_46 : decode cX1_canStep 46 = .ok (.aload_n 0, 1) := dk_42 (dk_at dksX1_canStep_2 6 rfl rfl)
theorem dX1_canStep_47 : decode cX1_canStep 47 = .ok (.iload_n 2, 1) := dk_28 (dk_at dksX1_canStep_2 7 rfl rfl)
theorem dX1_canStep_48 : decode cX1_canStep 48 = .ok (.invokevirtual 324, 3) := dk_182 1 68 (dk_at dksX1_canStep_2 8 rfl rfl)
theorem dX1_canStep_51 : decode cX1_canStep 51 = .ok (.ireturn, 1) := dk_172 (dk_at dksX1_canStep_2 11 rfl rfl)
theorem dX1_canStep_52 : decode cX1_canStep 52 = .ok (.aload_n 0, 1) := dk_42 (dk_at dksX1_canStep_2 12 rfl rfl)
theorem dX1_canStep_53 : decode cX1_canStep 53 = .ok (.iload_n 2, 1) := dk_28 (dk_at dksX1_canStep_2 13 rfl rfl)
theorem dX1_canStep_54 : decode cX1_canStep 54 = .ok (.invokevirtual 385, 3) := dk_182 1 129 (dk_at dksX1_canStep_2 14 rfl rfl)
theorem dX1_canStep_57 : decode cX1_canStep 57 = .ok (.ireturn, 1) := dk_172 (dk_at dksX1_canStep_2 17 rfl rfl)
theorem dX1_canStep_58 : decode cX1_canStep 58 = .ok (.aload_n 0, 1) := dk_42 (dk_at dksX1_canStep_2 18 rfl rfl)
theorem dX1_canStep_59 : decode cX1_canStep 59 = .ok (.iload_n 2, 1) := dk_28 (dk_at dksX1_canStep_2 19 rfl rfl)
theorem dX1_canStep_60 : decode cX1_canStep 60 = .ok (.invokevirtual 391, 3) := dk_182 1 135 (dk_at dksX1_canStep_2 20 rfl rfl)
theorem dX1_canStep_63 : decode cX1_canStep 63 = .ok (.ireturn, 1) := dk_172 (dk_at dksX1_canStep_2 23 rfl rfl)
abbrev cX1_doStep : ByteArray := prog_1_method_78_code
def yX1_doStep : MethodName := ⟨RX1, "doStep", "(IZ)I"⟩
def dkwX1_doStep_4 : List UInt8 := [29, 182, 1, 138, 3, 172]
abbrev dktX1_doStep_4 : List UInt8 := dkwX1_doStep_4 ++ []
def dkwX1_doStep_3 : List UInt8 := [172, 42, 180, 0, 58, 16, 16, 92, 46, 4, 29, 120, 130, 79, 3, 172, 42, 29, 182, 1, 132, 3, 172, 42]
abbrev dktX1_doStep_3 : List UInt8 := dkwX1_doStep_3 ++ dktX1_doStep_4
def dkwX1_doStep_2 : List UInt8 := [28, 153, 0, 10, 42, 182, 1, 126, 167, 0, 7, 42, 182, 1, 114, 2, 160, 0, 7, 3, 167, 0, 4, 4]
abbrev dktX1_doStep_2 : List UInt8 := dkwX1_doStep_2 ++ dktX1_doStep_3
def dkwX1_doStep_1 : List UInt8 := [170, 0, 0, 0, 72, 0, 0, 0, 0, 0, 0, 0, 2, 0, 0, 0, 25, 0, 0, 0, 50, 0, 0, 0, 65]
abbrev dktX1_doStep_1 : List UInt8 := dkwX1_doStep_1 ++ dktX1_doStep_2
def dkwX1_doStep_0 : List UInt8 := [42, 180, 0, 39, 27, 4, 96, 46, 62, 28, 153, 0, 7, 42, 182, 1, 123, 42, 180, 0, 39, 27, 46]
abbrev dktX1_doStep_0 : List UInt8 := dkwX1_doStep_0 ++ dktX1_doStep_1
theorem dksX1_doStep_0 : cX1_doStep.data.toList.drop 0 = dktX1_doStep_0 := by decide +kernel
theorem dksX1_doStep_1 : cX1_doStep.data.toList.drop 23 = dktX1_doStep_1 := dk_seg dksX1_doStep_0 23 rfl rfl
theorem dksX1_doStep_2 : cX1_doStep.data.toList.drop 48 = dktX1_doStep_2 := dk_seg dksX1_doStep_1 25 rfl rfl
theorem dksX1_doStep_3 : cX1_doStep.data.toList.drop 72 = dktX1_doStep_3 := dk_seg dksX1_doStep_2 24 rfl rfl
theorem dksX1_doStep_4 : cX1_doStep.data.toList.drop 96 = dktX1_doStep_4 := dk_seg dksX1_doStep_3 24 rfl rfl
theorem dX1_doStep_0 : decode cX1_doStep 0 = .ok (.aload_n 0, 1) := dk_42 (dk_at dksX1_doStep_0 0 rfl rfl)
theorem dX1_doStep_1 : decode cX1_doStep 1 = .ok (.getfield 39, 3) := dk_180 0 39 (dk_at dksX1_doStep_0 1 rfl rfl)
theorem dX1_doStep_4 : decode cX1_doStep 4 = .ok (.iload_n 1, 1) := dk_27 (dk_at dksX1_doStep_0 4 rfl rfl)
theorem dX1_doStep_5 : decode cX1_doStep 5 = .ok (.iconst 1, 1) := dk_4 (dk_at dksX1_doStep_0 5 rfl rfl)
theorem dX1_doStep_6 : decode cX1_doStep 6 = .ok (.iadd, 1) := dk_96 (dk_at dksX1_doStep_0 6 rfl rfl)
theorem dX1_doStep_7 : decode cX1_doStep 7 = .ok (.iaload, 1) := dk_46 (dk_at dksX1_doStep_0 7 rfl rfl)
theorem dX1_doStep_8 : decode cX1_doStep 8 = .ok (.istore_n 3, 1) := dk_62 (dk_at dksX1_doStep_0 8 rfl rfl)
theorem dX1_doStep_9 : decode cX1_doStep 9 = .ok (.iload_n 2, 1) := dk_28 (dk_at dksX1_doStep_0 9 rfl rfl)
theorem dX1_doStep_10 : decode cX1_doStep 10 = .ok (.ifCond .eq 7, 3) := dk_153 0 7 (dk_at dksX1_doStep_0 10 rfl rfl)
theorem dX1_doStep_13 : decode cX1_doStep 13 = .ok (.aload_n 0, 1) := dk_42 (dk_at dksX1_doStep_0 13 rfl rfl)
theorem dX1_doStep_14 : decode cX1_doStep 14 = .ok (.invokevirtual 379, 3) := dk_182 1 123 (dk_at dksX1_doStep_0 14 rfl rfl)
theorem dX1_doStep_17 : decode cX1_doStep 17 = .ok (.aload_n 0, 1) := dk_42 (dk_at dksX1_doStep_0 17 rfl rfl)
theorem dX1_doStep_18 : decode cX1_doStep 18 = .ok (.getfield 39, 3) := dk_180 0 39 (dk_at dksX1_doStep_0 18 rfl rfl)
theorem dX1_doStep_21 : decode cX1_doStep 21 = .ok (.iload_n 1, 1) := dk_27 (dk_at dksX1_doStep_0 21 rfl rfl)
theorem dX1_doStep_22 : decode cX1_doStep 22 = .ok (.iaload, 1) := dk_46 (dk_at dksX1_doStep_0 22 rfl rfl)
theorem dX1_doStep_23 : decode cX1_doStep 23 = .ok (.tableswitch 72 0 2 #[25, 50, 65], 25) := by decide +kernel
theorem dX1_doStep_48 : decode cX1_doStep 48 = .ok (.iload_n 2, 1) := dk_28 (dk_at dksX1_doStep_2 0 rfl rfl)
theorem dX1_doStep_49 : decode cX1_doStep 49 = .ok (.ifCond .eq 10, 3) := dk_153 0 10 (dk_at dksX1_doStep_2 1 rfl rfl)
theorem dX1_doStep_52 : decode cX1_doStep 52 = .ok (.aload_n 0, 1) := dk_42 (dk_at dksX1_doStep_2 4 rfl rfl)
theorem dX1_doStep_53 : decode cX1_doStep 53 = .ok (.invokevirtual 382, 3) := dk_182 1 126 (dk_at dksX1_doStep_2 5 rfl rfl)
theorem dX1_doStep_56 : decode cX1_doStep 56 = .ok (.goto 7, 3) := dk_167 0 7 (dk_at dksX1_doStep_2 8 rfl rfl)
theorem dX1_doStep_59 : decode cX1_doStep 59 = .ok (.aload_n 0, 1) := dk_42 (dk_at dksX1_doStep_2 11 rfl rfl)
theorem dX1_doStep_60 : decode cX1_doStep 60 = .ok (.invokevirtual 370, 3) := dk_182 1 114 (dk_at dksX1_doStep_2 12 rfl rfl)
theorem dX1_doStep_63 : decode cX1_doStep 63 = .ok (.iconst (-1), 1) := dk_2 (dk_at dksX1_doStep_2 15 rfl rfl)
theorem dX1_doStep_64 : decode cX1_doStep 64 = .ok (.if_icmp .ne 7, 3) := dk_160 0 7 (dk_at dksX1_doStep_2 16 rfl rfl)
theorem dX1_doStep_67 : decode cX1_doStep 67 = .ok (.iconst 0, 1) := dk_3 (dk_at dksX1_doStep_2 19 rfl rfl)
theorem dX1_doStep_68 : decode cX1_doStep 68 = .ok (.goto 4, 3) := dk_167 0 4 (dk_at dksX1_doStep_2 20 rfl rfl)
theorem dX1_doStep_71 : decode cX1_doStep 71 = .ok (.iconst 1, 1) := dk_4 (dk_at dksX1_doStep_2 23 rfl rfl)
theorem dX1_doStep_72 : decode cX1_doStep 72 = .ok (.ireturn, 1) := dk_172 (dk_at dksX1_doStep_3 0 rfl rfl)
theorem dX1_doStep_73 : decode cX1_doStep 73 = .ok (.aload_n 0, 1) := dk_42 (dk_at dksX1_doStep_3 1 rfl rfl)
theorem dX1_doStep_74 : decode cX1_doStep 74 = .ok (.getfield 58, 3) := dk_180 0 58 (dk_at dksX1_doStep_3 2 rfl rfl)
theorem dX1_doStep_77 : decode cX1_doStep 77 = .ok (.bipush 16, 2) := dk_16 16 (dk_at dksX1_doStep_3 5 rfl rfl)
theorem dX1_doStep_79 : decode cX1_doStep 79 = .ok (.dup2, 1) := dk_92 (dk_at dksX1_doStep_3 7 rfl rfl)
theorem dX1_doStep_80 : decode cX1_doStep 80 = .ok (.iaload, 1) := dk_46 (dk_at dksX1_doStep_3 8 rfl rfl)
theorem dX1_doStep_81 : decode cX1_doStep 81 = .ok (.iconst 1, 1) := dk_4 (dk_at dksX1_doStep_3 9 rfl rfl)
theorem dX1_doStep_82 : decode cX1_doStep 82 = .ok (.iload_n 3, 1) := dk_29 (dk_at dksX1_doStep_3 10 rfl rfl)
theorem dX1_doStep_83 : decode cX1_doStep 83 = .ok (.ishl, 1) := dk_120 (dk_at dksX1_doStep_3 11 rfl rfl)
theorem dX1_doStep_84 : decode cX1_doStep 84 = .ok (.ixor, 1) := dk_130 (dk_at dksX1_doStep_3 12 rfl rfl)
theorem dX1_doStep_85 : decode cX1_doStep 85 = .ok (.iastore, 1) := dk_79 (dk_at dksX1_doStep_3 13 rfl rfl)
theorem dX1_doStep_86 : decode cX1_doStep 86 = .ok (.iconst 0, 1) := dk_3 (dk_at dksX1_doStep_3 14 rfl rfl)
theorem dX1_doStep_87 : decode cX1_doStep 87 = .ok (.ireturn, 1) := dk_172 (dk_at dksX1_doStep_3 15 rfl rfl)
theorem dX1_doStep_88 : decode cX1_doStep 88 = .ok (.aload_n 0, 1) := dk_42 (dk_at dksX1_doStep_3 16 rfl rfl)
theorem dX1_doStep_89 : decode cX1_doStep 89 = .ok (.iload_n 3, 1) := dk_29 (dk_at dksX1_doStep_3 17 rfl rfl)
theorem dX1_doStep_90 : decode cX1_doStep 90 = .ok (.invokevirtual 388, 3) := dk_182 1 132 (dk_at dksX1_doStep_3 18 rfl rfl)
theorem dX1_doStep_93 : decode cX1_doStep 93 = .ok (.iconst 0, 1) := dk_3 (dk_at dksX1_doStep_3 21 rfl rfl)
theorem dX1_doStep_94 : decode cX1_doStep 94 = .ok (.ireturn, 1) := dk_172 (dk_at dksX1_doStep_3 22 rfl rfl)
theorem dX1_doStep_95 : decode cX1_doStep 95 = .ok (.aload_n 0, 1) := dk_42 (dk_at dksX1_doStep_3 23 rfl rfl)
theorem dX1_doStep_96 : decode cX1_doStep 96 = .ok (.iload_n 3, 1) := dk_29 (dk_at dksX1_doStep_4 0 rfl rfl)
theorem dX1_doStep_97 : decode cX1_doStep 97 = .ok (.invokevirtual 394, 3) := dk_182 1 138 (dk_at dksX1_doStep_4 1 rfl rfl)
theorem dX1_doStep_100 : decode cX1_doStep 100 = .ok (.iconst 0, 1) := dk_3 (dk_at dksX1_doStep_4 4 rfl rfl)
theorem dX1_doStep_101 : decode cX1_doStep 101 = .ok (.ireturn, 1) := dk_172 (dk_at dksX1_doStep_4 5 rfl rfl)
abbrev cX1_takeBack : ByteArray := prog_1_method_80_code
def yX1_takeBack : MethodName := ⟨RX1, "takeBack", "()V"⟩
def dkwX1_takeBack_1 : List UInt8 := [167, 255, 235, 177]
abbrev dktX1_takeBack_1 : List UInt8 := dkwX1_takeBack_1 ++ []
def dkwX1_takeBack_0 : List UInt8 := [3, 60, 27, 16, 110, 162, 0, 21, 42, 180, 0, 58, 27, 42, 180, 0, 64, 27, 46, 79, 132, 1, 1]
abbrev dktX1_takeBack_0 : List UInt8 := dkwX1_takeBack_0 ++ dktX1_takeBack_1
theorem dksX1_takeBack_0 : cX1_takeBack.data.toList.drop 0 = dktX1_takeBack_0 := by decide +kernel
theorem dksX1_takeBack_1 : cX1_takeBack.data.toList.drop 23 = dktX1_takeBack_1 := dk_seg dksX1_takeBack_0 23 rfl rfl
theorem dX1_takeBack_0 : decode cX1_takeBack 0 = .ok (.iconst 0, 1) := dk_3 (dk_at dksX1_takeBack_0 0 rfl rfl)
theorem dX1_takeBack_1 : decode cX1_takeBack 1 = .ok (.istore_n 1, 1) := dk_60 (dk_at dksX1_takeBack_0 1 rfl rfl)
theorem dX1_takeBack_2 : decode cX1_takeBack 2 = .ok (.iload_n 1, 1) := dk_27 (dk_at dksX1_takeBack_0 2 rfl rfl)
theorem dX1_takeBack_3 : decode cX1_takeBack 3 = .ok (.bipush 110, 2) := dk_16 110 (dk_at dksX1_takeBack_0 3 rfl rfl)
theorem dX1_takeBack_5 : decode cX1_takeBack 5 = .ok (.if_icmp .ge 21, 3) := dk_162 0 21 (dk_at dksX1_takeBack_0 5 rfl rfl)
theorem dX1_takeBack_8 : decode cX1_takeBack 8 = .ok (.aload_n 0, 1) := dk_42 (dk_at dksX1_takeBack_0 8 rfl rfl)
theorem dX1_takeBack_9 : decode cX1_takeBack 9 = .ok (.getfield 58, 3) := dk_180 0 58 (dk_at dksX1_takeBack_0 9 rfl rfl)
theorem dX1_takeBack_12 : decode cX1_takeBack 12 = .ok (.iload_n 1, 1) := dk_27 (dk_at dksX1_takeBack_0 12 rfl rfl)
theorem dX1_takeBack_13 : decode cX1_takeBack 13 = .ok (.aload_n 0, 1) := dk_42 (dk_at dksX1_takeBack_0 13 rfl rfl)
theorem dX1_takeBack_14 : decode cX1_takeBack 14 = .ok (.getfield 64, 3) := dk_180 0 64 (dk_at dksX1_takeBack_0 14 rfl rfl)
theorem dX1_takeBack_17 : decode cX1_takeBack 17 = .ok (.iload_n 1, 1) := dk_27 (dk_at dksX1_takeBack_0 17 rfl rfl)
theorem dX1_takeBack_18 : decode cX1_takeBack 18 = .ok (.iaload, 1) := dk_46 (dk_at dksX1_takeBack_0 18 rfl rfl)
theorem dX1_takeBack_19 : decode cX1_takeBack 19 = .ok (.iastore, 1) := dk_79 (dk_at dksX1_takeBack_0 19 rfl rfl)
theorem dX1_takeBack_20 : decode cX1_takeBack 20 = .ok (.iinc 1 1, 3) := dk_132 1 1 (dk_at dksX1_takeBack_0 20 rfl rfl)
theorem dX1_takeBack_23 : decode cX1_takeBack 23 = .ok (.goto (-21), 3) := dk_167 255 235 (dk_at dksX1_takeBack_1 0 rfl rfl)
theorem dX1_takeBack_26 : decode cX1_takeBack 26 = .ok (.return_, 1) := dk_177 (dk_at dksX1_takeBack_1 3 rfl rfl)
abbrev cX1_perform : ByteArray := prog_1_method_82_code
def yX1_perform : MethodName := ⟨RX1, "perform", "(I)I"⟩
def dkwX1_perform_2 : List UInt8 := [27, 104, 28, 96, 104, 4, 182, 1, 165, 87, 132, 2, 1, 167, 255, 214, 28, 172]
abbrev dktX1_perform_2 : List UInt8 := dkwX1_perform_2 ++ []
def dkwX1_perform_1 : List UInt8 := [27, 46, 162, 0, 38, 42, 5, 16, 16, 27, 104, 28, 96, 104, 182, 1, 162, 153, 0, 23, 42, 5, 16, 16]
abbrev dktX1_perform_1 : List UInt8 := dkwX1_perform_1 ++ dktX1_perform_2
def dkwX1_perform_0 : List UInt8 := [42, 182, 1, 117, 153, 0, 11, 42, 27, 182, 1, 156, 154, 0, 5, 2, 172, 3, 61, 28, 42, 180, 0, 42]
abbrev dktX1_perform_0 : List UInt8 := dkwX1_perform_0 ++ dktX1_perform_1
theorem dksX1_perform_0 : cX1_perform.data.toList.drop 0 = dktX1_perform_0 := by decide +kernel
theorem dksX1_perform_1 : cX1_perform.data.toList.drop 24 = dktX1_perform_1 := dk_seg dksX1_perform_0 24 rfl rfl
theorem dksX1_perform_2 : cX1_perform.data.toList.drop 48 = dktX1_perform_2 := dk_seg dksX1_perform_1 24 rfl rfl
theorem dX1_perform_0 : decode cX1_perform 0 = .ok (.aload_n 0, 1) := dk_42 (dk_at dksX1_perform_0 0 rfl rfl)
theorem dX1_perform_1 : decode cX1_perform 1 = .ok (.invokevirtual 373, 3) := dk_182 1 117 (dk_at dksX1_perform_0 1 rfl rfl)
theorem dX1_perform_4 : decode cX1_perform 4 = .ok (.ifCond .eq 11, 3) := dk_153 0 11 (dk_at dksX1_perform_0 4 rfl rfl)
theorem dX1_perform_7 : decode cX1_perform 7 = .ok (.aload_n 0, 1) := dk_42 (dk_at dksX1_perform_0 7 rfl rfl)
theorem dX1_perform_8 : decode cX1_perform 8 = .ok (.iload_n 1, 1) := dk_27 (dk_at dksX1_perform_0 8 rfl rfl)
theorem dX1_perform_9 : decode cX1_perform 9 = .ok (.invokevirtual 412, 3) := dk_182 1 156 (dk_at dksX1_perform_0 9 rfl rfl)
theorem dX1_perform_12 : decode cX1_perform 12 = .ok (.ifCond .ne 5, 3) := dk_154 0 5 (dk_at dksX1_perform_0 12 rfl rfl)
theorem dX1_perform_15 : decode cX1_perform 15 = .ok (.iconst (-1), 1) := dk_2 (dk_at dksX1_perform_0 15 rfl rfl)
theorem dX1_perform_16 : decode cX1_perform 16 = .ok (.ireturn, 1) := dk_172 (dk_at dksX1_perform_0 16 rfl rfl)
theorem dX1_perform_17 : decode cX1_perform 17 = .ok (.iconst 0, 1) := dk_3 (dk_at dksX1_perform_0 17 rfl rfl)
theorem dX1_perform_18 : decode cX1_perform 18 = .ok (.istore_n 2, 1) := dk_61 (dk_at dksX1_perform_0 18 rfl rfl)
theorem dX1_perform_19 : decode cX1_perform 19 = .ok (.iload_n 2, 1) := dk_28 (dk_at dksX1_perform_0 19 rfl rfl)
theorem dX1_perform_20 : decode cX1_perform 20 = .ok (.aload_n 0, 1) := dk_42 (dk_at dksX1_perform_0 20 rfl rfl)
theorem dX1_perform_21 : decode cX1_perform 21 = .ok (.getfield 42, 3) := dk_180 0 42 (dk_at dksX1_perform_0 21 rfl rfl)
theorem dX1_perform_24 : decode cX1_perform 24 = .ok (.iload_n 1, 1) := dk_27 (dk_at dksX1_perform_1 0 rfl rfl)
theorem dX1_perform_25 : decode cX1_perform 25 = .ok (.iaload, 1) := dk_46 (dk_at dksX1_perform_1 1 rfl rfl)
theorem dX1_perform_26 : decode cX1_perform 26 = .ok (.if_icmp .ge 38, 3) := dk_162 0 38 (dk_at dksX1_perform_1 2 rfl rfl)
theorem dX1_perform_29 : decode cX1_perform 29 = .ok (.aload_n 0, 1) := dk_42 (dk_at dksX1_perform_1 5 rfl rfl)
theorem dX1_perform_30 : decode cX1_perform 30 = .ok (.iconst 2, 1) := dk_5 (dk_at dksX1_perform_1 6 rfl rfl)
theorem dX1_perform_31 : decode cX1_perform 31 = .ok (.bipush 16, 2) := dk_16 16 (dk_at dksX1_perform_1 7 rfl rfl)
theorem dX1_perform_33 : decode cX1_perform 33 = .ok (.iload_n 1, 1) := dk_27 (dk_at dksX1_perform_1 9 rfl rfl)
theorem dX1_perform_34 : decode cX1_perform 34 = .ok (.imul, 1) := dk_104 (dk_at dksX1_perform_1 10 rfl rfl)
theorem dX1_perform_35 : decode cX1_perform 35 = .ok (.iload_n 2, 1) := dk_28 (dk_at dksX1_perform_1 11 rfl rfl)
theorem dX1_perform_36 : decode cX1_perform 36 = .ok (.iadd, 1) := dk_96 (dk_at dksX1_perform_1 12 rfl rfl)
theorem dX1_perform_37 : decode cX1_perform 37 = .ok (.imul, 1) := dk_104 (dk_at dksX1_perform_1 13 rfl rfl)
theorem dX1_perform_38 : decode cX1_perform 38 = .ok (.invokevirtual 418, 3) := dk_182 1 162 (dk_at dksX1_perform_1 14 rfl rfl)
theorem dX1_perform_41 : decode cX1_perform 41 = .ok (.ifCond .eq 23, 3) := dk_153 0 23 (dk_at dksX1_perform_1 17 rfl rfl)
theorem dX1_perform_44 : decode cX1_perform 44 = .ok (.aload_n 0, 1) := dk_42 (dk_at dksX1_perform_1 20 rfl rfl)
theorem dX1_perform_45 : decode cX1_perform 45 = .ok (.iconst 2, 1) := dk_5 (dk_at dksX1_perform_1 21 rfl rfl)
theorem dX1_perform_46 : decode cX1_perform 46 = .ok (.bipush 16, 2) := dk_16 16 (dk_at dksX1_perform_1 22 rfl rfl)
theorem dX1_perform_48 : decode cX1_perform 48 = .ok (.iload_n 1, 1) := dk_27 (dk_at dksX1_perform_2 0 rfl rfl)
theorem dX1_perform_49 : decode cX1_perform 49 = .ok (.imul, 1) := dk_104 (dk_at dksX1_perform_2 1 rfl rfl)
theorem dX1_perform_50 : decode cX1_perform 50 = .ok (.iload_n 2, 1) := dk_28 (dk_at dksX1_perform_2 2 rfl rfl)
theorem dX1_perform_51 : decode cX1_perform 51 = .ok (.iadd, 1) := dk_96 (dk_at dksX1_perform_2 3 rfl rfl)
theorem dX1_perform_52 : decode cX1_perform 52 = .ok (.imul, 1) := dk_104 (dk_at dksX1_perform_2 4 rfl rfl)
theorem dX1_perform_53 : decode cX1_perform 53 = .ok (.iconst 1, 1) := dk_4 (dk_at dksX1_perform_2 5 rfl rfl)
theorem dX1_perform_54 : decode cX1_perform 54 = .ok (.invokevirtual 421, 3) := dk_182 1 165 (dk_at dksX1_perform_2 6 rfl rfl)
theorem dX1_perform_57 : decode cX1_perform 57 = .ok (.pop, 1) := dk_87 (dk_at dksX1_perform_2 9 rfl rfl)
theorem dX1_perform_58 : decode cX1_perform 58 = .ok (.iinc 2 1, 3) := dk_132 2 1 (dk_at dksX1_perform_2 10 rfl rfl)
theorem dX1_perform_61 : decode cX1_perform 61 = .ok (.goto (-42), 3) := dk_167 255 214 (dk_at dksX1_perform_2 13 rfl rfl)
theorem dX1_perform_64 : decode cX1_perform 64 = .ok (.iload_n 2, 1) := dk_28 (dk_at dksX1_perform_2 16 rfl rfl)
theorem dX1_perform_65 : decode cX1_perform 65 = .ok (.ireturn, 1) := dk_172 (dk_at dksX1_perform_2 17 rfl rfl)
abbrev cX1_force : ByteArray := prog_1_method_84_code
def yX1_force : MethodName := ⟨RX1, "force", "(II)I"⟩
def dkwX1_force_1 : List UInt8 := [153, 0, 12, 42, 27, 28, 182, 1, 98, 167, 0, 4, 2, 172]
abbrev dktX1_force_1 : List UInt8 := dkwX1_force_1 ++ []
def dkwX1_force_0 : List UInt8 := [42, 27, 182, 1, 68, 153, 0, 29, 42, 28, 182, 1, 77, 153, 0, 21, 42, 27, 28, 182, 1, 172]
abbrev dktX1_force_0 : List UInt8 := dkwX1_force_0 ++ dktX1_force_1
theorem dksX1_force_0 : cX1_force.data.toList.drop 0 = dktX1_force_0 := by decide +kernel
theorem dksX1_force_1 : cX1_force.data.toList.drop 22 = dktX1_force_1 := dk_seg dksX1_force_0 22 rfl rfl
theorem dX1_force_0 : decode cX1_force 0 = .ok (.aload_n 0, 1) := dk_42 (dk_at dksX1_force_0 0 rfl rfl)
theorem dX1_force_1 : decode cX1_force 1 = .ok (.iload_n 1, 1) := dk_27 (dk_at dksX1_force_0 1 rfl rfl)
theorem dX1_force_2 : decode cX1_force 2 = .ok (.invokevirtual 324, 3) := dk_182 1 68 (dk_at dksX1_force_0 2 rfl rfl)
theorem dX1_force_5 : decode cX1_force 5 = .ok (.ifCond .eq 29, 3) := dk_153 0 29 (dk_at dksX1_force_0 5 rfl rfl)
theorem dX1_force_8 : decode cX1_force 8 = .ok (.aload_n 0, 1) := dk_42 (dk_at dksX1_force_0 8 rfl rfl)
theorem dX1_force_9 : decode cX1_force 9 = .ok (.iload_n 2, 1) := dk_28 (dk_at dksX1_force_0 9 rfl rfl)
theorem dX1_force_10 : decode cX1_force 10 = .ok (.invokevirtual 333, 3) := dk_182 1 77 (dk_at dksX1_force_0 10 rfl rfl)
theorem dX1_force_13 : decode cX1_force 13 = .ok (.ifCond .eq 21, 3) := dk_153 0 21 (dk_at dksX1_force_0 13 rfl rfl)
theorem dX1_force_16 : decode cX1_force 16 = .ok (.aload_n 0, 1) := dk_42 (dk_at dksX1_force_0 16 rfl rfl)
theorem dX1_force_17 : decode cX1_force 17 = .ok (.iload_n 1, 1) := dk_27 (dk_at dksX1_force_0 17 rfl rfl)
theorem dX1_force_18 : decode cX1_force 18 = .ok (.iload_n 2, 1) := dk_28 (dk_at dksX1_force_0 18 rfl rfl)
theorem dX1_force_19 : decode cX1_force 19 = .ok (.invokevirtual 428, 3) := dk_182 1 172 (dk_at dksX1_force_0 19 rfl rfl)
theorem dX1_force_22 : decode cX1_force 22 = .ok (.ifCond .eq 12, 3) := dk_153 0 12 (dk_at dksX1_force_1 0 rfl rfl)
theorem dX1_force_25 : decode cX1_force 25 = .ok (.aload_n 0, 1) := dk_42 (dk_at dksX1_force_1 3 rfl rfl)
theorem dX1_force_26 : decode cX1_force 26 = .ok (.iload_n 1, 1) := dk_27 (dk_at dksX1_force_1 4 rfl rfl)
theorem dX1_force_27 : decode cX1_force 27 = .ok (.iload_n 2, 1) := dk_28 (dk_at dksX1_force_1 5 rfl rfl)
theorem dX1_force_28 : decode cX1_force 28 = .ok (.invokevirtual 354, 3) := dk_182 1 98 (dk_at dksX1_force_1 6 rfl rfl)
theorem dX1_force_31 : decode cX1_force 31 = .ok (.goto 4, 3) := dk_167 0 4 (dk_at dksX1_force_1 9 rfl rfl)
theorem dX1_force_34 : decode cX1_force 34 = .ok (.iconst (-1), 1) := dk_2 (dk_at dksX1_force_1 12 rfl rfl)
theorem dX1_force_35 : decode cX1_force 35 = .ok (.ireturn, 1) := dk_172 (dk_at dksX1_force_1 13 rfl rfl)
abbrev cX1_meetsAt : ByteArray := prog_1_method_83_code
def yX1_meetsAt : MethodName := ⟨RX1, "meetsAt", "(II)Z"⟩
def dkwX1_meetsAt_1 : List UInt8 := [3, 172]
abbrev dktX1_meetsAt_1 : List UInt8 := dkwX1_meetsAt_1 ++ []
def dkwX1_meetsAt_0 : List UInt8 := [42, 28, 3, 182, 1, 80, 27, 159, 0, 13, 42, 28, 4, 182, 1, 80, 27, 160, 0, 7, 4, 167, 0, 4]
abbrev dktX1_meetsAt_0 : List UInt8 := dkwX1_meetsAt_0 ++ dktX1_meetsAt_1
theorem dksX1_meetsAt_0 : cX1_meetsAt.data.toList.drop 0 = dktX1_meetsAt_0 := by decide +kernel
theorem dksX1_meetsAt_1 : cX1_meetsAt.data.toList.drop 24 = dktX1_meetsAt_1 := dk_seg dksX1_meetsAt_0 24 rfl rfl
theorem dX1_meetsAt_0 : decode cX1_meetsAt 0 = .ok (.aload_n 0, 1) := dk_42 (dk_at dksX1_meetsAt_0 0 rfl rfl)
theorem dX1_meetsAt_1 : decode cX1_meetsAt 1 = .ok (.iload_n 2, 1) := dk_28 (dk_at dksX1_meetsAt_0 1 rfl rfl)
theorem dX1_meetsAt_2 : decode cX1_meetsAt 2 = .ok (.iconst 0, 1) := dk_3 (dk_at dksX1_meetsAt_0 2 rfl rfl)
theorem dX1_meetsAt_3 : decode cX1_meetsAt 3 = .ok (.invokevirtual 336, 3) := dk_182 1 80 (dk_at dksX1_meetsAt_0 3 rfl rfl)
theorem dX1_meetsAt_6 : decode cX1_meetsAt 6 = .ok (.iload_n 1, 1) := dk_27 (dk_at dksX1_meetsAt_0 6 rfl rfl)
theorem dX1_meetsAt_7 : decode cX1_meetsAt 7 = .ok (.if_icmp .eq 13, 3) := dk_159 0 13 (dk_at dksX1_meetsAt_0 7 rfl rfl)
theorem dX1_meetsAt_10 : decode cX1_meetsAt 10 = .ok (.aload_n 0, 1) := dk_42 (dk_at dksX1_meetsAt_0 10 rfl rfl)
theorem dX1_meetsAt_11 : decode cX1_meetsAt 11 = .ok (.iload_n 2, 1) := dk_28 (dk_at dksX1_meetsAt_0 11 rfl rfl)
theorem dX1_meetsAt_12 : decode cX1_meetsAt 12 = .ok (.iconst 1, 1) := dk_4 (dk_at dksX1_meetsAt_0 12 rfl rfl)
theorem dX1_meetsAt_13 : decode cX1_meetsAt 13 = .ok (.invokevirtual 336, 3) := dk_182 1 80 (dk_at dksX1_meetsAt_0 13 rfl rfl)
theorem dX1_meetsAt_16 : decode cX1_meetsAt 16 = .ok (.iload_n 1, 1) := dk_27 (dk_at dksX1_meetsAt_0 16 rfl rfl)
theorem dX1_meetsAt_17 : decode cX1_meetsAt 17 = .ok (.if_icmp .ne 7, 3) := dk_160 0 7 (dk_at dksX1_meetsAt_0 17 rfl rfl)
theorem dX1_meetsAt_20 : decode cX1_meetsAt 20 = .ok (.iconst 1, 1) := dk_4 (dk_at dksX1_meetsAt_0 20 rfl rfl)
theorem dX1_meetsAt_21 : decode cX1_meetsAt 21 = .ok (.goto 4, 3) := dk_167 0 4 (dk_at dksX1_meetsAt_0 21 rfl rfl)
theorem dX1_meetsAt_24 : decode cX1_meetsAt 24 = .ok (.iconst 0, 1) := dk_3 (dk_at dksX1_meetsAt_1 0 rfl rfl)
theorem dX1_meetsAt_25 : decode cX1_meetsAt 25 = .ok (.ireturn, 1) := dk_172 (dk_at dksX1_meetsAt_1 1 rfl rfl)
abbrev cX1_wins : ByteArray := prog_1_method_85_code
def yX1_wins : MethodName := ⟨RX1, "wins", "(I)I"⟩
def dkwX1_wins_0 : List UInt8 := [42, 27, 182, 1, 77, 153, 0, 11, 42, 27, 182, 1, 101, 167, 0, 5, 16, 254, 172]
abbrev dktX1_wins_0 : List UInt8 := dkwX1_wins_0 ++ []
theorem dksX1_wins_0 : cX1_wins.data.toList.drop 0 = dktX1_wins_0 := by decide +kernel
theorem dX1_wins_0 : decode cX1_wins 0 = .ok (.aload_n 0, 1) := dk_42 (dk_at dksX1_wins_0 0 rfl rfl)
theorem dX1_wins_1 : decode cX1_wins 1 = .ok (.iload_n 1, 1) := dk_27 (dk_at dksX1_wins_0 1 rfl rfl)
theorem dX1_wins_2 : decode cX1_wins 2 = .ok (.invokevirtual 333, 3) := dk_182 1 77 (dk_at dksX1_wins_0 2 rfl rfl)
theorem dX1_wins_5 : decode cX1_wins 5 = .ok (.ifCond .eq 11, 3) := dk_153 0 11 (dk_at dksX1_wins_0 5 rfl rfl)
theorem dX1_wins_8 : decode cX1_wins 8 = .ok (.aload_n 0, 1) := dk_42 (dk_at dksX1_wins_0 8 rfl rfl)
theorem dX1_wins_9 : decode cX1_wins 9 = .ok (.iload_n 1, 1) := dk_27 (dk_at dksX1_wins_0 9 rfl rfl)
theorem dX1_wins_10 : decode cX1_wins 10 = .ok (.invokevirtual 357, 3) := dk_182 1 101 (dk_at dksX1_wins_0 10 rfl rfl)
theorem dX1_wins_13 : decode cX1_wins 13 = .ok (.goto 5, 3) := dk_167 0 5 (dk_at dksX1_wins_0 13 rfl rfl)
theorem dX1_wins_16 : decode cX1_wins 16 = .ok (.bipush (-2), 2) := dk_16 254 (dk_at dksX1_wins_0 16 rfl rfl)
theorem dX1_wins_18 : decode cX1_wins 18 = .ok (.ireturn, 1) := dk_172 (dk_at dksX1_wins_0 18 rfl rfl)
abbrev cX1_shelf : ByteArray := prog_1_method_86_code
def yX1_shelf : MethodName := ⟨RX1, "shelf", "(II)I"⟩
def dkwX1_shelf_3 : List UInt8 := [182, 1, 169, 21, 4, 153, 0, 7, 29, 167, 0, 4, 2, 172]
abbrev dktX1_shelf_3 : List UInt8 := dkwX1_shelf_3 ++ []
def dkwX1_shelf_2 : List UInt8 := [132, 3, 1, 167, 255, 233, 42, 27, 182, 1, 74, 28, 161, 0, 7, 4, 167, 0, 4, 3, 54, 4, 42]
abbrev dktX1_shelf_2 : List UInt8 := dkwX1_shelf_2 ++ dktX1_shelf_3
def dkwX1_shelf_1 : List UInt8 := [3, 62, 29, 16, 60, 162, 0, 23, 42, 27, 182, 1, 74, 28, 162, 0, 14, 42, 182, 1, 114, 87]
abbrev dktX1_shelf_1 : List UInt8 := dkwX1_shelf_1 ++ dktX1_shelf_2
def dkwX1_shelf_0 : List UInt8 := [42, 27, 182, 1, 68, 153, 0, 13, 28, 4, 16, 30, 184, 0, 233, 154, 0, 5, 2, 172, 42, 182, 1, 159]
abbrev dktX1_shelf_0 : List UInt8 := dkwX1_shelf_0 ++ dktX1_shelf_1
theorem dksX1_shelf_0 : cX1_shelf.data.toList.drop 0 = dktX1_shelf_0 := by decide +kernel
theorem dksX1_shelf_1 : cX1_shelf.data.toList.drop 24 = dktX1_shelf_1 := dk_seg dksX1_shelf_0 24 rfl rfl
theorem dksX1_shelf_2 : cX1_shelf.data.toList.drop 46 = dktX1_shelf_2 := dk_seg dksX1_shelf_1 22 rfl rfl
theorem dksX1_shelf_3 : cX1_shelf.data.toList.drop 69 = dktX1_shelf_3 := dk_seg dksX1_shelf_2 23 rfl rfl
theorem dX1_shelf_0 : decode cX1_shelf 0 = .ok (.aload_n 0, 1) := dk_42 (dk_at dksX1_shelf_0 0 rfl rfl)
theorem dX1_shelf_1 : decode cX1_shelf 1 = .ok (.iload_n 1, 1) := dk_27 (dk_at dksX1_shelf_0 1 rfl rfl)
theorem dX1_shelf_2 : decode cX1_shelf 2 = .ok (.invokevirtual 324, 3) := dk_182 1 68 (dk_at dksX1_shelf_0 2 rfl rfl)
theorem dX1_shelf_5 : decode cX1_shelf 5 = .ok (.ifCond .eq 13, 3) := dk_153 0 13 (dk_at dksX1_shelf_0 5 rfl rfl)
theorem dX1_shelf_8 : decode cX1_shelf 8 = .ok (.iload_n 2, 1) := dk_28 (dk_at dksX1_shelf_0 8 rfl rfl)
theorem dX1_shelf_9 : decode cX1_shelf 9 = .ok (.iconst 1, 1) := dk_4 (dk_at dksX1_shelf_0 9 rfl rfl)
theorem dX1_shelf_10 : decode cX1_shelf 10 = .ok (.bipush 30, 2) := dk_16 30 (dk_at dksX1_shelf_0 10 rfl rfl)
theorem dX1_shelf_12 : decode cX1_shelf 12 = .ok (.invokestatic 233, 3) := dk_184 0 233 (dk_at dksX1_shelf_0 12 rfl rfl)
theorem dX1_shelf_15 : decode cX1_shelf 15 = .ok (.ifCond .ne 5, 3) := dk_154 0 5 (dk_at dksX1_shelf_0 15 rfl rfl)
theorem dX1_shelf_18 : decode cX1_shelf 18 = .ok (.iconst (-1), 1) := dk_2 (dk_at dksX1_shelf_0 18 rfl rfl)
theorem dX1_shelf_19 : decode cX1_shelf 19 = .ok (.ireturn, 1) := dk_172 (dk_at dksX1_shelf_0 19 rfl rfl)
theorem dX1_shelf_20 : decode cX1_shelf 20 = .ok (.aload_n 0, 1) := dk_42 (dk_at dksX1_shelf_0 20 rfl rfl)
theorem dX1_shelf_21 : decode cX1_shelf 21 = .ok (.invokevirtual 415, 3) := dk_182 1 159 (dk_at dksX1_shelf_0 21 rfl rfl)
theorem dX1_shelf_24 : decode cX1_shelf 24 = .ok (.iconst 0, 1) := dk_3 (dk_at dksX1_shelf_1 0 rfl rfl)
theorem dX1_shelf_25 : decode cX1_shelf 25 = .ok (.istore_n 3, 1) := dk_62 (dk_at dksX1_shelf_1 1 rfl rfl)
theorem dX1_shelf_26 : decode cX1_shelf 26 = .ok (.iload_n 3, 1) := dk_29 (dk_at dksX1_shelf_1 2 rfl rfl)
theorem dX1_shelf_27 : decode cX1_shelf 27 = .ok (.bipush 60, 2) := dk_16 60 (dk_at dksX1_shelf_1 3 rfl rfl)
theorem dX1_shelf_29 : decode cX1_shelf 29 = .ok (.if_icmp .ge 23, 3) := dk_162 0 23 (dk_at dksX1_shelf_1 5 rfl rfl)
theorem dX1_shelf_32 : decode cX1_shelf 32 = .ok (.aload_n 0, 1) := dk_42 (dk_at dksX1_shelf_1 8 rfl rfl)
theorem dX1_shelf_33 : decode cX1_shelf 33 = .ok (.iload_n 1, 1) := dk_27 (dk_at dksX1_shelf_1 9 rfl rfl)
theorem dX1_shelf_34 : decode cX1_shelf 34 = .ok (.invokevirtual 330, 3) := dk_182 1 74 (dk_at dksX1_shelf_1 10 rfl rfl)
theorem dX1_shelf_37 : decode cX1_shelf 37 = .ok (.iload_n 2, 1) := dk_28 (dk_at dksX1_shelf_1 13 rfl rfl)
theorem dX1_shelf_38 : decode cX1_shelf 38 = .ok (.if_icmp .ge 14, 3) := dk_162 0 14 (dk_at dksX1_shelf_1 14 rfl rfl)
theorem dX1_shelf_41 : decode cX1_shelf 41 = .ok (.aload_n 0, 1) := dk_42 (dk_at dksX1_shelf_1 17 rfl rfl)
theorem dX1_shelf_42 : decode cX1_shelf 42 = .ok (.invokevirtual 370, 3) := dk_182 1 114 (dk_at dksX1_shelf_1 18 rfl rfl)
theorem dX1_shelf_45 : decode cX1_shelf 45 = .ok (.pop, 1) := dk_87 (dk_at dksX1_shelf_1 21 rfl rfl)
theorem dX1_shelf_46 : decode cX1_shelf 46 = .ok (.iinc 3 1, 3) := dk_132 3 1 (dk_at dksX1_shelf_2 0 rfl rfl)
theorem dX1_shelf_49 : decode cX1_shelf 49 = .ok (.goto (-23), 3) := dk_167 255 233 (dk_at dksX1_shelf_2 3 rfl rfl)
theorem dX1_shelf_52 : decode cX1_shelf 52 = .ok (.aload_n 0, 1) := dk_42 (dk_at dksX1_shelf_2 6 rfl rfl)
theorem dX1_shelf_53 : decode cX1_shelf 53 = .ok (.iload_n 1, 1) := dk_27 (dk_at dksX1_shelf_2 7 rfl rfl)
theorem dX1_shelf_54 : decode cX1_shelf 54 = .ok (.invokevirtual 330, 3) := dk_182 1 74 (dk_at dksX1_shelf_2 8 rfl rfl)
theorem dX1_shelf_57 : decode cX1_shelf 57 = .ok (.iload_n 2, 1) := dk_28 (dk_at dksX1_shelf_2 11 rfl rfl)
theorem dX1_shelf_58 : decode cX1_shelf 58 = .ok (.if_icmp .lt 7, 3) := dk_161 0 7 (dk_at dksX1_shelf_2 12 rfl rfl)
theorem dX1_shelf_61 : decode cX1_shelf 61 = .ok (.iconst 1, 1) := dk_4 (dk_at dksX1_shelf_2 15 rfl rfl)
theorem dX1_shelf_62 : decode cX1_shelf 62 = .ok (.goto 4, 3) := dk_167 0 4 (dk_at dksX1_shelf_2 16 rfl rfl)
theorem dX1_shelf_65 : decode cX1_shelf 65 = .ok (.iconst 0, 1) := dk_3 (dk_at dksX1_shelf_2 19 rfl rfl)
theorem dX1_shelf_66 : decode cX1_shelf 66 = .ok (.istore 4, 2) := dk_54 4 (dk_at dksX1_shelf_2 20 rfl rfl)
theorem dX1_shelf_68 : decode cX1_shelf 68 = .ok (.aload_n 0, 1) := dk_42 (dk_at dksX1_shelf_2 22 rfl rfl)
theorem dX1_shelf_69 : decode cX1_shelf 69 = .ok (.invokevirtual 425, 3) := dk_182 1 169 (dk_at dksX1_shelf_3 0 rfl rfl)
theorem dX1_shelf_72 : decode cX1_shelf 72 = .ok (.iload 4, 2) := dk_21 4 (dk_at dksX1_shelf_3 3 rfl rfl)
theorem dX1_shelf_74 : decode cX1_shelf 74 = .ok (.ifCond .eq 7, 3) := dk_153 0 7 (dk_at dksX1_shelf_3 5 rfl rfl)
theorem dX1_shelf_77 : decode cX1_shelf 77 = .ok (.iload_n 3, 1) := dk_29 (dk_at dksX1_shelf_3 8 rfl rfl)
theorem dX1_shelf_78 : decode cX1_shelf 78 = .ok (.goto 4, 3) := dk_167 0 4 (dk_at dksX1_shelf_3 9 rfl rfl)
theorem dX1_shelf_81 : decode cX1_shelf 81 = .ok (.iconst (-1), 1) := dk_2 (dk_at dksX1_shelf_3 12 rfl rfl)
theorem dX1_shelf_82 : decode cX1_shelf 82 = .ok (.ireturn, 1) := dk_172 (dk_at dksX1_shelf_3 13 rfl rfl)
abbrev cX1_scheme : ByteArray := prog_1_method_88_code
def yX1_scheme : MethodName := ⟨RX1, "scheme", "(III)I"⟩
def dkwX1_scheme_5 : List UInt8 := [167, 0, 5, 21, 5, 172]
abbrev dktX1_scheme_5 : List UInt8 := dkwX1_scheme_5 ++ []
def dkwX1_scheme_4 : List UInt8 := [167, 0, 11, 21, 6, 54, 4, 21, 7, 54, 5, 132, 6, 1, 167, 255, 188, 29, 154, 0, 8, 21, 4]
abbrev dktX1_scheme_4 : List UInt8 := dkwX1_scheme_4 ++ dktX1_scheme_5
def dkwX1_scheme_3 : List UInt8 := [161, 0, 34, 21, 7, 21, 5, 160, 0, 19, 21, 6, 184, 1, 179, 21, 4, 184, 1, 179, 161, 0, 6]
abbrev dktX1_scheme_3 : List UInt8 := dkwX1_scheme_3 ++ dktX1_scheme_4
def dkwX1_scheme_2 : List UInt8 := [162, 0, 63, 42, 27, 28, 21, 6, 182, 1, 175, 54, 7, 21, 4, 2, 159, 0, 33, 21, 7, 21, 5]
abbrev dktX1_scheme_2 : List UInt8 := dkwX1_scheme_2 ++ dktX1_scheme_3
def dkwX1_scheme_1 : List UInt8 := [154, 0, 5, 2, 172, 2, 54, 4, 3, 54, 5, 3, 54, 6, 21, 6, 4, 42, 180, 1, 49, 120]
abbrev dktX1_scheme_1 : List UInt8 := dkwX1_scheme_1 ++ dktX1_scheme_2
def dkwX1_scheme_0 : List UInt8 := [42, 27, 182, 1, 68, 153, 0, 22, 28, 4, 16, 20, 184, 0, 233, 153, 0, 12, 29, 3, 4, 184, 0, 233]
abbrev dktX1_scheme_0 : List UInt8 := dkwX1_scheme_0 ++ dktX1_scheme_1
theorem dksX1_scheme_0 : cX1_scheme.data.toList.drop 0 = dktX1_scheme_0 := by decide +kernel
theorem dksX1_scheme_1 : cX1_scheme.data.toList.drop 24 = dktX1_scheme_1 := dk_seg dksX1_scheme_0 24 rfl rfl
theorem dksX1_scheme_2 : cX1_scheme.data.toList.drop 46 = dktX1_scheme_2 := dk_seg dksX1_scheme_1 22 rfl rfl
theorem dksX1_scheme_3 : cX1_scheme.data.toList.drop 69 = dktX1_scheme_3 := dk_seg dksX1_scheme_2 23 rfl rfl
theorem dksX1_scheme_4 : cX1_scheme.data.toList.drop 92 = dktX1_scheme_4 := dk_seg dksX1_scheme_3 23 rfl rfl
theorem dksX1_scheme_5 : cX1_scheme.data.toList.drop 115 = dktX1_scheme_5 := dk_seg dksX1_scheme_4 23 rfl rfl
theorem dX1_scheme_0 : decode cX1_scheme 0 = .ok (.aload_n 0, 1) := dk_42 (dk_at dksX1_scheme_0 0 rfl rfl)
theorem dX1_scheme_1 : decode cX1_scheme 1 = .ok (.iload_n 1, 1) := dk_27 (dk_at dksX1_scheme_0 1 rfl rfl)
theorem dX1_scheme_2 : decode cX1_scheme 2 = .ok (.invokevirtual 324, 3) := dk_182 1 68 (dk_at dksX1_scheme_0 2 rfl rfl)
theorem dX1_scheme_5 : decode cX1_scheme 5 = .ok (.ifCond .eq 22, 3) := dk_153 0 22 (dk_at dksX1_scheme_0 5 rfl rfl)
theorem dX1_scheme_8 : decode cX1_scheme 8 = .ok (.iload_n 2, 1) := dk_28 (dk_at dksX1_scheme_0 8 rfl rfl)
theorem dX1_scheme_9 : decode cX1_scheme 9 = .ok (.iconst 1, 1) := dk_4 (dk_at dksX1_scheme_0 9 rfl rfl)
theorem dX1_scheme_10 : decode cX1_scheme 10 = .ok (.bipush 20, 2) := dk_16 20 (dk_at dksX1_scheme_0 10 rfl rfl)
theorem dX1_scheme_12 : decode cX1_scheme 12 = .ok (.invokestatic 233, 3) := dk_184 0 233 (dk_at dksX1_scheme_0 12 rfl rfl)
theorem dX1_scheme_15 : decode cX1_scheme 15 = .ok (.ifCond .eq 12, 3) := dk_153 0 12 (dk_at dksX1_scheme_0 15 rfl rfl)
theorem dX1_scheme_18 : decode cX1_scheme 18 = .ok (.iload_n 3, 1) := dk_29 (dk_at dksX1_scheme_0 18 rfl rfl)
theorem dX1_scheme_19 : decode cX1_scheme 19 = .ok (.iconst 0, 1) := dk_3 (dk_at dksX1_scheme_0 19 rfl rfl)
theorem dX1_scheme_20 : decode cX1_scheme 20 = .ok (.iconst 1, 1) := dk_4 (dk_at dksX1_scheme_0 20 rfl rfl)
theorem dX1_scheme_21 : decode cX1_scheme 21 = .ok (.invokestatic 233, 3) := dk_184 0 233 (dk_at dksX1_scheme_0 21 rfl rfl)
theorem dX1_scheme_24 : decode cX1_scheme 24 = .ok (.ifCond .ne 5, 3) := dk_154 0 5 (dk_at dksX1_scheme_1 0 rfl rfl)
theorem dX1_scheme_27 : decode cX1_scheme 27 = .ok (.iconst (-1), 1) := dk_2 (dk_at dksX1_scheme_1 3 rfl rfl)
theorem dX1_scheme_28 : decode cX1_scheme 28 = .ok (.ireturn, 1) := dk_172 (dk_at dksX1_scheme_1 4 rfl rfl)
theorem dX1_scheme_29 : decode cX1_scheme 29 = .ok (.iconst (-1), 1) := dk_2 (dk_at dksX1_scheme_1 5 rfl rfl)
theorem dX1_scheme_30 : decode cX1_scheme 30 = .ok (.istore 4, 2) := dk_54 4 (dk_at dksX1_scheme_1 6 rfl rfl)
theorem dX1_scheme_32 : decode cX1_scheme 32 = .ok (.iconst 0, 1) := dk_3 (dk_at dksX1_scheme_1 8 rfl rfl)
theorem dX1_scheme_33 : decode cX1_scheme 33 = .ok (.istore 5, 2) := dk_54 5 (dk_at dksX1_scheme_1 9 rfl rfl)
theorem dX1_scheme_35 : decode cX1_scheme 35 = .ok (.iconst 0, 1) := dk_3 (dk_at dksX1_scheme_1 11 rfl rfl)
theorem dX1_scheme_36 : decode cX1_scheme 36 = .ok (.istore 6, 2) := dk_54 6 (dk_at dksX1_scheme_1 12 rfl rfl)
theorem dX1_scheme_38 : decode cX1_scheme 38 = .ok (.iload 6, 2) := dk_21 6 (dk_at dksX1_scheme_1 14 rfl rfl)
theorem dX1_scheme_40 : decode cX1_scheme 40 = .ok (.iconst 1, 1) := dk_4 (dk_at dksX1_scheme_1 16 rfl rfl)
theorem dX1_scheme_41 : decode cX1_scheme 41 = .ok (.aload_n 0, 1) := dk_42 (dk_at dksX1_scheme_1 17 rfl rfl)
theorem dX1_scheme_42 : decode cX1_scheme 42 = .ok (.getfield 305, 3) := dk_180 1 49 (dk_at dksX1_scheme_1 18 rfl rfl)
theorem dX1_scheme_45 : decode cX1_scheme 45 = .ok (.ishl, 1) := dk_120 (dk_at dksX1_scheme_1 21 rfl rfl)
theorem dX1_scheme_46 : decode cX1_scheme 46 = .ok (.if_icmp .ge 63, 3) := dk_162 0 63 (dk_at dksX1_scheme_2 0 rfl rfl)
theorem dX1_scheme_49 : decode cX1_scheme 49 = .ok (.aload_n 0, 1) := dk_42 (dk_at dksX1_scheme_2 3 rfl rfl)
theorem dX1_scheme_50 : decode cX1_scheme 50 = .ok (.iload_n 1, 1) := dk_27 (dk_at dksX1_scheme_2 4 rfl rfl)
theorem dX1_scheme_51 : decode cX1_scheme 51 = .ok (.iload_n 2, 1) := dk_28 (dk_at dksX1_scheme_2 5 rfl rfl)
theorem dX1_scheme_52 : decode cX1_scheme 52 = .ok (.iload 6, 2) := dk_21 6 (dk_at dksX1_scheme_2 6 rfl rfl)
theorem dX1_scheme_54 : decode cX1_scheme 54 = .ok (.invokevirtual 431, 3) := dk_182 1 175 (dk_at dksX1_scheme_2 8 rfl rfl)
theorem dX1_scheme_57 : decode cX1_scheme 57 = .ok (.istore 7, 2) := dk_54 7 (dk_at dksX1_scheme_2 11 rfl rfl)
theorem dX1_scheme_59 : decode cX1_scheme 59 = .ok (.iload 4, 2) := dk_21 4 (dk_at dksX1_scheme_2 13 rfl rfl)
theorem dX1_scheme_61 : decode cX1_scheme 61 = .ok (.iconst (-1), 1) := dk_2 (dk_at dksX1_scheme_2 15 rfl rfl)
theorem dX1_scheme_62 : decode cX1_scheme 62 = .ok (.if_icmp .eq 33, 3) := dk_159 0 33 (dk_at dksX1_scheme_2 16 rfl rfl)
theorem dX1_scheme_65 : decode cX1_scheme 65 = .ok (.iload 7, 2) := dk_21 7 (dk_at dksX1_scheme_2 19 rfl rfl)
theorem dX1_scheme_67 : decode cX1_scheme 67 = .ok (.iload 5, 2) := dk_21 5 (dk_at dksX1_scheme_2 21 rfl rfl)
theorem dX1_scheme_69 : decode cX1_scheme 69 = .ok (.if_icmp .lt 34, 3) := dk_161 0 34 (dk_at dksX1_scheme_3 0 rfl rfl)
theorem dX1_scheme_72 : decode cX1_scheme 72 = .ok (.iload 7, 2) := dk_21 7 (dk_at dksX1_scheme_3 3 rfl rfl)
theorem dX1_scheme_74 : decode cX1_scheme 74 = .ok (.iload 5, 2) := dk_21 5 (dk_at dksX1_scheme_3 5 rfl rfl)
theorem dX1_scheme_76 : decode cX1_scheme 76 = .ok (.if_icmp .ne 19, 3) := dk_160 0 19 (dk_at dksX1_scheme_3 7 rfl rfl)
theorem dX1_scheme_79 : decode cX1_scheme 79 = .ok (.iload 6, 2) := dk_21 6 (dk_at dksX1_scheme_3 10 rfl rfl)
theorem dX1_scheme_81 : decode cX1_scheme 81 = .ok (.invokestatic 435, 3) := dk_184 1 179 (dk_at dksX1_scheme_3 12 rfl rfl)
theorem dX1_scheme_84 : decode cX1_scheme 84 = .ok (.iload 4, 2) := dk_21 4 (dk_at dksX1_scheme_3 15 rfl rfl)
theorem dX1_scheme_86 : decode cX1_scheme 86 = .ok (.invokestatic 435, 3) := dk_184 1 179 (dk_at dksX1_scheme_3 17 rfl rfl)
theorem dX1_scheme_89 : decode cX1_scheme 89 = .ok (.if_icmp .lt 6, 3) := dk_161 0 6 (dk_at dksX1_scheme_3 20 rfl rfl)
theorem dX1_scheme_92 : decode cX1_scheme 92 = .ok (.goto 11, 3) := dk_167 0 11 (dk_at dksX1_scheme_4 0 rfl rfl)
theorem dX1_scheme_95 : decode cX1_scheme 95 = .ok (.iload 6, 2) := dk_21 6 (dk_at dksX1_scheme_4 3 rfl rfl)
theorem dX1_scheme_97 : decode cX1_scheme 97 = .ok (.istore 4, 2) := dk_54 4 (dk_at dksX1_scheme_4 5 rfl rfl)
theorem dX1_scheme_99 : decode cX1_scheme 99 = .ok (.iload 7, 2) := dk_21 7 (dk_at dksX1_scheme_4 7 rfl rfl)
theorem dX1_scheme_101 : decode cX1_scheme 101 = .ok (.istore 5, 2) := dk_54 5 (dk_at dksX1_scheme_4 9 rfl rfl)
theorem dX1_scheme_103 : decode cX1_scheme 103 = .ok (.iinc 6 1, 3) := dk_132 6 1 (dk_at dksX1_scheme_4 11 rfl rfl)
theorem dX1_scheme_106 : decode cX1_scheme 106 = .ok (.goto (-68), 3) := dk_167 255 188 (dk_at dksX1_scheme_4 14 rfl rfl)
theorem dX1_scheme_109 : decode cX1_scheme 109 = .ok (.iload_n 3, 1) := dk_29 (dk_at dksX1_scheme_4 17 rfl rfl)
theorem dX1_scheme_110 : decode cX1_scheme 110 = .ok (.ifCond .ne 8, 3) := dk_154 0 8 (dk_at dksX1_scheme_4 18 rfl rfl)
theorem dX1_scheme_113 : decode cX1_scheme 113 = .ok (.iload 4, 2) := dk_21 4 (dk_at dksX1_scheme_4 21 rfl rfl)
theorem dX1_scheme_115 : decode cX1_scheme 115 = .ok (.goto 5, 3) := dk_167 0 5 (dk_at dksX1_scheme_5 0 rfl rfl)
theorem dX1_scheme_118 : decode cX1_scheme 118 = .ok (.iload 5, 2) := dk_21 5 (dk_at dksX1_scheme_5 3 rfl rfl)
theorem dX1_scheme_120 : decode cX1_scheme 120 = .ok (.ireturn, 1) := dk_172 (dk_at dksX1_scheme_5 5 rfl rfl)
abbrev cX1_pagesBy : ByteArray := prog_1_method_87_code
def yX1_pagesBy : MethodName := ⟨RX1, "pagesBy", "(III)I"⟩
def dkwX1_pagesBy_1 : List UInt8 := [182, 1, 114, 87, 132, 4, 1, 167, 255, 242, 42, 27, 182, 1, 74, 54, 4, 42, 182, 1, 169, 21, 4, 172]
abbrev dktX1_pagesBy_1 : List UInt8 := dkwX1_pagesBy_1 ++ []
def dkwX1_pagesBy_0 : List UInt8 := [42, 182, 1, 159, 42, 180, 0, 58, 16, 16, 29, 79, 3, 54, 4, 21, 4, 28, 162, 0, 14, 42]
abbrev dktX1_pagesBy_0 : List UInt8 := dkwX1_pagesBy_0 ++ dktX1_pagesBy_1
theorem dksX1_pagesBy_0 : cX1_pagesBy.data.toList.drop 0 = dktX1_pagesBy_0 := by decide +kernel
theorem dksX1_pagesBy_1 : cX1_pagesBy.data.toList.drop 22 = dktX1_pagesBy_1 := dk_seg dksX1_pagesBy_0 22 rfl rfl
theorem dX1_pagesBy_0 : decode cX1_pagesBy 0 = .ok (.aload_n 0, 1) := dk_42 (dk_at dksX1_pagesBy_0 0 rfl rfl)
theorem dX1_pagesBy_1 : decode cX1_pagesBy 1 = .ok (.invokevirtual 415, 3) := dk_182 1 159 (dk_at dksX1_pagesBy_0 1 rfl rfl)
theorem dX1_pagesBy_4 : decode cX1_pagesBy 4 = .ok (.aload_n 0, 1) := dk_42 (dk_at dksX1_pagesBy_0 4 rfl rfl)
theorem dX1_pagesBy_5 : decode cX1_pagesBy 5 = .ok (.getfield 58, 3) := dk_180 0 58 (dk_at dksX1_pagesBy_0 5 rfl rfl)
theorem dX1_pagesBy_8 : decode cX1_pagesBy 8 = .ok (.bipush 16, 2) := dk_16 16 (dk_at dksX1_pagesBy_0 8 rfl rfl)
theorem dX1_pagesBy_10 : decode cX1_pagesBy 10 = .ok (.iload_n 3, 1) := dk_29 (dk_at dksX1_pagesBy_0 10 rfl rfl)
theorem dX1_pagesBy_11 : decode cX1_pagesBy 11 = .ok (.iastore, 1) := dk_79 (dk_at dksX1_pagesBy_0 11 rfl rfl)
theorem dX1_pagesBy_12 : decode cX1_pagesBy 12 = .ok (.iconst 0, 1) := dk_3 (dk_at dksX1_pagesBy_0 12 rfl rfl)
theorem dX1_pagesBy_13 : decode cX1_pagesBy 13 = .ok (.istore 4, 2) := dk_54 4 (dk_at dksX1_pagesBy_0 13 rfl rfl)
theorem dX1_pagesBy_15 : decode cX1_pagesBy 15 = .ok (.iload 4, 2) := dk_21 4 (dk_at dksX1_pagesBy_0 15 rfl rfl)
theorem dX1_pagesBy_17 : decode cX1_pagesBy 17 = .ok (.iload_n 2, 1) := dk_28 (dk_at dksX1_pagesBy_0 17 rfl rfl)
theorem dX1_pagesBy_18 : decode cX1_pagesBy 18 = .ok (.if_icmp .ge 14, 3) := dk_162 0 14 (dk_at dksX1_pagesBy_0 18 rfl rfl)
theorem dX1_pagesBy_21 : decode cX1_pagesBy 21 = .ok (.aload_n 0, 1) := dk_42 (dk_at dksX1_pagesBy_0 21 rfl rfl)
theorem dX1_pagesBy_22 : decode cX1_pagesBy 22 = .ok (.invokevirtual 370, 3) := dk_182 1 114 (dk_at dksX1_pagesBy_1 0 rfl rfl)
theorem dX1_pagesBy_25 : decode cX1_pagesBy 25 = .ok (.pop, 1) := dk_87 (dk_at dksX1_pagesBy_1 3 rfl rfl)
theorem dX1_pagesBy_26 : decode cX1_pagesBy 26 = .ok (.iinc 4 1, 3) := dk_132 4 1 (dk_at dksX1_pagesBy_1 4 rfl rfl)
theorem dX1_pagesBy_29 : decode cX1_pagesBy 29 = .ok (.goto (-14), 3) := dk_167 255 242 (dk_at dksX1_pagesBy_1 7 rfl rfl)
theorem dX1_pagesBy_32 : decode cX1_pagesBy 32 = .ok (.aload_n 0, 1) := dk_42 (dk_at dksX1_pagesBy_1 10 rfl rfl)
theorem dX1_pagesBy_33 : decode cX1_pagesBy 33 = .ok (.iload_n 1, 1) := dk_27 (dk_at dksX1_pagesBy_1 11 rfl rfl)
theorem dX1_pagesBy_34 : decode cX1_pagesBy 34 = .ok (.invokevirtual 330, 3) := dk_182 1 74 (dk_at dksX1_pagesBy_1 12 rfl rfl)
theorem dX1_pagesBy_37 : decode cX1_pagesBy 37 = .ok (.istore 4, 2) := dk_54 4 (dk_at dksX1_pagesBy_1 15 rfl rfl)
theorem dX1_pagesBy_39 : decode cX1_pagesBy 39 = .ok (.aload_n 0, 1) := dk_42 (dk_at dksX1_pagesBy_1 17 rfl rfl)
theorem dX1_pagesBy_40 : decode cX1_pagesBy 40 = .ok (.invokevirtual 425, 3) := dk_182 1 169 (dk_at dksX1_pagesBy_1 18 rfl rfl)
theorem dX1_pagesBy_43 : decode cX1_pagesBy 43 = .ok (.iload 4, 2) := dk_21 4 (dk_at dksX1_pagesBy_1 21 rfl rfl)
theorem dX1_pagesBy_45 : decode cX1_pagesBy 45 = .ok (.ireturn, 1) := dk_172 (dk_at dksX1_pagesBy_1 23 rfl rfl)
abbrev cX1_peace : ByteArray := prog_1_method_89_code
def yX1_peace : MethodName := ⟨RX1, "peace", "()I"⟩
def dkwX1_peace_2 : List UInt8 := [27, 172]
abbrev dktX1_peace_2 : List UInt8 := dkwX1_peace_2 ++ []
def dkwX1_peace_1 : List UInt8 := [2, 160, 0, 19, 42, 182, 1, 114, 2, 160, 0, 5, 28, 60, 132, 2, 1, 167, 255, 232, 42, 182, 1, 169]
abbrev dktX1_peace_1 : List UInt8 := dkwX1_peace_1 ++ dktX1_peace_2
def dkwX1_peace_0 : List UInt8 := [42, 182, 1, 117, 154, 0, 5, 2, 172, 42, 182, 1, 159, 2, 60, 4, 61, 28, 16, 60, 163, 0, 24, 27]
abbrev dktX1_peace_0 : List UInt8 := dkwX1_peace_0 ++ dktX1_peace_1
theorem dksX1_peace_0 : cX1_peace.data.toList.drop 0 = dktX1_peace_0 := by decide +kernel
theorem dksX1_peace_1 : cX1_peace.data.toList.drop 24 = dktX1_peace_1 := dk_seg dksX1_peace_0 24 rfl rfl
theorem dksX1_peace_2 : cX1_peace.data.toList.drop 48 = dktX1_peace_2 := dk_seg dksX1_peace_1 24 rfl rfl
theorem dX1_peace_0 : decode cX1_peace 0 = .ok (.aload_n 0, 1) := dk_42 (dk_at dksX1_peace_0 0 rfl rfl)
theorem dX1_peace_1 : decode cX1_peace 1 = .ok (.invokevirtual 373, 3) := dk_182 1 117 (dk_at dksX1_peace_0 1 rfl rfl)
theorem dX1_peace_4 : decode cX1_peace 4 = .ok (.ifCond .ne 5, 3) := dk_154 0 5 (dk_at dksX1_peace_0 4 rfl rfl)
theorem dX1_peace_7 : decode cX1_peace 7 = .ok (.iconst (-1), 1) := dk_2 (dk_at dksX1_peace_0 7 rfl rfl)
theorem dX1_peace_8 : decode cX1_peace 8 = .ok (.ireturn, 1) := dk_172 (dk_at dksX1_peace_0 8 rfl rfl)
theorem dX1_peace_9 : decode cX1_peace 9 = .ok (.aload_n 0, 1) := dk_42 (dk_at dksX1_peace_0 9 rfl rfl)
theorem dX1_peace_10 : decode cX1_peace 10 = .ok (.invokevirtual 415, 3) := dk_182 1 159 (dk_at dksX1_peace_0 10 rfl rfl)
theorem dX1_peace_13 : decode cX1_peace 13 = .ok (.iconst (-1), 1) := dk_2 (dk_at dksX1_peace_0 13 rfl rfl)
theorem dX1_peace_14 : decode cX1_peace 14 = .ok (.istore_n 1, 1) := dk_60 (dk_at dksX1_peace_0 14 rfl rfl)
theorem dX1_peace_15 : decode cX1_peace 15 = .ok (.iconst 1, 1) := dk_4 (dk_at dksX1_peace_0 15 rfl rfl)
theorem dX1_peace_16 : decode cX1_peace 16 = .ok (.istore_n 2, 1) := dk_61 (dk_at dksX1_peace_0 16 rfl rfl)
theorem dX1_peace_17 : decode cX1_peace 17 = .ok (.iload_n 2, 1) := dk_28 (dk_at dksX1_peace_0 17 rfl rfl)
theorem dX1_peace_18 : decode cX1_peace 18 = .ok (.bipush 60, 2) := dk_16 60 (dk_at dksX1_peace_0 18 rfl rfl)
theorem dX1_peace_20 : decode cX1_peace 20 = .ok (.if_icmp .gt 24, 3) := dk_163 0 24 (dk_at dksX1_peace_0 20 rfl rfl)
theorem dX1_peace_23 : decode cX1_peace 23 = .ok (.iload_n 1, 1) := dk_27 (dk_at dksX1_peace_0 23 rfl rfl)
theorem dX1_peace_24 : decode cX1_peace 24 = .ok (.iconst (-1), 1) := dk_2 (dk_at dksX1_peace_1 0 rfl rfl)
theorem dX1_peace_25 : decode cX1_peace 25 = .ok (.if_icmp .ne 19, 3) := dk_160 0 19 (dk_at dksX1_peace_1 1 rfl rfl)
theorem dX1_peace_28 : decode cX1_peace 28 = .ok (.aload_n 0, 1) := dk_42 (dk_at dksX1_peace_1 4 rfl rfl)
theorem dX1_peace_29 : decode cX1_peace 29 = .ok (.invokevirtual 370, 3) := dk_182 1 114 (dk_at dksX1_peace_1 5 rfl rfl)
theorem dX1_peace_32 : decode cX1_peace 32 = .ok (.iconst (-1), 1) := dk_2 (dk_at dksX1_peace_1 8 rfl rfl)
theorem dX1_peace_33 : decode cX1_peace 33 = .ok (.if_icmp .ne 5, 3) := dk_160 0 5 (dk_at dksX1_peace_1 9 rfl rfl)
theorem dX1_peace_36 : decode cX1_peace 36 = .ok (.iload_n 2, 1) := dk_28 (dk_at dksX1_peace_1 12 rfl rfl)
theorem dX1_peace_37 : decode cX1_peace 37 = .ok (.istore_n 1, 1) := dk_60 (dk_at dksX1_peace_1 13 rfl rfl)
theorem dX1_peace_38 : decode cX1_peace 38 = .ok (.iinc 2 1, 3) := dk_132 2 1 (dk_at dksX1_peace_1 14 rfl rfl)
theorem dX1_peace_41 : decode cX1_peace 41 = .ok (.goto (-24), 3) := dk_167 255 232 (dk_at dksX1_peace_1 17 rfl rfl)
theorem dX1_peace_44 : decode cX1_peace 44 = .ok (.aload_n 0, 1) := dk_42 (dk_at dksX1_peace_1 20 rfl rfl)
theorem dX1_peace_45 : decode cX1_peace 45 = .ok (.invokevirtual 425, 3) := dk_182 1 169 (dk_at dksX1_peace_1 21 rfl rfl)
theorem dX1_peace_48 : decode cX1_peace 48 = .ok (.iload_n 1, 1) := dk_27 (dk_at dksX1_peace_2 0 rfl rfl)
theorem dX1_peace_49 : decode cX1_peace 49 = .ok (.ireturn, 1) := dk_172 (dk_at dksX1_peace_2 1 rfl rfl)
abbrev cX1_last : ByteArray := prog_1_method_90_code
def yX1_last : MethodName := ⟨RX1, "last", "(I)I"⟩
def dkwX1_last_1 : List UInt8 := [180, 1, 52, 112, 100, 42, 180, 1, 52, 112, 4, 96, 167, 0, 4, 2, 172]
abbrev dktX1_last_1 : List UInt8 := dkwX1_last_1 ++ []
def dkwX1_last_0 : List UInt8 := [42, 27, 182, 1, 77, 153, 0, 32, 27, 42, 180, 1, 52, 96, 42, 180, 0, 58, 16, 18, 46, 42]
abbrev dktX1_last_0 : List UInt8 := dkwX1_last_0 ++ dktX1_last_1
theorem dksX1_last_0 : cX1_last.data.toList.drop 0 = dktX1_last_0 := by decide +kernel
theorem dksX1_last_1 : cX1_last.data.toList.drop 22 = dktX1_last_1 := dk_seg dksX1_last_0 22 rfl rfl
theorem dX1_last_0 : decode cX1_last 0 = .ok (.aload_n 0, 1) := dk_42 (dk_at dksX1_last_0 0 rfl rfl)
theorem dX1_last_1 : decode cX1_last 1 = .ok (.iload_n 1, 1) := dk_27 (dk_at dksX1_last_0 1 rfl rfl)
theorem dX1_last_2 : decode cX1_last 2 = .ok (.invokevirtual 333, 3) := dk_182 1 77 (dk_at dksX1_last_0 2 rfl rfl)
theorem dX1_last_5 : decode cX1_last 5 = .ok (.ifCond .eq 32, 3) := dk_153 0 32 (dk_at dksX1_last_0 5 rfl rfl)
theorem dX1_last_8 : decode cX1_last 8 = .ok (.iload_n 1, 1) := dk_27 (dk_at dksX1_last_0 8 rfl rfl)
theorem dX1_last_9 : decode cX1_last 9 = .ok (.aload_n 0, 1) := dk_42 (dk_at dksX1_last_0 9 rfl rfl)
theorem dX1_last_10 : decode cX1_last 10 = .ok (.getfield 308, 3) := dk_180 1 52 (dk_at dksX1_last_0 10 rfl rfl)
theorem dX1_last_13 : decode cX1_last 13 = .ok (.iadd, 1) := dk_96 (dk_at dksX1_last_0 13 rfl rfl)
theorem dX1_last_14 : decode cX1_last 14 = .ok (.aload_n 0, 1) := dk_42 (dk_at dksX1_last_0 14 rfl rfl)
theorem dX1_last_15 : decode cX1_last 15 = .ok (.getfield 58, 3) := dk_180 0 58 (dk_at dksX1_last_0 15 rfl rfl)
theorem dX1_last_18 : decode cX1_last 18 = .ok (.bipush 18, 2) := dk_16 18 (dk_at dksX1_last_0 18 rfl rfl)
theorem dX1_last_20 : decode cX1_last 20 = .ok (.iaload, 1) := dk_46 (dk_at dksX1_last_0 20 rfl rfl)
theorem dX1_last_21 : decode cX1_last 21 = .ok (.aload_n 0, 1) := dk_42 (dk_at dksX1_last_0 21 rfl rfl)
theorem dX1_last_22 : decode cX1_last 22 = .ok (.getfield 308, 3) := dk_180 1 52 (dk_at dksX1_last_1 0 rfl rfl)
theorem dX1_last_25 : decode cX1_last 25 = .ok (.irem, 1) := dk_112 (dk_at dksX1_last_1 3 rfl rfl)
theorem dX1_last_26 : decode cX1_last 26 = .ok (.isub, 1) := dk_100 (dk_at dksX1_last_1 4 rfl rfl)
theorem dX1_last_27 : decode cX1_last 27 = .ok (.aload_n 0, 1) := dk_42 (dk_at dksX1_last_1 5 rfl rfl)
theorem dX1_last_28 : decode cX1_last 28 = .ok (.getfield 308, 3) := dk_180 1 52 (dk_at dksX1_last_1 6 rfl rfl)
theorem dX1_last_31 : decode cX1_last 31 = .ok (.irem, 1) := dk_112 (dk_at dksX1_last_1 9 rfl rfl)
theorem dX1_last_32 : decode cX1_last 32 = .ok (.iconst 1, 1) := dk_4 (dk_at dksX1_last_1 10 rfl rfl)
theorem dX1_last_33 : decode cX1_last 33 = .ok (.iadd, 1) := dk_96 (dk_at dksX1_last_1 11 rfl rfl)
theorem dX1_last_34 : decode cX1_last 34 = .ok (.goto 4, 3) := dk_167 0 4 (dk_at dksX1_last_1 12 rfl rfl)
theorem dX1_last_37 : decode cX1_last 37 = .ok (.iconst (-1), 1) := dk_2 (dk_at dksX1_last_1 15 rfl rfl)
theorem dX1_last_38 : decode cX1_last 38 = .ok (.ireturn, 1) := dk_172 (dk_at dksX1_last_1 16 rfl rfl)
abbrev cX1_told : ByteArray := prog_1_method_91_code
def yX1_told : MethodName := ⟨RX1, "told", "(III)I"⟩
def dkwX1_told_3 : List UInt8 := [180, 1, 55, 4, 96, 181, 1, 55, 42, 180, 1, 55, 172]
abbrev dktX1_told_3 : List UInt8 := dkwX1_told_3 ++ []
def dkwX1_told_2 : List UInt8 := [42, 180, 0, 70, 42, 180, 1, 55, 28, 79, 42, 180, 0, 73, 42, 180, 1, 55, 29, 79, 42, 89]
abbrev dktX1_told_2 : List UInt8 := dkwX1_told_2 ++ dktX1_told_3
def dkwX1_told_1 : List UInt8 := [153, 0, 12, 42, 180, 1, 55, 16, 10, 160, 0, 5, 2, 172, 42, 180, 0, 67, 42, 180, 1, 55, 27, 79]
abbrev dktX1_told_1 : List UInt8 := dkwX1_told_1 ++ dktX1_told_2
def dkwX1_told_0 : List UInt8 := [42, 27, 182, 1, 68, 153, 0, 30, 42, 28, 182, 1, 77, 153, 0, 22, 29, 3, 16, 29, 184, 0, 233]
abbrev dktX1_told_0 : List UInt8 := dkwX1_told_0 ++ dktX1_told_1
theorem dksX1_told_0 : cX1_told.data.toList.drop 0 = dktX1_told_0 := by decide +kernel
theorem dksX1_told_1 : cX1_told.data.toList.drop 23 = dktX1_told_1 := dk_seg dksX1_told_0 23 rfl rfl
theorem dksX1_told_2 : cX1_told.data.toList.drop 47 = dktX1_told_2 := dk_seg dksX1_told_1 24 rfl rfl
theorem dksX1_told_3 : cX1_told.data.toList.drop 69 = dktX1_told_3 := dk_seg dksX1_told_2 22 rfl rfl
theorem dX1_told_0 : decode cX1_told 0 = .ok (.aload_n 0, 1) := dk_42 (dk_at dksX1_told_0 0 rfl rfl)
theorem dX1_told_1 : decode cX1_told 1 = .ok (.iload_n 1, 1) := dk_27 (dk_at dksX1_told_0 1 rfl rfl)
theorem dX1_told_2 : decode cX1_told 2 = .ok (.invokevirtual 324, 3) := dk_182 1 68 (dk_at dksX1_told_0 2 rfl rfl)
theorem dX1_told_5 : decode cX1_told 5 = .ok (.ifCond .eq 30, 3) := dk_153 0 30 (dk_at dksX1_told_0 5 rfl rfl)
theorem dX1_told_8 : decode cX1_told 8 = .ok (.aload_n 0, 1) := dk_42 (dk_at dksX1_told_0 8 rfl rfl)
theorem dX1_told_9 : decode cX1_told 9 = .ok (.iload_n 2, 1) := dk_28 (dk_at dksX1_told_0 9 rfl rfl)
theorem dX1_told_10 : decode cX1_told 10 = .ok (.invokevirtual 333, 3) := dk_182 1 77 (dk_at dksX1_told_0 10 rfl rfl)
theorem dX1_told_13 : decode cX1_told 13 = .ok (.ifCond .eq 22, 3) := dk_153 0 22 (dk_at dksX1_told_0 13 rfl rfl)
theorem dX1_told_16 : decode cX1_told 16 = .ok (.iload_n 3, 1) := dk_29 (dk_at dksX1_told_0 16 rfl rfl)
theorem dX1_told_17 : decode cX1_told 17 = .ok (.iconst 0, 1) := dk_3 (dk_at dksX1_told_0 17 rfl rfl)
theorem dX1_told_18 : decode cX1_told 18 = .ok (.bipush 29, 2) := dk_16 29 (dk_at dksX1_told_0 18 rfl rfl)
theorem dX1_told_20 : decode cX1_told 20 = .ok (.invokestatic 233, 3) := dk_184 0 233 (dk_at dksX1_told_0 20 rfl rfl)
theorem dX1_told_23 : decode cX1_told 23 = .ok (.ifCond .eq 12, 3) := dk_153 0 12 (dk_at dksX1_told_1 0 rfl rfl)
theorem dX1_told_26 : decode cX1_told 26 = .ok (.aload_n 0, 1) := dk_42 (dk_at dksX1_told_1 3 rfl rfl)
theorem dX1_told_27 : decode cX1_told 27 = .ok (.getfield 311, 3) := dk_180 1 55 (dk_at dksX1_told_1 4 rfl rfl)
theorem dX1_told_30 : decode cX1_told 30 = .ok (.bipush 10, 2) := dk_16 10 (dk_at dksX1_told_1 7 rfl rfl)
theorem dX1_told_32 : decode cX1_told 32 = .ok (.if_icmp .ne 5, 3) := dk_160 0 5 (dk_at dksX1_told_1 9 rfl rfl)
theorem dX1_told_35 : decode cX1_told 35 = .ok (.iconst (-1), 1) := dk_2 (dk_at dksX1_told_1 12 rfl rfl)
theorem dX1_told_36 : decode cX1_told 36 = .ok (.ireturn, 1) := dk_172 (dk_at dksX1_told_1 13 rfl rfl)
theorem dX1_told_37 : decode cX1_told 37 = .ok (.aload_n 0, 1) := dk_42 (dk_at dksX1_told_1 14 rfl rfl)
theorem dX1_told_38 : decode cX1_told 38 = .ok (.getfield 67, 3) := dk_180 0 67 (dk_at dksX1_told_1 15 rfl rfl)
theorem dX1_told_41 : decode cX1_told 41 = .ok (.aload_n 0, 1) := dk_42 (dk_at dksX1_told_1 18 rfl rfl)
theorem dX1_told_42 : decode cX1_told 42 = .ok (.getfield 311, 3) := dk_180 1 55 (dk_at dksX1_told_1 19 rfl rfl)
theorem dX1_told_45 : decode cX1_told 45 = .ok (.iload_n 1, 1) := dk_27 (dk_at dksX1_told_1 22 rfl rfl)
theorem dX1_told_46 : decode cX1_told 46 = .ok (.iastore, 1) := dk_79 (dk_at dksX1_told_1 23 rfl rfl)
theorem dX1_told_47 : decode cX1_told 47 = .ok (.aload_n 0, 1) := dk_42 (dk_at dksX1_told_2 0 rfl rfl)
theorem dX1_told_48 : decode cX1_told 48 = .ok (.getfield 70, 3) := dk_180 0 70 (dk_at dksX1_told_2 1 rfl rfl)
theorem dX1_told_51 : decode cX1_told 51 = .ok (.aload_n 0, 1) := dk_42 (dk_at dksX1_told_2 4 rfl rfl)
theorem dX1_told_52 : decode cX1_told 52 = .ok (.getfield 311, 3) := dk_180 1 55 (dk_at dksX1_told_2 5 rfl rfl)
theorem dX1_told_55 : decode cX1_told 55 = .ok (.iload_n 2, 1) := dk_28 (dk_at dksX1_told_2 8 rfl rfl)
theorem dX1_told_56 : decode cX1_told 56 = .ok (.iastore, 1) := dk_79 (dk_at dksX1_told_2 9 rfl rfl)
theorem dX1_told_57 : decode cX1_told 57 = .ok (.aload_n 0, 1) := dk_42 (dk_at dksX1_told_2 10 rfl rfl)
theorem dX1_told_58 : decode cX1_told 58 = .ok (.getfield 73, 3) := dk_180 0 73 (dk_at dksX1_told_2 11 rfl rfl)
theorem dX1_told_61 : decode cX1_told 61 = .ok (.aload_n 0, 1) := dk_42 (dk_at dksX1_told_2 14 rfl rfl)
theorem dX1_told_62 : decode cX1_told 62 = .ok (.getfield 311, 3) := dk_180 1 55 (dk_at dksX1_told_2 15 rfl rfl)
theorem dX1_told_65 : decode cX1_told 65 = .ok (.iload_n 3, 1) := dk_29 (dk_at dksX1_told_2 18 rfl rfl)
theorem dX1_told_66 : decode cX1_told 66 = .ok (.iastore, 1) := dk_79 (dk_at dksX1_told_2 19 rfl rfl)
theorem dX1_told_67 : decode cX1_told 67 = .ok (.aload_n 0, 1) := dk_42 (dk_at dksX1_told_2 20 rfl rfl)
theorem dX1_told_68 : decode cX1_told 68 = .ok (.dup, 1) := dk_89 (dk_at dksX1_told_2 21 rfl rfl)
theorem dX1_told_69 : decode cX1_told 69 = .ok (.getfield 311, 3) := dk_180 1 55 (dk_at dksX1_told_3 0 rfl rfl)
theorem dX1_told_72 : decode cX1_told 72 = .ok (.iconst 1, 1) := dk_4 (dk_at dksX1_told_3 3 rfl rfl)
theorem dX1_told_73 : decode cX1_told 73 = .ok (.iadd, 1) := dk_96 (dk_at dksX1_told_3 4 rfl rfl)
theorem dX1_told_74 : decode cX1_told 74 = .ok (.putfield 311, 3) := dk_181 1 55 (dk_at dksX1_told_3 5 rfl rfl)
theorem dX1_told_77 : decode cX1_told 77 = .ok (.aload_n 0, 1) := dk_42 (dk_at dksX1_told_3 8 rfl rfl)
theorem dX1_told_78 : decode cX1_told 78 = .ok (.getfield 311, 3) := dk_180 1 55 (dk_at dksX1_told_3 9 rfl rfl)
theorem dX1_told_81 : decode cX1_told 81 = .ok (.ireturn, 1) := dk_172 (dk_at dksX1_told_3 12 rfl rfl)
abbrev cX1_biases : ByteArray := prog_1_method_97_code
def yX1_biases : MethodName := ⟨RX1, "biases", "(II)I"⟩
def dkwX1_biases_2 : List UInt8 := [180, 0, 76, 27, 46, 120, 128, 62, 132, 4, 1, 167, 255, 220, 29, 28, 184, 1, 196, 172]
abbrev dktX1_biases_2 : List UInt8 := dkwX1_biases_2 ++ []
def dkwX1_biases_1 : List UInt8 := [182, 1, 187, 162, 0, 33, 42, 21, 4, 182, 1, 190, 42, 182, 1, 193, 153, 0, 14, 29, 4, 42]
abbrev dktX1_biases_1 : List UInt8 := dkwX1_biases_1 ++ dktX1_biases_2
def dkwX1_biases_0 : List UInt8 := [42, 27, 182, 1, 68, 153, 0, 8, 28, 2, 162, 0, 5, 2, 172, 3, 62, 3, 54, 4, 21, 4, 42]
abbrev dktX1_biases_0 : List UInt8 := dkwX1_biases_0 ++ dktX1_biases_1
theorem dksX1_biases_0 : cX1_biases.data.toList.drop 0 = dktX1_biases_0 := by decide +kernel
theorem dksX1_biases_1 : cX1_biases.data.toList.drop 23 = dktX1_biases_1 := dk_seg dksX1_biases_0 23 rfl rfl
theorem dksX1_biases_2 : cX1_biases.data.toList.drop 45 = dktX1_biases_2 := dk_seg dksX1_biases_1 22 rfl rfl
theorem dX1_biases_0 : decode cX1_biases 0 = .ok (.aload_n 0, 1) := dk_42 (dk_at dksX1_biases_0 0 rfl rfl)
theorem dX1_biases_1 : decode cX1_biases 1 = .ok (.iload_n 1, 1) := dk_27 (dk_at dksX1_biases_0 1 rfl rfl)
theorem dX1_biases_2 : decode cX1_biases 2 = .ok (.invokevirtual 324, 3) := dk_182 1 68 (dk_at dksX1_biases_0 2 rfl rfl)
theorem dX1_biases_5 : decode cX1_biases 5 = .ok (.ifCond .eq 8, 3) := dk_153 0 8 (dk_at dksX1_biases_0 5 rfl rfl)
theorem dX1_biases_8 : decode cX1_biases 8 = .ok (.iload_n 2, 1) := dk_28 (dk_at dksX1_biases_0 8 rfl rfl)
theorem dX1_biases_9 : decode cX1_biases 9 = .ok (.iconst (-1), 1) := dk_2 (dk_at dksX1_biases_0 9 rfl rfl)
theorem dX1_biases_10 : decode cX1_biases 10 = .ok (.if_icmp .ge 5, 3) := dk_162 0 5 (dk_at dksX1_biases_0 10 rfl rfl)
theorem dX1_biases_13 : decode cX1_biases 13 = .ok (.iconst (-1), 1) := dk_2 (dk_at dksX1_biases_0 13 rfl rfl)
theorem dX1_biases_14 : decode cX1_biases 14 = .ok (.ireturn, 1) := dk_172 (dk_at dksX1_biases_0 14 rfl rfl)
theorem dX1_biases_15 : decode cX1_biases 15 = .ok (.iconst 0, 1) := dk_3 (dk_at dksX1_biases_0 15 rfl rfl)
theorem dX1_biases_16 : decode cX1_biases 16 = .ok (.istore_n 3, 1) := dk_62 (dk_at dksX1_biases_0 16 rfl rfl)
theorem dX1_biases_17 : decode cX1_biases 17 = .ok (.iconst 0, 1) := dk_3 (dk_at dksX1_biases_0 17 rfl rfl)
theorem dX1_biases_18 : decode cX1_biases 18 = .ok (.istore 4, 2) := dk_54 4 (dk_at dksX1_biases_0 18 rfl rfl)
theorem dX1_biases_20 : decode cX1_biases 20 = .ok (.iload 4, 2) := dk_21 4 (dk_at dksX1_biases_0 20 rfl rfl)
theorem dX1_biases_22 : decode cX1_biases 22 = .ok (.aload_n 0, 1) := dk_42 (dk_at dksX1_biases_0 22 rfl rfl)
theorem dX1_biases_23 : decode cX1_biases 23 = .ok (.invokevirtual 443, 3) := dk_182 1 187 (dk_at dksX1_biases_1 0 rfl rfl)
theorem dX1_biases_26 : decode cX1_biases 26 = .ok (.if_icmp .ge 33, 3) := dk_162 0 33 (dk_at dksX1_biases_1 3 rfl rfl)
theorem dX1_biases_29 : decode cX1_biases 29 = .ok (.aload_n 0, 1) := dk_42 (dk_at dksX1_biases_1 6 rfl rfl)
theorem dX1_biases_30 : decode cX1_biases 30 = .ok (.iload 4, 2) := dk_21 4 (dk_at dksX1_biases_1 7 rfl rfl)
theorem dX1_biases_32 : decode cX1_biases 32 = .ok (.invokevirtual 446, 3) := dk_182 1 190 (dk_at dksX1_biases_1 9 rfl rfl)
theorem dX1_biases_35 : decode cX1_biases 35 = .ok (.aload_n 0, 1) := dk_42 (dk_at dksX1_biases_1 12 rfl rfl)
theorem dX1_biases_36 : decode cX1_biases 36 = .ok (.invokevirtual 449, 3) := dk_182 1 193 (dk_at dksX1_biases_1 13 rfl rfl)
theorem dX1_biases_39 : decode cX1_biases 39 = .ok (.ifCond .eq 14, 3) := dk_153 0 14 (dk_at dksX1_biases_1 16 rfl rfl)
theorem dX1_biases_42 : decode cX1_biases 42 = .ok (.iload_n 3, 1) := dk_29 (dk_at dksX1_biases_1 19 rfl rfl)
theorem dX1_biases_43 : decode cX1_biases 43 = .ok (.iconst 1, 1) := dk_4 (dk_at dksX1_biases_1 20 rfl rfl)
theorem dX1_biases_44 : decode cX1_biases 44 = .ok (.aload_n 0, 1) := dk_42 (dk_at dksX1_biases_1 21 rfl rfl)
theorem dX1_biases_45 : decode cX1_biases 45 = .ok (.getfield 76, 3) := dk_180 0 76 (dk_at dksX1_biases_2 0 rfl rfl)
theorem dX1_biases_48 : decode cX1_biases 48 = .ok (.iload_n 1, 1) := dk_27 (dk_at dksX1_biases_2 3 rfl rfl)
theorem dX1_biases_49 : decode cX1_biases 49 = .ok (.iaload, 1) := dk_46 (dk_at dksX1_biases_2 4 rfl rfl)
theorem dX1_biases_50 : decode cX1_biases 50 = .ok (.ishl, 1) := dk_120 (dk_at dksX1_biases_2 5 rfl rfl)
theorem dX1_biases_51 : decode cX1_biases 51 = .ok (.ior, 1) := dk_128 (dk_at dksX1_biases_2 6 rfl rfl)
theorem dX1_biases_52 : decode cX1_biases 52 = .ok (.istore_n 3, 1) := dk_62 (dk_at dksX1_biases_2 7 rfl rfl)
theorem dX1_biases_53 : decode cX1_biases 53 = .ok (.iinc 4 1, 3) := dk_132 4 1 (dk_at dksX1_biases_2 8 rfl rfl)
theorem dX1_biases_56 : decode cX1_biases 56 = .ok (.goto (-36), 3) := dk_167 255 220 (dk_at dksX1_biases_2 11 rfl rfl)
theorem dX1_biases_59 : decode cX1_biases 59 = .ok (.iload_n 3, 1) := dk_29 (dk_at dksX1_biases_2 14 rfl rfl)
theorem dX1_biases_60 : decode cX1_biases 60 = .ok (.iload_n 2, 1) := dk_28 (dk_at dksX1_biases_2 15 rfl rfl)
theorem dX1_biases_61 : decode cX1_biases 61 = .ok (.invokestatic 452, 3) := dk_184 1 196 (dk_at dksX1_biases_2 16 rfl rfl)
theorem dX1_biases_64 : decode cX1_biases 64 = .ok (.ireturn, 1) := dk_172 (dk_at dksX1_biases_2 19 rfl rfl)
abbrev cX1_codes : ByteArray := prog_1_method_95_code
def yX1_codes : MethodName := ⟨RX1, "codes", "()I"⟩
def dkwX1_codes_1 : List UInt8 := [172]
abbrev dktX1_codes_1 : List UInt8 := dkwX1_codes_1 ++ []
def dkwX1_codes_0 : List UInt8 := [4, 60, 3, 61, 28, 42, 180, 1, 49, 162, 0, 14, 27, 16, 10, 104, 60, 132, 2, 1, 167, 255, 240, 27]
abbrev dktX1_codes_0 : List UInt8 := dkwX1_codes_0 ++ dktX1_codes_1
theorem dksX1_codes_0 : cX1_codes.data.toList.drop 0 = dktX1_codes_0 := by decide +kernel
theorem dksX1_codes_1 : cX1_codes.data.toList.drop 24 = dktX1_codes_1 := dk_seg dksX1_codes_0 24 rfl rfl
theorem dX1_codes_0 : decode cX1_codes 0 = .ok (.iconst 1, 1) := dk_4 (dk_at dksX1_codes_0 0 rfl rfl)
theorem dX1_codes_1 : decode cX1_codes 1 = .ok (.istore_n 1, 1) := dk_60 (dk_at dksX1_codes_0 1 rfl rfl)
theorem dX1_codes_2 : decode cX1_codes 2 = .ok (.iconst 0, 1) := dk_3 (dk_at dksX1_codes_0 2 rfl rfl)
theorem dX1_codes_3 : decode cX1_codes 3 = .ok (.istore_n 2, 1) := dk_61 (dk_at dksX1_codes_0 3 rfl rfl)
theorem dX1_codes_4 : decode cX1_codes 4 = .ok (.iload_n 2, 1) := dk_28 (dk_at dksX1_codes_0 4 rfl rfl)
theorem dX1_codes_5 : decode cX1_codes 5 = .ok (.aload_n 0, 1) := dk_42 (dk_at dksX1_codes_0 5 rfl rfl)
theorem dX1_codes_6 : decode cX1_codes 6 = .ok (.getfield 305, 3) := dk_180 1 49 (dk_at dksX1_codes_0 6 rfl rfl)
theorem dX1_codes_9 : decode cX1_codes 9 = .ok (.if_icmp .ge 14, 3) := dk_162 0 14 (dk_at dksX1_codes_0 9 rfl rfl)
theorem dX1_codes_12 : decode cX1_codes 12 = .ok (.iload_n 1, 1) := dk_27 (dk_at dksX1_codes_0 12 rfl rfl)
theorem dX1_codes_13 : decode cX1_codes 13 = .ok (.bipush 10, 2) := dk_16 10 (dk_at dksX1_codes_0 13 rfl rfl)
theorem dX1_codes_15 : decode cX1_codes 15 = .ok (.imul, 1) := dk_104 (dk_at dksX1_codes_0 15 rfl rfl)
theorem dX1_codes_16 : decode cX1_codes 16 = .ok (.istore_n 1, 1) := dk_60 (dk_at dksX1_codes_0 16 rfl rfl)
theorem dX1_codes_17 : decode cX1_codes 17 = .ok (.iinc 2 1, 3) := dk_132 2 1 (dk_at dksX1_codes_0 17 rfl rfl)
theorem dX1_codes_20 : decode cX1_codes 20 = .ok (.goto (-16), 3) := dk_167 255 240 (dk_at dksX1_codes_0 20 rfl rfl)
theorem dX1_codes_23 : decode cX1_codes 23 = .ok (.iload_n 1, 1) := dk_27 (dk_at dksX1_codes_0 23 rfl rfl)
theorem dX1_codes_24 : decode cX1_codes 24 = .ok (.ireturn, 1) := dk_172 (dk_at dksX1_codes_1 0 rfl rfl)
abbrev cX1_layBiases : ByteArray := prog_1_method_92_code
def yX1_layBiases : MethodName := ⟨RX1, "layBiases", "(I)V"⟩
def dkwX1_layBiases_1 : List UInt8 := [16, 10, 108, 61, 132, 3, 1, 167, 255, 230, 177]
abbrev dktX1_layBiases_1 : List UInt8 := dkwX1_layBiases_1 ++ []
def dkwX1_layBiases_0 : List UInt8 := [27, 61, 3, 62, 29, 42, 180, 1, 49, 162, 0, 24, 42, 180, 0, 76, 29, 28, 16, 10, 112, 79, 28]
abbrev dktX1_layBiases_0 : List UInt8 := dkwX1_layBiases_0 ++ dktX1_layBiases_1
theorem dksX1_layBiases_0 : cX1_layBiases.data.toList.drop 0 = dktX1_layBiases_0 := by decide +kernel
theorem dksX1_layBiases_1 : cX1_layBiases.data.toList.drop 23 = dktX1_layBiases_1 := dk_seg dksX1_layBiases_0 23 rfl rfl
theorem dX1_layBiases_0 : decode cX1_layBiases 0 = .ok (.iload_n 1, 1) := dk_27 (dk_at dksX1_layBiases_0 0 rfl rfl)
theorem dX1_layBiases_1 : decode cX1_layBiases 1 = .ok (.istore_n 2, 1) := dk_61 (dk_at dksX1_layBiases_0 1 rfl rfl)
theorem dX1_layBiases_2 : decode cX1_layBiases 2 = .ok (.iconst 0, 1) := dk_3 (dk_at dksX1_layBiases_0 2 rfl rfl)
theorem dX1_layBiases_3 : decode cX1_layBiases 3 = .ok (.istore_n 3, 1) := dk_62 (dk_at dksX1_layBiases_0 3 rfl rfl)
theorem dX1_layBiases_4 : decode cX1_layBiases 4 = .ok (.iload_n 3, 1) := dk_29 (dk_at dksX1_layBiases_0 4 rfl rfl)
theorem dX1_layBiases_5 : decode cX1_layBiases 5 = .ok (.aload_n 0, 1) := dk_42 (dk_at dksX1_layBiases_0 5 rfl rfl)
theorem dX1_layBiases_6 : decode cX1_layBiases 6 = .ok (.getfield 305, 3) := dk_180 1 49 (dk_at dksX1_layBiases_0 6 rfl rfl)
theorem dX1_layBiases_9 : decode cX1_layBiases 9 = .ok (.if_icmp .ge 24, 3) := dk_162 0 24 (dk_at dksX1_layBiases_0 9 rfl rfl)
theorem dX1_layBiases_12 : decode cX1_layBiases 12 = .ok (.aload_n 0, 1) := dk_42 (dk_at dksX1_layBiases_0 12 rfl rfl)
theorem dX1_layBiases_13 : decode cX1_layBiases 13 = .ok (.getfield 76, 3) := dk_180 0 76 (dk_at dksX1_layBiases_0 13 rfl rfl)
theorem dX1_layBiases_16 : decode cX1_layBiases 16 = .ok (.iload_n 3, 1) := dk_29 (dk_at dksX1_layBiases_0 16 rfl rfl)
theorem dX1_layBiases_17 : decode cX1_layBiases 17 = .ok (.iload_n 2, 1) := dk_28 (dk_at dksX1_layBiases_0 17 rfl rfl)
theorem dX1_layBiases_18 : decode cX1_layBiases 18 = .ok (.bipush 10, 2) := dk_16 10 (dk_at dksX1_layBiases_0 18 rfl rfl)
theorem dX1_layBiases_20 : decode cX1_layBiases 20 = .ok (.irem, 1) := dk_112 (dk_at dksX1_layBiases_0 20 rfl rfl)
theorem dX1_layBiases_21 : decode cX1_layBiases 21 = .ok (.iastore, 1) := dk_79 (dk_at dksX1_layBiases_0 21 rfl rfl)
theorem dX1_layBiases_22 : decode cX1_layBiases 22 = .ok (.iload_n 2, 1) := dk_28 (dk_at dksX1_layBiases_0 22 rfl rfl)
theorem dX1_layBiases_23 : decode cX1_layBiases 23 = .ok (.bipush 10, 2) := dk_16 10 (dk_at dksX1_layBiases_1 0 rfl rfl)
theorem dX1_layBiases_25 : decode cX1_layBiases 25 = .ok (.idiv, 1) := dk_108 (dk_at dksX1_layBiases_1 2 rfl rfl)
theorem dX1_layBiases_26 : decode cX1_layBiases 26 = .ok (.istore_n 2, 1) := dk_61 (dk_at dksX1_layBiases_1 3 rfl rfl)
theorem dX1_layBiases_27 : decode cX1_layBiases 27 = .ok (.iinc 3 1, 3) := dk_132 3 1 (dk_at dksX1_layBiases_1 4 rfl rfl)
theorem dX1_layBiases_30 : decode cX1_layBiases 30 = .ok (.goto (-26), 3) := dk_167 255 230 (dk_at dksX1_layBiases_1 7 rfl rfl)
theorem dX1_layBiases_33 : decode cX1_layBiases 33 = .ok (.return_, 1) := dk_177 (dk_at dksX1_layBiases_1 10 rfl rfl)
abbrev cX1_areBiases : ByteArray := prog_1_method_94_code
def yX1_areBiases : MethodName := ⟨RX1, "areBiases", "()Z"⟩
def dkwX1_areBiases_2 : List UInt8 := [182, 1, 184, 154, 0, 5, 3, 172, 132, 1, 1, 167, 255, 200, 4, 172]
abbrev dktX1_areBiases_2 : List UInt8 := dkwX1_areBiases_2 ++ []
def dkwX1_areBiases_1 : List UInt8 := [27, 46, 46, 100, 61, 28, 3, 16, 20, 184, 0, 233, 153, 0, 17, 42, 42, 180, 0, 70, 27, 46, 28]
abbrev dktX1_areBiases_1 : List UInt8 := dkwX1_areBiases_1 ++ dktX1_areBiases_2
def dkwX1_areBiases_0 : List UInt8 := [3, 60, 27, 42, 180, 1, 55, 162, 0, 54, 42, 180, 0, 73, 27, 46, 42, 180, 0, 76, 42, 180, 0, 67]
abbrev dktX1_areBiases_0 : List UInt8 := dkwX1_areBiases_0 ++ dktX1_areBiases_1
theorem dksX1_areBiases_0 : cX1_areBiases.data.toList.drop 0 = dktX1_areBiases_0 := by decide +kernel
theorem dksX1_areBiases_1 : cX1_areBiases.data.toList.drop 24 = dktX1_areBiases_1 := dk_seg dksX1_areBiases_0 24 rfl rfl
theorem dksX1_areBiases_2 : cX1_areBiases.data.toList.drop 47 = dktX1_areBiases_2 := dk_seg dksX1_areBiases_1 23 rfl rfl
theorem dX1_areBiases_0 : decode cX1_areBiases 0 = .ok (.iconst 0, 1) := dk_3 (dk_at dksX1_areBiases_0 0 rfl rfl)
theorem dX1_areBiases_1 : decode cX1_areBiases 1 = .ok (.istore_n 1, 1) := dk_60 (dk_at dksX1_areBiases_0 1 rfl rfl)
theorem dX1_areBiases_2 : decode cX1_areBiases 2 = .ok (.iload_n 1, 1) := dk_27 (dk_at dksX1_areBiases_0 2 rfl rfl)
theorem dX1_areBiases_3 : decode cX1_areBiases 3 = .ok (.aload_n 0, 1) := dk_42 (dk_at dksX1_areBiases_0 3 rfl rfl)
theorem dX1_areBiases_4 : decode cX1_areBiases 4 = .ok (.getfield 311, 3) := dk_180 1 55 (dk_at dksX1_areBiases_0 4 rfl rfl)
theorem dX1_areBiases_7 : decode cX1_areBiases 7 = .ok (.if_icmp .ge 54, 3) := dk_162 0 54 (dk_at dksX1_areBiases_0 7 rfl rfl)
theorem dX1_areBiases_10 : decode cX1_areBiases 10 = .ok (.aload_n 0, 1) := dk_42 (dk_at dksX1_areBiases_0 10 rfl rfl)
theorem dX1_areBiases_11 : decode cX1_areBiases 11 = .ok (.getfield 73, 3) := dk_180 0 73 (dk_at dksX1_areBiases_0 11 rfl rfl)
theorem dX1_areBiases_14 : decode cX1_areBiases 14 = .ok (.iload_n 1, 1) := dk_27 (dk_at dksX1_areBiases_0 14 rfl rfl)
theorem dX1_areBiases_15 : decode cX1_areBiases 15 = .ok (.iaload, 1) := dk_46 (dk_at dksX1_areBiases_0 15 rfl rfl)
theorem dX1_areBiases_16 : decode cX1_areBiases 16 = .ok (.aload_n 0, 1) := dk_42 (dk_at dksX1_areBiases_0 16 rfl rfl)
theorem dX1_areBiases_17 : decode cX1_areBiases 17 = .ok (.getfield 76, 3) := dk_180 0 76 (dk_at dksX1_areBiases_0 17 rfl rfl)
theorem dX1_areBiases_20 : decode cX1_areBiases 20 = .ok (.aload_n 0, 1) := dk_42 (dk_at dksX1_areBiases_0 20 rfl rfl)
theorem dX1_areBiases_21 : decode cX1_areBiases 21 = .ok (.getfield 67, 3) := dk_180 0 67 (dk_at dksX1_areBiases_0 21 rfl rfl)
theorem dX1_areBiases_24 : decode cX1_areBiases 24 = .ok (.iload_n 1, 1) := dk_27 (dk_at dksX1_areBiases_1 0 rfl rfl)
theorem dX1_areBiases_25 : decode cX1_areBiases 25 = .ok (.iaload, 1) := dk_46 (dk_at dksX1_areBiases_1 1 rfl rfl)
theorem dX1_areBiases_26 : decode cX1_areBiases 26 = .ok (.iaload, 1) := dk_46 (dk_at dksX1_areBiases_1 2 rfl rfl)
theorem dX1_areBiases_27 : decode cX1_areBiases 27 = .ok (.isub, 1) := dk_100 (dk_at dksX1_areBiases_1 3 rfl rfl)
theorem dX1_areBiases_28 : decode cX1_areBiases 28 = .ok (.istore_n 2, 1) := dk_61 (dk_at dksX1_areBiases_1 4 rfl rfl)
theorem dX1_areBiases_29 : decode cX1_areBiases 29 = .ok (.iload_n 2, 1) := dk_28 (dk_at dksX1_areBiases_1 5 rfl rfl)
theorem dX1_areBiases_30 : decode cX1_areBiases 30 = .ok (.iconst 0, 1) := dk_3 (dk_at dksX1_areBiases_1 6 rfl rfl)
theorem dX1_areBiases_31 : decode cX1_areBiases 31 = .ok (.bipush 20, 2) := dk_16 20 (dk_at dksX1_areBiases_1 7 rfl rfl)
theorem dX1_areBiases_33 : decode cX1_areBiases 33 = .ok (.invokestatic 233, 3) := dk_184 0 233 (dk_at dksX1_areBiases_1 9 rfl rfl)
theorem dX1_areBiases_36 : decode cX1_areBiases 36 = .ok (.ifCond .eq 17, 3) := dk_153 0 17 (dk_at dksX1_areBiases_1 12 rfl rfl)
theorem dX1_areBiases_39 : decode cX1_areBiases 39 = .ok (.aload_n 0, 1) := dk_42 (dk_at dksX1_areBiases_1 15 rfl rfl)
theorem dX1_areBiases_40 : decode cX1_areBiases 40 = .ok (.aload_n 0, 1) := dk_42 (dk_at dksX1_areBiases_1 16 rfl rfl)
theorem dX1_areBiases_41 : decode cX1_areBiases 41 = .ok (.getfield 70, 3) := dk_180 0 70 (dk_at dksX1_areBiases_1 17 rfl rfl)
theorem dX1_areBiases_44 : decode cX1_areBiases 44 = .ok (.iload_n 1, 1) := dk_27 (dk_at dksX1_areBiases_1 20 rfl rfl)
theorem dX1_areBiases_45 : decode cX1_areBiases 45 = .ok (.iaload, 1) := dk_46 (dk_at dksX1_areBiases_1 21 rfl rfl)
theorem dX1_areBiases_46 : decode cX1_areBiases 46 = .ok (.iload_n 2, 1) := dk_28 (dk_at dksX1_areBiases_1 22 rfl rfl)
theorem dX1_areBiases_47 : decode cX1_areBiases 47 = .ok (.invokevirtual 440, 3) := dk_182 1 184 (dk_at dksX1_areBiases_2 0 rfl rfl)
theorem dX1_areBiases_50 : decode cX1_areBiases 50 = .ok (.ifCond .ne 5, 3) := dk_154 0 5 (dk_at dksX1_areBiases_2 3 rfl rfl)
theorem dX1_areBiases_53 : decode cX1_areBiases 53 = .ok (.iconst 0, 1) := dk_3 (dk_at dksX1_areBiases_2 6 rfl rfl)
theorem dX1_areBiases_54 : decode cX1_areBiases 54 = .ok (.ireturn, 1) := dk_172 (dk_at dksX1_areBiases_2 7 rfl rfl)
theorem dX1_areBiases_55 : decode cX1_areBiases 55 = .ok (.iinc 1 1, 3) := dk_132 1 1 (dk_at dksX1_areBiases_2 8 rfl rfl)
theorem dX1_areBiases_58 : decode cX1_areBiases 58 = .ok (.goto (-56), 3) := dk_167 255 200 (dk_at dksX1_areBiases_2 11 rfl rfl)
theorem dX1_areBiases_61 : decode cX1_areBiases 61 = .ok (.iconst 1, 1) := dk_4 (dk_at dksX1_areBiases_2 14 rfl rfl)
theorem dX1_areBiases_62 : decode cX1_areBiases 62 = .ok (.ireturn, 1) := dk_172 (dk_at dksX1_areBiases_2 15 rfl rfl)
abbrev cX1_isTruth : ByteArray := prog_1_method_93_code
def yX1_isTruth : MethodName := ⟨RX1, "isTruth", "(II)Z"⟩
def dkwX1_isTruth_2 : List UInt8 := [167, 255, 211, 4, 172]
abbrev dktX1_isTruth_2 : List UInt8 := dkwX1_isTruth_2 ++ []
def dkwX1_isTruth_1 : List UInt8 := [29, 46, 28, 42, 180, 0, 76, 42, 180, 0, 67, 29, 46, 46, 96, 159, 0, 5, 3, 172, 132, 3, 1]
abbrev dktX1_isTruth_1 : List UInt8 := dkwX1_isTruth_1 ++ dktX1_isTruth_2
def dkwX1_isTruth_0 : List UInt8 := [3, 62, 29, 42, 180, 1, 55, 162, 0, 43, 42, 180, 0, 70, 29, 46, 27, 160, 0, 27, 42, 180, 0, 73]
abbrev dktX1_isTruth_0 : List UInt8 := dkwX1_isTruth_0 ++ dktX1_isTruth_1
theorem dksX1_isTruth_0 : cX1_isTruth.data.toList.drop 0 = dktX1_isTruth_0 := by decide +kernel
theorem dksX1_isTruth_1 : cX1_isTruth.data.toList.drop 24 = dktX1_isTruth_1 := dk_seg dksX1_isTruth_0 24 rfl rfl
theorem dksX1_isTruth_2 : cX1_isTruth.data.toList.drop 47 = dktX1_isTruth_2 := dk_seg dksX1_isTruth_1 23 rfl rfl
theorem dX1_isTruth_0 : decode cX1_isTruth 0 = .ok (.iconst 0, 1) := dk_3 (dk_at dksX1_isTruth_0 0 rfl rfl)
theorem dX1_isTruth_1 : decode cX1_isTruth 1 = .ok (.istore_n 3, 1) := dk_62 (dk_at dksX1_isTruth_0 1 rfl rfl)
theorem dX1_isTruth_2 : decode cX1_isTruth 2 = .ok (.iload_n 3, 1) := dk_29 (dk_at dksX1_isTruth_0 2 rfl rfl)
theorem dX1_isTruth_3 : decode cX1_isTruth 3 = .ok (.aload_n 0, 1) := dk_42 (dk_at dksX1_isTruth_0 3 rfl rfl)
theorem dX1_isTruth_4 : decode cX1_isTruth 4 = .ok (.getfield 311, 3) := dk_180 1 55 (dk_at dksX1_isTruth_0 4 rfl rfl)
theorem dX1_isTruth_7 : decode cX1_isTruth 7 = .ok (.if_icmp .ge 43, 3) := dk_162 0 43 (dk_at dksX1_isTruth_0 7 rfl rfl)
theorem dX1_isTruth_10 : decode cX1_isTruth 10 = .ok (.aload_n 0, 1) := dk_42 (dk_at dksX1_isTruth_0 10 rfl rfl)
theorem dX1_isTruth_11 : decode cX1_isTruth 11 = .ok (.getfield 70, 3) := dk_180 0 70 (dk_at dksX1_isTruth_0 11 rfl rfl)
theorem dX1_isTruth_14 : decode cX1_isTruth 14 = .ok (.iload_n 3, 1) := dk_29 (dk_at dksX1_isTruth_0 14 rfl rfl)
theorem dX1_isTruth_15 : decode cX1_isTruth 15 = .ok (.iaload, 1) := dk_46 (dk_at dksX1_isTruth_0 15 rfl rfl)
theorem dX1_isTruth_16 : decode cX1_isTruth 16 = .ok (.iload_n 1, 1) := dk_27 (dk_at dksX1_isTruth_0 16 rfl rfl)
theorem dX1_isTruth_17 : decode cX1_isTruth 17 = .ok (.if_icmp .ne 27, 3) := dk_160 0 27 (dk_at dksX1_isTruth_0 17 rfl rfl)
theorem dX1_isTruth_20 : decode cX1_isTruth 20 = .ok (.aload_n 0, 1) := dk_42 (dk_at dksX1_isTruth_0 20 rfl rfl)
theorem dX1_isTruth_21 : decode cX1_isTruth 21 = .ok (.getfield 73, 3) := dk_180 0 73 (dk_at dksX1_isTruth_0 21 rfl rfl)
theorem dX1_isTruth_24 : decode cX1_isTruth 24 = .ok (.iload_n 3, 1) := dk_29 (dk_at dksX1_isTruth_1 0 rfl rfl)
theorem dX1_isTruth_25 : decode cX1_isTruth 25 = .ok (.iaload, 1) := dk_46 (dk_at dksX1_isTruth_1 1 rfl rfl)
theorem dX1_isTruth_26 : decode cX1_isTruth 26 = .ok (.iload_n 2, 1) := dk_28 (dk_at dksX1_isTruth_1 2 rfl rfl)
theorem dX1_isTruth_27 : decode cX1_isTruth 27 = .ok (.aload_n 0, 1) := dk_42 (dk_at dksX1_isTruth_1 3 rfl rfl)
theorem dX1_isTruth_28 : decode cX1_isTruth 28 = .ok (.getfield 76, 3) := dk_180 0 76 (dk_at dksX1_isTruth_1 4 rfl rfl)
theorem dX1_isTruth_31 : decode cX1_isTruth 31 = .ok (.aload_n 0, 1) := dk_42 (dk_at dksX1_isTruth_1 7 rfl rfl)
theorem dX1_isTruth_32 : decode cX1_isTruth 32 = .ok (.getfield 67, 3) := dk_180 0 67 (dk_at dksX1_isTruth_1 8 rfl rfl)
theorem dX1_isTruth_35 : decode cX1_isTruth 35 = .ok (.iload_n 3, 1) := dk_29 (dk_at dksX1_isTruth_1 11 rfl rfl)
theorem dX1_isTruth_36 : decode cX1_isTruth 36 = .ok (.iaload, 1) := dk_46 (dk_at dksX1_isTruth_1 12 rfl rfl)
theorem dX1_isTruth_37 : decode cX1_isTruth 37 = .ok (.iaload, 1) := dk_46 (dk_at dksX1_isTruth_1 13 rfl rfl)
theorem dX1_isTruth_38 : decode cX1_isTruth 38 = .ok (.iadd, 1) := dk_96 (dk_at dksX1_isTruth_1 14 rfl rfl)
theorem dX1_isTruth_39 : decode cX1_isTruth 39 = .ok (.if_icmp .eq 5, 3) := dk_159 0 5 (dk_at dksX1_isTruth_1 15 rfl rfl)
theorem dX1_isTruth_42 : decode cX1_isTruth 42 = .ok (.iconst 0, 1) := dk_3 (dk_at dksX1_isTruth_1 18 rfl rfl)
theorem dX1_isTruth_43 : decode cX1_isTruth 43 = .ok (.ireturn, 1) := dk_172 (dk_at dksX1_isTruth_1 19 rfl rfl)
theorem dX1_isTruth_44 : decode cX1_isTruth 44 = .ok (.iinc 3 1, 3) := dk_132 3 1 (dk_at dksX1_isTruth_1 20 rfl rfl)
theorem dX1_isTruth_47 : decode cX1_isTruth 47 = .ok (.goto (-45), 3) := dk_167 255 211 (dk_at dksX1_isTruth_2 0 rfl rfl)
theorem dX1_isTruth_50 : decode cX1_isTruth 50 = .ok (.iconst 1, 1) := dk_4 (dk_at dksX1_isTruth_2 3 rfl rfl)
theorem dX1_isTruth_51 : decode cX1_isTruth 51 = .ok (.ireturn, 1) := dk_172 (dk_at dksX1_isTruth_2 4 rfl rfl)
abbrev cX1_ithOf : ByteArray := prog_1_method_96_code
def yX1_ithOf : MethodName := ⟨RX1, "ithOf", "(II)I"⟩
def dkwX1_ithOf_2 : List UInt8 := [172]
abbrev dktX1_ithOf_2 : List UInt8 := dkwX1_ithOf_2 ++ []
def dkwX1_ithOf_1 : List UInt8 := [160, 0, 5, 29, 172, 132, 2, 1, 132, 3, 1, 167, 255, 226, 27, 2, 160, 0, 7, 28, 167, 0, 4, 2]
abbrev dktX1_ithOf_1 : List UInt8 := dkwX1_ithOf_1 ++ dktX1_ithOf_2
def dkwX1_ithOf_0 : List UInt8 := [3, 61, 3, 62, 29, 16, 30, 162, 0, 30, 26, 29, 184, 0, 250, 154, 0, 6, 167, 0, 13, 28, 27]
abbrev dktX1_ithOf_0 : List UInt8 := dkwX1_ithOf_0 ++ dktX1_ithOf_1
theorem dksX1_ithOf_0 : cX1_ithOf.data.toList.drop 0 = dktX1_ithOf_0 := by decide +kernel
theorem dksX1_ithOf_1 : cX1_ithOf.data.toList.drop 23 = dktX1_ithOf_1 := dk_seg dksX1_ithOf_0 23 rfl rfl
theorem dksX1_ithOf_2 : cX1_ithOf.data.toList.drop 47 = dktX1_ithOf_2 := dk_seg dksX1_ithOf_1 24 rfl rfl
theorem dX1_ithOf_0 : decode cX1_ithOf 0 = .ok (.iconst 0, 1) := dk_3 (dk_at dksX1_ithOf_0 0 rfl rfl)
theorem dX1_ithOf_1 : decode cX1_ithOf 1 = .ok (.istore_n 2, 1) := dk_61 (dk_at dksX1_ithOf_0 1 rfl rfl)
theorem dX1_ithOf_2 : decode cX1_ithOf 2 = .ok (.iconst 0, 1) := dk_3 (dk_at dksX1_ithOf_0 2 rfl rfl)
theorem dX1_ithOf_3 : decode cX1_ithOf 3 = .ok (.istore_n 3, 1) := dk_62 (dk_at dksX1_ithOf_0 3 rfl rfl)
theorem dX1_ithOf_4 : decode cX1_ithOf 4 = .ok (.iload_n 3, 1) := dk_29 (dk_at dksX1_ithOf_0 4 rfl rfl)
theorem dX1_ithOf_5 : decode cX1_ithOf 5 = .ok (.bipush 30, 2) := dk_16 30 (dk_at dksX1_ithOf_0 5 rfl rfl)
theorem dX1_ithOf_7 : decode cX1_ithOf 7 = .ok (.if_icmp .ge 30, 3) := dk_162 0 30 (dk_at dksX1_ithOf_0 7 rfl rfl)
theorem dX1_ithOf_10 : decode cX1_ithOf 10 = .ok (.iload_n 0, 1) := dk_26 (dk_at dksX1_ithOf_0 10 rfl rfl)
theorem dX1_ithOf_11 : decode cX1_ithOf 11 = .ok (.iload_n 3, 1) := dk_29 (dk_at dksX1_ithOf_0 11 rfl rfl)
theorem dX1_ithOf_12 : decode cX1_ithOf 12 = .ok (.invokestatic 250, 3) := dk_184 0 250 (dk_at dksX1_ithOf_0 12 rfl rfl)
theorem dX1_ithOf_15 : decode cX1_ithOf 15 = .ok (.ifCond .ne 6, 3) := dk_154 0 6 (dk_at dksX1_ithOf_0 15 rfl rfl)
theorem dX1_ithOf_18 : decode cX1_ithOf 18 = .ok (.goto 13, 3) := dk_167 0 13 (dk_at dksX1_ithOf_0 18 rfl rfl)
theorem dX1_ithOf_21 : decode cX1_ithOf 21 = .ok (.iload_n 2, 1) := dk_28 (dk_at dksX1_ithOf_0 21 rfl rfl)
theorem dX1_ithOf_22 : decode cX1_ithOf 22 = .ok (.iload_n 1, 1) := dk_27 (dk_at dksX1_ithOf_0 22 rfl rfl)
theorem dX1_ithOf_23 : decode cX1_ithOf 23 = .ok (.if_icmp .ne 5, 3) := dk_160 0 5 (dk_at dksX1_ithOf_1 0 rfl rfl)
theorem dX1_ithOf_26 : decode cX1_ithOf 26 = .ok (.iload_n 3, 1) := dk_29 (dk_at dksX1_ithOf_1 3 rfl rfl)
theorem dX1_ithOf_27 : decode cX1_ithOf 27 = .ok (.ireturn, 1) := dk_172 (dk_at dksX1_ithOf_1 4 rfl rfl)
theorem dX1_ithOf_28 : decode cX1_ithOf 28 = .ok (.iinc 2 1, 3) := dk_132 2 1 (dk_at dksX1_ithOf_1 5 rfl rfl)
theorem dX1_ithOf_31 : decode cX1_ithOf 31 = .ok (.iinc 3 1, 3) := dk_132 3 1 (dk_at dksX1_ithOf_1 8 rfl rfl)
theorem dX1_ithOf_34 : decode cX1_ithOf 34 = .ok (.goto (-30), 3) := dk_167 255 226 (dk_at dksX1_ithOf_1 11 rfl rfl)
theorem dX1_ithOf_37 : decode cX1_ithOf 37 = .ok (.iload_n 1, 1) := dk_27 (dk_at dksX1_ithOf_1 14 rfl rfl)
theorem dX1_ithOf_38 : decode cX1_ithOf 38 = .ok (.iconst (-1), 1) := dk_2 (dk_at dksX1_ithOf_1 15 rfl rfl)
theorem dX1_ithOf_39 : decode cX1_ithOf 39 = .ok (.if_icmp .ne 7, 3) := dk_160 0 7 (dk_at dksX1_ithOf_1 16 rfl rfl)
theorem dX1_ithOf_42 : decode cX1_ithOf 42 = .ok (.iload_n 2, 1) := dk_28 (dk_at dksX1_ithOf_1 19 rfl rfl)
theorem dX1_ithOf_43 : decode cX1_ithOf 43 = .ok (.goto 4, 3) := dk_167 0 4 (dk_at dksX1_ithOf_1 20 rfl rfl)
theorem dX1_ithOf_46 : decode cX1_ithOf 46 = .ok (.iconst (-1), 1) := dk_2 (dk_at dksX1_ithOf_1 23 rfl rfl)
theorem dX1_ithOf_47 : decode cX1_ithOf 47 = .ok (.ireturn, 1) := dk_172 (dk_at dksX1_ithOf_2 0 rfl rfl)
abbrev cX1_truths : ByteArray := prog_1_method_98_code
def yX1_truths : MethodName := ⟨RX1, "truths", "(II)I"⟩
def dkwX1_truths_3 : List UInt8 := [128, 62, 132, 5, 1, 167, 255, 229, 132, 4, 1, 167, 255, 195, 29, 28, 184, 1, 196, 172]
abbrev dktX1_truths_3 : List UInt8 := dkwX1_truths_3 ++ []
def dkwX1_truths_2 : List UInt8 := [54, 5, 21, 5, 16, 20, 163, 0, 26, 42, 27, 21, 5, 182, 1, 184, 153, 0, 10, 29, 4, 21, 5, 120]
abbrev dktX1_truths_2 : List UInt8 := dkwX1_truths_2 ++ dktX1_truths_3
def dkwX1_truths_1 : List UInt8 := [182, 1, 187, 162, 0, 58, 42, 21, 4, 182, 1, 190, 42, 182, 1, 193, 154, 0, 6, 167, 0, 36, 3]
abbrev dktX1_truths_1 : List UInt8 := dkwX1_truths_1 ++ dktX1_truths_2
def dkwX1_truths_0 : List UInt8 := [42, 27, 182, 1, 77, 153, 0, 8, 28, 2, 162, 0, 5, 2, 172, 3, 62, 3, 54, 4, 21, 4, 42]
abbrev dktX1_truths_0 : List UInt8 := dkwX1_truths_0 ++ dktX1_truths_1
theorem dksX1_truths_0 : cX1_truths.data.toList.drop 0 = dktX1_truths_0 := by decide +kernel
theorem dksX1_truths_1 : cX1_truths.data.toList.drop 23 = dktX1_truths_1 := dk_seg dksX1_truths_0 23 rfl rfl
theorem dksX1_truths_2 : cX1_truths.data.toList.drop 46 = dktX1_truths_2 := dk_seg dksX1_truths_1 23 rfl rfl
theorem dksX1_truths_3 : cX1_truths.data.toList.drop 70 = dktX1_truths_3 := dk_seg dksX1_truths_2 24 rfl rfl
theorem dX1_truths_0 : decode cX1_truths 0 = .ok (.aload_n 0, 1) := dk_42 (dk_at dksX1_truths_0 0 rfl rfl)
theorem dX1_truths_1 : decode cX1_truths 1 = .ok (.iload_n 1, 1) := dk_27 (dk_at dksX1_truths_0 1 rfl rfl)
theorem dX1_truths_2 : decode cX1_truths 2 = .ok (.invokevirtual 333, 3) := dk_182 1 77 (dk_at dksX1_truths_0 2 rfl rfl)
theorem dX1_truths_5 : decode cX1_truths 5 = .ok (.ifCond .eq 8, 3) := dk_153 0 8 (dk_at dksX1_truths_0 5 rfl rfl)
theorem dX1_truths_8 : decode cX1_truths 8 = .ok (.iload_n 2, 1) := dk_28 (dk_at dksX1_truths_0 8 rfl rfl)
theorem dX1_truths_9 : decode cX1_truths 9 = .ok (.iconst (-1), 1) := dk_2 (dk_at dksX1_truths_0 9 rfl rfl)
theorem dX1_truths_10 : decode cX1_truths 10 = .ok (.if_icmp .ge 5, 3) := dk_162 0 5 (dk_at dksX1_truths_0 10 rfl rfl)
theorem dX1_truths_13 : decode cX1_truths 13 = .ok (.iconst (-1), 1) := dk_2 (dk_at dksX1_truths_0 13 rfl rfl)
theorem dX1_truths_14 : decode cX1_truths 14 = .ok (.ireturn, 1) := dk_172 (dk_at dksX1_truths_0 14 rfl rfl)
theorem dX1_truths_15 : decode cX1_truths 15 = .ok (.iconst 0, 1) := dk_3 (dk_at dksX1_truths_0 15 rfl rfl)
theorem dX1_truths_16 : decode cX1_truths 16 = .ok (.istore_n 3, 1) := dk_62 (dk_at dksX1_truths_0 16 rfl rfl)
theorem dX1_truths_17 : decode cX1_truths 17 = .ok (.iconst 0, 1) := dk_3 (dk_at dksX1_truths_0 17 rfl rfl)
theorem dX1_truths_18 : decode cX1_truths 18 = .ok (.istore 4, 2) := dk_54 4 (dk_at dksX1_truths_0 18 rfl rfl)
theorem dX1_truths_20 : decode cX1_truths 20 = .ok (.iload 4, 2) := dk_21 4 (dk_at dksX1_truths_0 20 rfl rfl)
theorem dX1_truths_22 : decode cX1_truths 22 = .ok (.aload_n 0, 1) := dk_42 (dk_at dksX1_truths_0 22 rfl rfl)
theorem dX1_truths_23 : decode cX1_truths 23 = .ok (.invokevirtual 443, 3) := dk_182 1 187 (dk_at dksX1_truths_1 0 rfl rfl)
theorem dX1_truths_26 : decode cX1_truths 26 = .ok (.if_icmp .ge 58, 3) := dk_162 0 58 (dk_at dksX1_truths_1 3 rfl rfl)
theorem dX1_truths_29 : decode cX1_truths 29 = .ok (.aload_n 0, 1) := dk_42 (dk_at dksX1_truths_1 6 rfl rfl)
theorem dX1_truths_30 : decode cX1_truths 30 = .ok (.iload 4, 2) := dk_21 4 (dk_at dksX1_truths_1 7 rfl rfl)
theorem dX1_truths_32 : decode cX1_truths 32 = .ok (.invokevirtual 446, 3) := dk_182 1 190 (dk_at dksX1_truths_1 9 rfl rfl)
theorem dX1_truths_35 : decode cX1_truths 35 = .ok (.aload_n 0, 1) := dk_42 (dk_at dksX1_truths_1 12 rfl rfl)
theorem dX1_truths_36 : decode cX1_truths 36 = .ok (.invokevirtual 449, 3) := dk_182 1 193 (dk_at dksX1_truths_1 13 rfl rfl)
theorem dX1_truths_39 : decode cX1_truths 39 = .ok (.ifCond .ne 6, 3) := dk_154 0 6 (dk_at dksX1_truths_1 16 rfl rfl)
theorem dX1_truths_42 : decode cX1_truths 42 = .ok (.goto 36, 3) := dk_167 0 36 (dk_at dksX1_truths_1 19 rfl rfl)
theorem dX1_truths_45 : decode cX1_truths 45 = .ok (.iconst 0, 1) := dk_3 (dk_at dksX1_truths_1 22 rfl rfl)
theorem dX1_truths_46 : decode cX1_truths 46 = .ok (.istore 5, 2) := dk_54 5 (dk_at dksX1_truths_2 0 rfl rfl)
theorem dX1_truths_48 : decode cX1_truths 48 = .ok (.iload 5, 2) := dk_21 5 (dk_at dksX1_truths_2 2 rfl rfl)
theorem dX1_truths_50 : decode cX1_truths 50 = .ok (.bipush 20, 2) := dk_16 20 (dk_at dksX1_truths_2 4 rfl rfl)
theorem dX1_truths_52 : decode cX1_truths 52 = .ok (.if_icmp .gt 26, 3) := dk_163 0 26 (dk_at dksX1_truths_2 6 rfl rfl)
theorem dX1_truths_55 : decode cX1_truths 55 = .ok (.aload_n 0, 1) := dk_42 (dk_at dksX1_truths_2 9 rfl rfl)
theorem dX1_truths_56 : decode cX1_truths 56 = .ok (.iload_n 1, 1) := dk_27 (dk_at dksX1_truths_2 10 rfl rfl)
theorem dX1_truths_57 : decode cX1_truths 57 = .ok (.iload 5, 2) := dk_21 5 (dk_at dksX1_truths_2 11 rfl rfl)
theorem dX1_truths_59 : decode cX1_truths 59 = .ok (.invokevirtual 440, 3) := dk_182 1 184 (dk_at dksX1_truths_2 13 rfl rfl)
theorem dX1_truths_62 : decode cX1_truths 62 = .ok (.ifCond .eq 10, 3) := dk_153 0 10 (dk_at dksX1_truths_2 16 rfl rfl)
theorem dX1_truths_65 : decode cX1_truths 65 = .ok (.iload_n 3, 1) := dk_29 (dk_at dksX1_truths_2 19 rfl rfl)
theorem dX1_truths_66 : decode cX1_truths 66 = .ok (.iconst 1, 1) := dk_4 (dk_at dksX1_truths_2 20 rfl rfl)
theorem dX1_truths_67 : decode cX1_truths 67 = .ok (.iload 5, 2) := dk_21 5 (dk_at dksX1_truths_2 21 rfl rfl)
theorem dX1_truths_69 : decode cX1_truths 69 = .ok (.ishl, 1) := dk_120 (dk_at dksX1_truths_2 23 rfl rfl)
theorem dX1_truths_70 : decode cX1_truths 70 = .ok (.ior, 1) := dk_128 (dk_at dksX1_truths_3 0 rfl rfl)
theorem dX1_truths_71 : decode cX1_truths 71 = .ok (.istore_n 3, 1) := dk_62 (dk_at dksX1_truths_3 1 rfl rfl)
theorem dX1_truths_72 : decode cX1_truths 72 = .ok (.iinc 5 1, 3) := dk_132 5 1 (dk_at dksX1_truths_3 2 rfl rfl)
theorem dX1_truths_75 : decode cX1_truths 75 = .ok (.goto (-27), 3) := dk_167 255 229 (dk_at dksX1_truths_3 5 rfl rfl)
theorem dX1_truths_78 : decode cX1_truths 78 = .ok (.iinc 4 1, 3) := dk_132 4 1 (dk_at dksX1_truths_3 8 rfl rfl)
theorem dX1_truths_81 : decode cX1_truths 81 = .ok (.goto (-61), 3) := dk_167 255 195 (dk_at dksX1_truths_3 11 rfl rfl)
theorem dX1_truths_84 : decode cX1_truths 84 = .ok (.iload_n 3, 1) := dk_29 (dk_at dksX1_truths_3 14 rfl rfl)
theorem dX1_truths_85 : decode cX1_truths 85 = .ok (.iload_n 2, 1) := dk_28 (dk_at dksX1_truths_3 15 rfl rfl)
theorem dX1_truths_86 : decode cX1_truths 86 = .ok (.invokestatic 452, 3) := dk_184 1 196 (dk_at dksX1_truths_3 16 rfl rfl)
theorem dX1_truths_89 : decode cX1_truths 89 = .ok (.ireturn, 1) := dk_172 (dk_at dksX1_truths_3 19 rfl rfl)
abbrev cX1_read : ByteArray := prog_1_method_100_code
def yX1_read : MethodName := ⟨RX1, "read", "(I)I"⟩
def dkwX1_read_4 : List UInt8 := [62, 132, 4, 1, 167, 255, 180, 28, 172]
abbrev dktX1_read_4 : List UInt8 := dkwX1_read_4 ++ []
def dkwX1_read_3 : List UInt8 := [21, 5, 153, 0, 23, 28, 2, 159, 0, 12, 21, 5, 29, 161, 0, 6, 167, 0, 9, 21, 4, 61, 21, 5]
abbrev dktX1_read_3 : List UInt8 := dkwX1_read_3 ++ dktX1_read_4
def dkwX1_read_2 : List UInt8 := [180, 0, 79, 16, 30, 21, 4, 104, 21, 6, 96, 46, 184, 1, 95, 54, 5, 132, 6, 1, 167, 255, 226]
abbrev dktX1_read_2 : List UInt8 := dkwX1_read_2 ++ dktX1_read_3
def dkwX1_read_1 : List UInt8 := [42, 180, 1, 49, 162, 0, 73, 3, 54, 5, 3, 54, 6, 21, 6, 16, 30, 162, 0, 29, 21, 5, 42]
abbrev dktX1_read_1 : List UInt8 := dkwX1_read_1 ++ dktX1_read_2
def dkwX1_read_0 : List UInt8 := [42, 27, 182, 1, 77, 154, 0, 5, 2, 172, 42, 27, 182, 1, 199, 2, 61, 3, 62, 3, 54, 4, 21, 4]
abbrev dktX1_read_0 : List UInt8 := dkwX1_read_0 ++ dktX1_read_1
theorem dksX1_read_0 : cX1_read.data.toList.drop 0 = dktX1_read_0 := by decide +kernel
theorem dksX1_read_1 : cX1_read.data.toList.drop 24 = dktX1_read_1 := dk_seg dksX1_read_0 24 rfl rfl
theorem dksX1_read_2 : cX1_read.data.toList.drop 47 = dktX1_read_2 := dk_seg dksX1_read_1 23 rfl rfl
theorem dksX1_read_3 : cX1_read.data.toList.drop 70 = dktX1_read_3 := dk_seg dksX1_read_2 23 rfl rfl
theorem dksX1_read_4 : cX1_read.data.toList.drop 94 = dktX1_read_4 := dk_seg dksX1_read_3 24 rfl rfl
theorem dX1_read_0 : decode cX1_read 0 = .ok (.aload_n 0, 1) := dk_42 (dk_at dksX1_read_0 0 rfl rfl)
theorem dX1_read_1 : decode cX1_read 1 = .ok (.iload_n 1, 1) := dk_27 (dk_at dksX1_read_0 1 rfl rfl)
theorem dX1_read_2 : decode cX1_read 2 = .ok (.invokevirtual 333, 3) := dk_182 1 77 (dk_at dksX1_read_0 2 rfl rfl)
theorem dX1_read_5 : decode cX1_read 5 = .ok (.ifCond .ne 5, 3) := dk_154 0 5 (dk_at dksX1_read_0 5 rfl rfl)
theorem dX1_read_8 : decode cX1_read 8 = .ok (.iconst (-1), 1) := dk_2 (dk_at dksX1_read_0 8 rfl rfl)
theorem dX1_read_9 : decode cX1_read 9 = .ok (.ireturn, 1) := dk_172 (dk_at dksX1_read_0 9 rfl rfl)
theorem dX1_read_10 : decode cX1_read 10 = .ok (.aload_n 0, 1) := dk_42 (dk_at dksX1_read_0 10 rfl rfl)
theorem dX1_read_11 : decode cX1_read 11 = .ok (.iload_n 1, 1) := dk_27 (dk_at dksX1_read_0 11 rfl rfl)
theorem dX1_read_12 : decode cX1_read 12 = .ok (.invokevirtual 455, 3) := dk_182 1 199 (dk_at dksX1_read_0 12 rfl rfl)
theorem dX1_read_15 : decode cX1_read 15 = .ok (.iconst (-1), 1) := dk_2 (dk_at dksX1_read_0 15 rfl rfl)
theorem dX1_read_16 : decode cX1_read 16 = .ok (.istore_n 2, 1) := dk_61 (dk_at dksX1_read_0 16 rfl rfl)
theorem dX1_read_17 : decode cX1_read 17 = .ok (.iconst 0, 1) := dk_3 (dk_at dksX1_read_0 17 rfl rfl)
theorem dX1_read_18 : decode cX1_read 18 = .ok (.istore_n 3, 1) := dk_62 (dk_at dksX1_read_0 18 rfl rfl)
theorem dX1_read_19 : decode cX1_read 19 = .ok (.iconst 0, 1) := dk_3 (dk_at dksX1_read_0 19 rfl rfl)
theorem dX1_read_20 : decode cX1_read 20 = .ok (.istore 4, 2) := dk_54 4 (dk_at dksX1_read_0 20 rfl rfl)
theorem dX1_read_22 : decode cX1_read 22 = .ok (.iload 4, 2) := dk_21 4 (dk_at dksX1_read_0 22 rfl rfl)
theorem dX1_read_24 : decode cX1_read 24 = .ok (.aload_n 0, 1) := dk_42 (dk_at dksX1_read_1 0 rfl rfl)
theorem dX1_read_25 : decode cX1_read 25 = .ok (.getfield 305, 3) := dk_180 1 49 (dk_at dksX1_read_1 1 rfl rfl)
theorem dX1_read_28 : decode cX1_read 28 = .ok (.if_icmp .ge 73, 3) := dk_162 0 73 (dk_at dksX1_read_1 4 rfl rfl)
theorem dX1_read_31 : decode cX1_read 31 = .ok (.iconst 0, 1) := dk_3 (dk_at dksX1_read_1 7 rfl rfl)
theorem dX1_read_32 : decode cX1_read 32 = .ok (.istore 5, 2) := dk_54 5 (dk_at dksX1_read_1 8 rfl rfl)
theorem dX1_read_34 : decode cX1_read 34 = .ok (.iconst 0, 1) := dk_3 (dk_at dksX1_read_1 10 rfl rfl)
theorem dX1_read_35 : decode cX1_read 35 = .ok (.istore 6, 2) := dk_54 6 (dk_at dksX1_read_1 11 rfl rfl)
theorem dX1_read_37 : decode cX1_read 37 = .ok (.iload 6, 2) := dk_21 6 (dk_at dksX1_read_1 13 rfl rfl)
theorem dX1_read_39 : decode cX1_read 39 = .ok (.bipush 30, 2) := dk_16 30 (dk_at dksX1_read_1 15 rfl rfl)
theorem dX1_read_41 : decode cX1_read 41 = .ok (.if_icmp .ge 29, 3) := dk_162 0 29 (dk_at dksX1_read_1 17 rfl rfl)
theorem dX1_read_44 : decode cX1_read 44 = .ok (.iload 5, 2) := dk_21 5 (dk_at dksX1_read_1 20 rfl rfl)
theorem dX1_read_46 : decode cX1_read 46 = .ok (.aload_n 0, 1) := dk_42 (dk_at dksX1_read_1 22 rfl rfl)
theorem dX1_read_47 : decode cX1_read 47 = .ok (.getfield 79, 3) := dk_180 0 79 (dk_at dksX1_read_2 0 rfl rfl)
theorem dX1_read_50 : decode cX1_read 50 = .ok (.bipush 30, 2) := dk_16 30 (dk_at dksX1_read_2 3 rfl rfl)
theorem dX1_read_52 : decode cX1_read 52 = .ok (.iload 4, 2) := dk_21 4 (dk_at dksX1_read_2 5 rfl rfl)
theorem dX1_read_54 : decode cX1_read 54 = .ok (.imul, 1) := dk_104 (dk_at dksX1_read_2 7 rfl rfl)
theorem dX1_read_55 : decode cX1_read 55 = .ok (.iload 6, 2) := dk_21 6 (dk_at dksX1_read_2 8 rfl rfl)
theorem dX1_read_57 : decode cX1_read 57 = .ok (.iadd, 1) := dk_96 (dk_at dksX1_read_2 10 rfl rfl)
theorem dX1_read_58 : decode cX1_read 58 = .ok (.iaload, 1) := dk_46 (dk_at dksX1_read_2 11 rfl rfl)
theorem dX1_read_59 : decode cX1_read 59 = .ok (.invokestatic 351, 3) := dk_184 1 95 (dk_at dksX1_read_2 12 rfl rfl)
theorem dX1_read_62 : decode cX1_read 62 = .ok (.istore 5, 2) := dk_54 5 (dk_at dksX1_read_2 15 rfl rfl)
theorem dX1_read_64 : decode cX1_read 64 = .ok (.iinc 6 1, 3) := dk_132 6 1 (dk_at dksX1_read_2 17 rfl rfl)
theorem dX1_read_67 : decode cX1_read 67 = .ok (.goto (-30), 3) := dk_167 255 226 (dk_at dksX1_read_2 20 rfl rfl)
theorem dX1_read_70 : decode cX1_read 70 = .ok (.iload 5, 2) := dk_21 5 (dk_at dksX1_read_3 0 rfl rfl)
theorem dX1_read_72 : decode cX1_read 72 = .ok (.ifCond .eq 23, 3) := dk_153 0 23 (dk_at dksX1_read_3 2 rfl rfl)
theorem dX1_read_75 : decode cX1_read 75 = .ok (.iload_n 2, 1) := dk_28 (dk_at dksX1_read_3 5 rfl rfl)
theorem dX1_read_76 : decode cX1_read 76 = .ok (.iconst (-1), 1) := dk_2 (dk_at dksX1_read_3 6 rfl rfl)
theorem dX1_read_77 : decode cX1_read 77 = .ok (.if_icmp .eq 12, 3) := dk_159 0 12 (dk_at dksX1_read_3 7 rfl rfl)
theorem dX1_read_80 : decode cX1_read 80 = .ok (.iload 5, 2) := dk_21 5 (dk_at dksX1_read_3 10 rfl rfl)
theorem dX1_read_82 : decode cX1_read 82 = .ok (.iload_n 3, 1) := dk_29 (dk_at dksX1_read_3 12 rfl rfl)
theorem dX1_read_83 : decode cX1_read 83 = .ok (.if_icmp .lt 6, 3) := dk_161 0 6 (dk_at dksX1_read_3 13 rfl rfl)
theorem dX1_read_86 : decode cX1_read 86 = .ok (.goto 9, 3) := dk_167 0 9 (dk_at dksX1_read_3 16 rfl rfl)
theorem dX1_read_89 : decode cX1_read 89 = .ok (.iload 4, 2) := dk_21 4 (dk_at dksX1_read_3 19 rfl rfl)
theorem dX1_read_91 : decode cX1_read 91 = .ok (.istore_n 2, 1) := dk_61 (dk_at dksX1_read_3 21 rfl rfl)
theorem dX1_read_92 : decode cX1_read 92 = .ok (.iload 5, 2) := dk_21 5 (dk_at dksX1_read_3 22 rfl rfl)
theorem dX1_read_94 : decode cX1_read 94 = .ok (.istore_n 3, 1) := dk_62 (dk_at dksX1_read_4 0 rfl rfl)
theorem dX1_read_95 : decode cX1_read 95 = .ok (.iinc 4 1, 3) := dk_132 4 1 (dk_at dksX1_read_4 1 rfl rfl)
theorem dX1_read_98 : decode cX1_read 98 = .ok (.goto (-76), 3) := dk_167 255 180 (dk_at dksX1_read_4 4 rfl rfl)
theorem dX1_read_101 : decode cX1_read 101 = .ok (.iload_n 2, 1) := dk_28 (dk_at dksX1_read_4 7 rfl rfl)
theorem dX1_read_102 : decode cX1_read 102 = .ok (.ireturn, 1) := dk_172 (dk_at dksX1_read_4 8 rfl rfl)
abbrev cX1_layTells : ByteArray := prog_1_method_99_code
def yX1_layTells : MethodName := ⟨RX1, "layTells", "(I)V"⟩
def dkwX1_layTells_5 : List UInt8 := [177]
abbrev dktX1_layTells_5 : List UInt8 := dkwX1_layTells_5 ++ []
def dkwX1_layTells_4 : List UInt8 := [96, 92, 46, 4, 96, 79, 132, 4, 1, 167, 255, 220, 132, 3, 1, 167, 255, 193, 132, 2, 1, 167, 255, 162]
abbrev dktX1_layTells_4 : List UInt8 := dkwX1_layTells_4 ++ dktX1_layTells_5
def dkwX1_layTells_3 : List UInt8 := [180, 1, 49, 162, 0, 33, 42, 180, 0, 79, 16, 30, 21, 4, 104, 29, 96, 42, 180, 0, 76, 21, 4, 46]
abbrev dktX1_layTells_3 : List UInt8 := dkwX1_layTells_3 ++ dktX1_layTells_4
def dkwX1_layTells_2 : List UInt8 := [29, 16, 20, 163, 0, 63, 42, 27, 29, 182, 1, 184, 154, 0, 6, 167, 0, 45, 3, 54, 4, 21, 4, 42]
abbrev dktX1_layTells_2 : List UInt8 := dkwX1_layTells_2 ++ dktX1_layTells_3
def dkwX1_layTells_1 : List UInt8 := [42, 182, 1, 187, 162, 0, 92, 42, 28, 182, 1, 190, 42, 182, 1, 193, 154, 0, 6, 167, 0, 71, 3, 62]
abbrev dktX1_layTells_1 : List UInt8 := dkwX1_layTells_1 ++ dktX1_layTells_2
def dkwX1_layTells_0 : List UInt8 := [3, 61, 28, 16, 120, 162, 0, 16, 42, 180, 0, 79, 28, 3, 79, 132, 2, 1, 167, 255, 240, 3, 61, 28]
abbrev dktX1_layTells_0 : List UInt8 := dkwX1_layTells_0 ++ dktX1_layTells_1
theorem dksX1_layTells_0 : cX1_layTells.data.toList.drop 0 = dktX1_layTells_0 := by decide +kernel
theorem dksX1_layTells_1 : cX1_layTells.data.toList.drop 24 = dktX1_layTells_1 := dk_seg dksX1_layTells_0 24 rfl rfl
theorem dksX1_layTells_2 : cX1_layTells.data.toList.drop 48 = dktX1_layTells_2 := dk_seg dksX1_layTells_1 24 rfl rfl
theorem dksX1_layTells_3 : cX1_layTells.data.toList.drop 72 = dktX1_layTells_3 := dk_seg dksX1_layTells_2 24 rfl rfl
theorem dksX1_layTells_4 : cX1_layTells.data.toList.drop 96 = dktX1_layTells_4 := dk_seg dksX1_layTells_3 24 rfl rfl
theorem dksX1_layTells_5 : cX1_layTells.data.toList.drop 120 = dktX1_layTells_5 := dk_seg dksX1_layTells_4 24 rfl rfl
theorem dX1_layTells_0 : decode cX1_layTells 0 = .ok (.iconst 0, 1) := dk_3 (dk_at dksX1_layTells_0 0 rfl rfl)
theorem dX1_layTells_1 : decode cX1_layTells 1 = .ok (.istore_n 2, 1) := dk_61 (dk_at dksX1_layTells_0 1 rfl rfl)
theorem dX1_layTells_2 : decode cX1_layTells 2 = .ok (.iload_n 2, 1) := dk_28 (dk_at dksX1_layTells_0 2 rfl rfl)
theorem dX1_layTells_3 : decode cX1_layTells 3 = .ok (.bipush 120, 2) := dk_16 120 (dk_at dksX1_layTells_0 3 rfl rfl)
theorem dX1_layTells_5 : decode cX1_layTells 5 = .ok (.if_icmp .ge 16, 3) := dk_162 0 16 (dk_at dksX1_layTells_0 5 rfl rfl)
theorem dX1_layTells_8 : decode cX1_layTells 8 = .ok (.aload_n 0, 1) := dk_42 (dk_at dksX1_layTells_0 8 rfl rfl)
theorem dX1_layTells_9 : decode cX1_layTells 9 = .ok (.getfield 79, 3) := dk_180 0 79 (dk_at dksX1_layTells_0 9 rfl rfl)
theorem dX1_layTells_12 : decode cX1_layTells 12 = .ok (.iload_n 2, 1) := dk_28 (dk_at dksX1_layTells_0 12 rfl rfl)
theorem dX1_layTells_13 : decode cX1_layTells 13 = .ok (.iconst 0, 1) := dk_3 (dk_at dksX1_layTells_0 13 rfl rfl)
theorem dX1_layTells_14 : decode cX1_layTells 14 = .ok (.iastore, 1) := dk_79 (dk_at dksX1_layTells_0 14 rfl rfl)
theorem dX1_layTells_15 : decode cX1_layTells 15 = .ok (.iinc 2 1, 3) := dk_132 2 1 (dk_at dksX1_layTells_0 15 rfl rfl)
theorem dX1_layTells_18 : decode cX1_layTells 18 = .ok (.goto (-16), 3) := dk_167 255 240 (dk_at dksX1_layTells_0 18 rfl rfl)
theorem dX1_layTells_21 : decode cX1_layTells 21 = .ok (.iconst 0, 1) := dk_3 (dk_at dksX1_layTells_0 21 rfl rfl)
theorem dX1_layTells_22 : decode cX1_layTells 22 = .ok (.istore_n 2, 1) := dk_61 (dk_at dksX1_layTells_0 22 rfl rfl)
theorem dX1_layTells_23 : decode cX1_layTells 23 = .ok (.iload_n 2, 1) := dk_28 (dk_at dksX1_layTells_0 23 rfl rfl)
theorem dX1_layTells_24 : decode cX1_layTells 24 = .ok (.aload_n 0, 1) := dk_42 (dk_at dksX1_layTells_1 0 rfl rfl)
theorem dX1_layTells_25 : decode cX1_layTells 25 = .ok (.invokevirtual 443, 3) := dk_182 1 187 (dk_at dksX1_layTells_1 1 rfl rfl)
theorem dX1_layTells_28 : decode cX1_layTells 28 = .ok (.if_icmp .ge 92, 3) := dk_162 0 92 (dk_at dksX1_layTells_1 4 rfl rfl)
theorem dX1_layTells_31 : decode cX1_layTells 31 = .ok (.aload_n 0, 1) := dk_42 (dk_at dksX1_layTells_1 7 rfl rfl)
theorem dX1_layTells_32 : decode cX1_layTells 32 = .ok (.iload_n 2, 1) := dk_28 (dk_at dksX1_layTells_1 8 rfl rfl)
theorem dX1_layTells_33 : decode cX1_layTells 33 = .ok (.invokevirtual 446, 3) := dk_182 1 190 (dk_at dksX1_layTells_1 9 rfl rfl)
theorem dX1_layTells_36 : decode cX1_layTells 36 = .ok (.aload_n 0, 1) := dk_42 (dk_at dksX1_layTells_1 12 rfl rfl)
theorem dX1_layTells_37 : decode cX1_layTells 37 = .ok (.invokevirtual 449, 3) := dk_182 1 193 (dk_at dksX1_layTells_1 13 rfl rfl)
theorem dX1_layTells_40 : decode cX1_layTells 40 = .ok (.ifCond .ne 6, 3) := dk_154 0 6 (dk_at dksX1_layTells_1 16 rfl rfl)
theorem dX1_layTells_43 : decode cX1_layTells 43 = .ok (.goto 71, 3) := dk_167 0 71 (dk_at dksX1_layTells_1 19 rfl rfl)
theorem dX1_layTells_46 : decode cX1_layTells 46 = .ok (.iconst 0, 1) := dk_3 (dk_at dksX1_layTells_1 22 rfl rfl)
theorem dX1_layTells_47 : decode cX1_layTells 47 = .ok (.istore_n 3, 1) := dk_62 (dk_at dksX1_layTells_1 23 rfl rfl)
theorem dX1_layTells_48 : decode cX1_layTells 48 = .ok (.iload_n 3, 1) := dk_29 (dk_at dksX1_layTells_2 0 rfl rfl)
theorem dX1_layTells_49 : decode cX1_layTells 49 = .ok (.bipush 20, 2) := dk_16 20 (dk_at dksX1_layTells_2 1 rfl rfl)
theorem dX1_layTells_51 : decode cX1_layTells 51 = .ok (.if_icmp .gt 63, 3) := dk_163 0 63 (dk_at dksX1_layTells_2 3 rfl rfl)
theorem dX1_layTells_54 : decode cX1_layTells 54 = .ok (.aload_n 0, 1) := dk_42 (dk_at dksX1_layTells_2 6 rfl rfl)
theorem dX1_layTells_55 : decode cX1_layTells 55 = .ok (.iload_n 1, 1) := dk_27 (dk_at dksX1_layTells_2 7 rfl rfl)
theorem dX1_layTells_56 : decode cX1_layTells 56 = .ok (.iload_n 3, 1) := dk_29 (dk_at dksX1_layTells_2 8 rfl rfl)
theorem dX1_layTells_57 : decode cX1_layTells 57 = .ok (.invokevirtual 440, 3) := dk_182 1 184 (dk_at dksX1_layTells_2 9 rfl rfl)
theorem dX1_layTells_60 : decode cX1_layTells 60 = .ok (.ifCond .ne 6, 3) := dk_154 0 6 (dk_at dksX1_layTells_2 12 rfl rfl)
theorem dX1_layTells_63 : decode cX1_layTells 63 = .ok (.goto 45, 3) := dk_167 0 45 (dk_at dksX1_layTells_2 15 rfl rfl)
theorem dX1_layTells_66 : decode cX1_layTells 66 = .ok (.iconst 0, 1) := dk_3 (dk_at dksX1_layTells_2 18 rfl rfl)
theorem dX1_layTells_67 : decode cX1_layTells 67 = .ok (.istore 4, 2) := dk_54 4 (dk_at dksX1_layTells_2 19 rfl rfl)
theorem dX1_layTells_69 : decode cX1_layTells 69 = .ok (.iload 4, 2) := dk_21 4 (dk_at dksX1_layTells_2 21 rfl rfl)
theorem dX1_layTells_71 : decode cX1_layTells 71 = .ok (.aload_n 0, 1) := dk_42 (dk_at dksX1_layTells_2 23 rfl rfl)
theorem dX1_layTells_72 : decode cX1_layTells 72 = .ok (.getfield 305, 3) := dk_180 1 49 (dk_at dksX1_layTells_3 0 rfl rfl)
theorem dX1_layTells_75 : decode cX1_layTells 75 = .ok (.if_icmp .ge 33, 3) := dk_162 0 33 (dk_at dksX1_layTells_3 3 rfl rfl)
theorem dX1_layTells_78 : decode cX1_layTells 78 = .ok (.aload_n 0, 1) := dk_42 (dk_at dksX1_layTells_3 6 rfl rfl)
theorem dX1_layTells_79 : decode cX1_layTells 79 = .ok (.getfield 79, 3) := dk_180 0 79 (dk_at dksX1_layTells_3 7 rfl rfl)
theorem dX1_layTells_82 : decode cX1_layTells 82 = .ok (.bipush 30, 2) := dk_16 30 (dk_at dksX1_layTells_3 10 rfl rfl)
theorem dX1_layTells_84 : decode cX1_layTells 84 = .ok (.iload 4, 2) := dk_21 4 (dk_at dksX1_layTells_3 12 rfl rfl)
theorem dX1_layTells_86 : decode cX1_layTells 86 = .ok (.imul, 1) := dk_104 (dk_at dksX1_layTells_3 14 rfl rfl)
theorem dX1_layTells_87 : decode cX1_layTells 87 = .ok (.iload_n 3, 1) := dk_29 (dk_at dksX1_layTells_3 15 rfl rfl)
theorem dX1_layTells_88 : decode cX1_layTells 88 = .ok (.iadd, 1) := dk_96 (dk_at dksX1_layTells_3 16 rfl rfl)
theorem dX1_layTells_89 : decode cX1_layTells 89 = .ok (.aload_n 0, 1) := dk_42 (dk_at dksX1_layTells_3 17 rfl rfl)
theorem dX1_layTells_90 : decode cX1_layTells 90 = .ok (.getfield 76, 3) := dk_180 0 76 (dk_at dksX1_layTells_3 18 rfl rfl)
theorem dX1_layTells_93 : decode cX1_layTells 93 = .ok (.iload 4, 2) := dk_21 4 (dk_at dksX1_layTells_3 21 rfl rfl)
theorem dX1_layTells_95 : decode cX1_layTells 95 = .ok (.iaload, 1) := dk_46 (dk_at dksX1_layTells_3 23 rfl rfl)
theorem dX1_layTells_96 : decode cX1_layTells 96 = .ok (.iadd, 1) := dk_96 (dk_at dksX1_layTells_4 0 rfl rfl)
theorem dX1_layTells_97 : decode cX1_layTells 97 = .ok (.dup2, 1) := dk_92 (dk_at dksX1_layTells_4 1 rfl rfl)
theorem dX1_layTells_98 : decode cX1_layTells 98 = .ok (.iaload, 1) := dk_46 (dk_at dksX1_layTells_4 2 rfl rfl)
theorem dX1_layTells_99 : decode cX1_layTells 99 = .ok (.iconst 1, 1) := dk_4 (dk_at dksX1_layTells_4 3 rfl rfl)
theorem dX1_layTells_100 : decode cX1_layTells 100 = .ok (.iadd, 1) := dk_96 (dk_at dksX1_layTells_4 4 rfl rfl)
theorem dX1_layTells_101 : decode cX1_layTells 101 = .ok (.iastore, 1) := dk_79 (dk_at dksX1_layTells_4 5 rfl rfl)
theorem dX1_layTells_102 : decode cX1_layTells 102 = .ok (.iinc 4 1, 3) := dk_132 4 1 (dk_at dksX1_layTells_4 6 rfl rfl)
theorem dX1_layTells_105 : decode cX1_layTells 105 = .ok (.goto (-36), 3) := dk_167 255 220 (dk_at dksX1_layTells_4 9 rfl rfl)
theorem dX1_layTells_108 : decode cX1_layTells 108 = .ok (.iinc 3 1, 3) := dk_132 3 1 (dk_at dksX1_layTells_4 12 rfl rfl)
theorem dX1_layTells_111 : decode cX1_layTells 111 = .ok (.goto (-63), 3) := dk_167 255 193 (dk_at dksX1_layTells_4 15 rfl rfl)
theorem dX1_layTells_114 : decode cX1_layTells 114 = .ok (.iinc 2 1, 3) := dk_132 2 1 (dk_at dksX1_layTells_4 18 rfl rfl)
theorem dX1_layTells_117 : decode cX1_layTells 117 = .ok (.goto (-94), 3) := dk_167 255 162 (dk_at dksX1_layTells_4 21 rfl rfl)
theorem dX1_layTells_120 : decode cX1_layTells 120 = .ok (.return_, 1) := dk_177 (dk_at dksX1_layTells_5 0 rfl rfl)
abbrev cX1_game : ByteArray := prog_1_method_103_code
def yX1_game : MethodName := ⟨RX1, "game", "(IIII)I"⟩
def dkwX1_game_2 : List UInt8 := [167, 0, 6, 19, 1, 155, 172]
abbrev dktX1_game_2 : List UInt8 := dkwX1_game_2 ++ []
def dkwX1_game_1 : List UInt8 := [153, 0, 25, 21, 4, 3, 4, 184, 0, 233, 153, 0, 15, 42, 27, 28, 29, 21, 4, 182, 1, 205]
abbrev dktX1_game_1 : List UInt8 := dkwX1_game_1 ++ dktX1_game_2
def dkwX1_game_0 : List UInt8 := [42, 27, 182, 1, 77, 153, 0, 43, 28, 3, 4, 184, 0, 233, 153, 0, 34, 29, 3, 4, 184, 0, 233]
abbrev dktX1_game_0 : List UInt8 := dkwX1_game_0 ++ dktX1_game_1
theorem dksX1_game_0 : cX1_game.data.toList.drop 0 = dktX1_game_0 := by decide +kernel
theorem dksX1_game_1 : cX1_game.data.toList.drop 23 = dktX1_game_1 := dk_seg dksX1_game_0 23 rfl rfl
theorem dksX1_game_2 : cX1_game.data.toList.drop 45 = dktX1_game_2 := dk_seg dksX1_game_1 22 rfl rfl
theorem dX1_game_0 : decode cX1_game 0 = .ok (.aload_n 0, 1) := dk_42 (dk_at dksX1_game_0 0 rfl rfl)
theorem dX1_game_1 : decode cX1_game 1 = .ok (.iload_n 1, 1) := dk_27 (dk_at dksX1_game_0 1 rfl rfl)
theorem dX1_game_2 : decode cX1_game 2 = .ok (.invokevirtual 333, 3) := dk_182 1 77 (dk_at dksX1_game_0 2 rfl rfl)
theorem dX1_game_5 : decode cX1_game 5 = .ok (.ifCond .eq 43, 3) := dk_153 0 43 (dk_at dksX1_game_0 5 rfl rfl)
theorem dX1_game_8 : decode cX1_game 8 = .ok (.iload_n 2, 1) := dk_28 (dk_at dksX1_game_0 8 rfl rfl)
theorem dX1_game_9 : decode cX1_game 9 = .ok (.iconst 0, 1) := dk_3 (dk_at dksX1_game_0 9 rfl rfl)
theorem dX1_game_10 : decode cX1_game 10 = .ok (.iconst 1, 1) := dk_4 (dk_at dksX1_game_0 10 rfl rfl)
theorem dX1_game_11 : decode cX1_game 11 = .ok (.invokestatic 233, 3) := dk_184 0 233 (dk_at dksX1_game_0 11 rfl rfl)
theorem dX1_game_14 : decode cX1_game 14 = .ok (.ifCond .eq 34, 3) := dk_153 0 34 (dk_at dksX1_game_0 14 rfl rfl)
theorem dX1_game_17 : decode cX1_game 17 = .ok (.iload_n 3, 1) := dk_29 (dk_at dksX1_game_0 17 rfl rfl)
theorem dX1_game_18 : decode cX1_game 18 = .ok (.iconst 0, 1) := dk_3 (dk_at dksX1_game_0 18 rfl rfl)
theorem dX1_game_19 : decode cX1_game 19 = .ok (.iconst 1, 1) := dk_4 (dk_at dksX1_game_0 19 rfl rfl)
theorem dX1_game_20 : decode cX1_game 20 = .ok (.invokestatic 233, 3) := dk_184 0 233 (dk_at dksX1_game_0 20 rfl rfl)
theorem dX1_game_23 : decode cX1_game 23 = .ok (.ifCond .eq 25, 3) := dk_153 0 25 (dk_at dksX1_game_1 0 rfl rfl)
theorem dX1_game_26 : decode cX1_game 26 = .ok (.iload 4, 2) := dk_21 4 (dk_at dksX1_game_1 3 rfl rfl)
theorem dX1_game_28 : decode cX1_game 28 = .ok (.iconst 0, 1) := dk_3 (dk_at dksX1_game_1 5 rfl rfl)
theorem dX1_game_29 : decode cX1_game 29 = .ok (.iconst 1, 1) := dk_4 (dk_at dksX1_game_1 6 rfl rfl)
theorem dX1_game_30 : decode cX1_game 30 = .ok (.invokestatic 233, 3) := dk_184 0 233 (dk_at dksX1_game_1 7 rfl rfl)
theorem dX1_game_33 : decode cX1_game 33 = .ok (.ifCond .eq 15, 3) := dk_153 0 15 (dk_at dksX1_game_1 10 rfl rfl)
theorem dX1_game_36 : decode cX1_game 36 = .ok (.aload_n 0, 1) := dk_42 (dk_at dksX1_game_1 13 rfl rfl)
theorem dX1_game_37 : decode cX1_game 37 = .ok (.iload_n 1, 1) := dk_27 (dk_at dksX1_game_1 14 rfl rfl)
theorem dX1_game_38 : decode cX1_game 38 = .ok (.iload_n 2, 1) := dk_28 (dk_at dksX1_game_1 15 rfl rfl)
theorem dX1_game_39 : decode cX1_game 39 = .ok (.iload_n 3, 1) := dk_29 (dk_at dksX1_game_1 16 rfl rfl)
theorem dX1_game_40 : decode cX1_game 40 = .ok (.iload 4, 2) := dk_21 4 (dk_at dksX1_game_1 17 rfl rfl)
theorem dX1_game_42 : decode cX1_game 42 = .ok (.invokevirtual 461, 3) := dk_182 1 205 (dk_at dksX1_game_1 19 rfl rfl)
theorem dX1_game_45 : decode cX1_game 45 = .ok (.goto 6, 3) := dk_167 0 6 (dk_at dksX1_game_2 0 rfl rfl)
theorem dX1_game_48 : decode cX1_game 48 = .ok (.ldc_w 411, 3) := dk_19 1 155 (dk_at dksX1_game_2 3 rfl rfl)
theorem dX1_game_51 : decode cX1_game 51 = .ok (.ireturn, 1) := dk_172 (dk_at dksX1_game_2 6 rfl rfl)
abbrev cX1_gameOf : ByteArray := prog_1_method_102_code
def yX1_gameOf : MethodName := ⟨RX1, "gameOf", "(IIII)I"⟩
def dkwX1_gameOf_2 : List UInt8 := [167, 0, 4, 7, 54, 7, 21, 7, 21, 4, 154, 0, 7, 28, 167, 0, 4, 29, 100, 172]
abbrev dktX1_gameOf_2 : List UInt8 := dkwX1_gameOf_2 ++ []
def dkwX1_gameOf_1 : List UInt8 := [3, 167, 0, 26, 21, 6, 21, 5, 160, 0, 18, 42, 180, 0, 58, 16, 8, 21, 5, 96, 46, 5, 96]
abbrev dktX1_gameOf_1 : List UInt8 := dkwX1_gameOf_1 ++ dktX1_gameOf_2
def dkwX1_gameOf_0 : List UInt8 := [42, 27, 21, 4, 182, 1, 80, 54, 5, 42, 27, 28, 29, 182, 1, 202, 54, 6, 21, 6, 2, 160, 0, 7]
abbrev dktX1_gameOf_0 : List UInt8 := dkwX1_gameOf_0 ++ dktX1_gameOf_1
theorem dksX1_gameOf_0 : cX1_gameOf.data.toList.drop 0 = dktX1_gameOf_0 := by decide +kernel
theorem dksX1_gameOf_1 : cX1_gameOf.data.toList.drop 24 = dktX1_gameOf_1 := dk_seg dksX1_gameOf_0 24 rfl rfl
theorem dksX1_gameOf_2 : cX1_gameOf.data.toList.drop 47 = dktX1_gameOf_2 := dk_seg dksX1_gameOf_1 23 rfl rfl
theorem dX1_gameOf_0 : decode cX1_gameOf 0 = .ok (.aload_n 0, 1) := dk_42 (dk_at dksX1_gameOf_0 0 rfl rfl)
theorem dX1_gameOf_1 : decode cX1_gameOf 1 = .ok (.iload_n 1, 1) := dk_27 (dk_at dksX1_gameOf_0 1 rfl rfl)
theorem dX1_gameOf_2 : decode cX1_gameOf 2 = .ok (.iload 4, 2) := dk_21 4 (dk_at dksX1_gameOf_0 2 rfl rfl)
theorem dX1_gameOf_4 : decode cX1_gameOf 4 = .ok (.invokevirtual 336, 3) := dk_182 1 80 (dk_at dksX1_gameOf_0 4 rfl rfl)
theorem dX1_gameOf_7 : decode cX1_gameOf 7 = .ok (.istore 5, 2) := dk_54 5 (dk_at dksX1_gameOf_0 7 rfl rfl)
theorem dX1_gameOf_9 : decode cX1_gameOf 9 = .ok (.aload_n 0, 1) := dk_42 (dk_at dksX1_gameOf_0 9 rfl rfl)
theorem dX1_gameOf_10 : decode cX1_gameOf 10 = .ok (.iload_n 1, 1) := dk_27 (dk_at dksX1_gameOf_0 10 rfl rfl)
theorem dX1_gameOf_11 : decode cX1_gameOf 11 = .ok (.iload_n 2, 1) := dk_28 (dk_at dksX1_gameOf_0 11 rfl rfl)
theorem dX1_gameOf_12 : decode cX1_gameOf 12 = .ok (.iload_n 3, 1) := dk_29 (dk_at dksX1_gameOf_0 12 rfl rfl)
theorem dX1_gameOf_13 : decode cX1_gameOf 13 = .ok (.invokevirtual 458, 3) := dk_182 1 202 (dk_at dksX1_gameOf_0 13 rfl rfl)
theorem dX1_gameOf_16 : decode cX1_gameOf 16 = .ok (.istore 6, 2) := dk_54 6 (dk_at dksX1_gameOf_0 16 rfl rfl)
theorem dX1_gameOf_18 : decode cX1_gameOf 18 = .ok (.iload 6, 2) := dk_21 6 (dk_at dksX1_gameOf_0 18 rfl rfl)
theorem dX1_gameOf_20 : decode cX1_gameOf 20 = .ok (.iconst (-1), 1) := dk_2 (dk_at dksX1_gameOf_0 20 rfl rfl)
theorem dX1_gameOf_21 : decode cX1_gameOf 21 = .ok (.if_icmp .ne 7, 3) := dk_160 0 7 (dk_at dksX1_gameOf_0 21 rfl rfl)
theorem dX1_gameOf_24 : decode cX1_gameOf 24 = .ok (.iconst 0, 1) := dk_3 (dk_at dksX1_gameOf_1 0 rfl rfl)
theorem dX1_gameOf_25 : decode cX1_gameOf 25 = .ok (.goto 26, 3) := dk_167 0 26 (dk_at dksX1_gameOf_1 1 rfl rfl)
theorem dX1_gameOf_28 : decode cX1_gameOf 28 = .ok (.iload 6, 2) := dk_21 6 (dk_at dksX1_gameOf_1 4 rfl rfl)
theorem dX1_gameOf_30 : decode cX1_gameOf 30 = .ok (.iload 5, 2) := dk_21 5 (dk_at dksX1_gameOf_1 6 rfl rfl)
theorem dX1_gameOf_32 : decode cX1_gameOf 32 = .ok (.if_icmp .ne 18, 3) := dk_160 0 18 (dk_at dksX1_gameOf_1 8 rfl rfl)
theorem dX1_gameOf_35 : decode cX1_gameOf 35 = .ok (.aload_n 0, 1) := dk_42 (dk_at dksX1_gameOf_1 11 rfl rfl)
theorem dX1_gameOf_36 : decode cX1_gameOf 36 = .ok (.getfield 58, 3) := dk_180 0 58 (dk_at dksX1_gameOf_1 12 rfl rfl)
theorem dX1_gameOf_39 : decode cX1_gameOf 39 = .ok (.bipush 8, 2) := dk_16 8 (dk_at dksX1_gameOf_1 15 rfl rfl)
theorem dX1_gameOf_41 : decode cX1_gameOf 41 = .ok (.iload 5, 2) := dk_21 5 (dk_at dksX1_gameOf_1 17 rfl rfl)
theorem dX1_gameOf_43 : decode cX1_gameOf 43 = .ok (.iadd, 1) := dk_96 (dk_at dksX1_gameOf_1 19 rfl rfl)
theorem dX1_gameOf_44 : decode cX1_gameOf 44 = .ok (.iaload, 1) := dk_46 (dk_at dksX1_gameOf_1 20 rfl rfl)
theorem dX1_gameOf_45 : decode cX1_gameOf 45 = .ok (.iconst 2, 1) := dk_5 (dk_at dksX1_gameOf_1 21 rfl rfl)
theorem dX1_gameOf_46 : decode cX1_gameOf 46 = .ok (.iadd, 1) := dk_96 (dk_at dksX1_gameOf_1 22 rfl rfl)
theorem dX1_gameOf_47 : decode cX1_gameOf 47 = .ok (.goto 4, 3) := dk_167 0 4 (dk_at dksX1_gameOf_2 0 rfl rfl)
theorem dX1_gameOf_50 : decode cX1_gameOf 50 = .ok (.iconst 4, 1) := dk_7 (dk_at dksX1_gameOf_2 3 rfl rfl)
theorem dX1_gameOf_51 : decode cX1_gameOf 51 = .ok (.istore 7, 2) := dk_54 7 (dk_at dksX1_gameOf_2 4 rfl rfl)
theorem dX1_gameOf_53 : decode cX1_gameOf 53 = .ok (.iload 7, 2) := dk_21 7 (dk_at dksX1_gameOf_2 6 rfl rfl)
theorem dX1_gameOf_55 : decode cX1_gameOf 55 = .ok (.iload 4, 2) := dk_21 4 (dk_at dksX1_gameOf_2 8 rfl rfl)
theorem dX1_gameOf_57 : decode cX1_gameOf 57 = .ok (.ifCond .ne 7, 3) := dk_154 0 7 (dk_at dksX1_gameOf_2 10 rfl rfl)
theorem dX1_gameOf_60 : decode cX1_gameOf 60 = .ok (.iload_n 2, 1) := dk_28 (dk_at dksX1_gameOf_2 13 rfl rfl)
theorem dX1_gameOf_61 : decode cX1_gameOf 61 = .ok (.goto 4, 3) := dk_167 0 4 (dk_at dksX1_gameOf_2 14 rfl rfl)
theorem dX1_gameOf_64 : decode cX1_gameOf 64 = .ok (.iload_n 3, 1) := dk_29 (dk_at dksX1_gameOf_2 17 rfl rfl)
theorem dX1_gameOf_65 : decode cX1_gameOf 65 = .ok (.isub, 1) := dk_100 (dk_at dksX1_gameOf_2 18 rfl rfl)
theorem dX1_gameOf_66 : decode cX1_gameOf 66 = .ok (.ireturn, 1) := dk_172 (dk_at dksX1_gameOf_2 19 rfl rfl)
abbrev cX1_beatenIf : ByteArray := prog_1_method_101_code
def yX1_beatenIf : MethodName := ⟨RX1, "beatenIf", "(III)I"⟩
def dkwX1_beatenIf_3 : List UInt8 := [21, 5, 172]
abbrev dktX1_beatenIf_3 : List UInt8 := dkwX1_beatenIf_3 ++ []
def dkwX1_beatenIf_2 : List UInt8 := [27, 4, 182, 1, 80, 120, 128, 79, 42, 27, 182, 1, 107, 54, 5, 42, 180, 0, 58, 16, 16, 21, 4, 79]
abbrev dktX1_beatenIf_2 : List UInt8 := dkwX1_beatenIf_2 ++ dktX1_beatenIf_3
def dkwX1_beatenIf_1 : List UInt8 := [120, 4, 42, 27, 4, 182, 1, 80, 120, 128, 2, 130, 126, 28, 42, 27, 3, 182, 1, 80, 120, 128, 29, 42]
abbrev dktX1_beatenIf_1 : List UInt8 := dkwX1_beatenIf_1 ++ dktX1_beatenIf_2
def dkwX1_beatenIf_0 : List UInt8 := [42, 180, 0, 58, 16, 16, 46, 54, 4, 42, 180, 0, 58, 16, 16, 21, 4, 4, 42, 27, 3, 182, 1, 80]
abbrev dktX1_beatenIf_0 : List UInt8 := dkwX1_beatenIf_0 ++ dktX1_beatenIf_1
theorem dksX1_beatenIf_0 : cX1_beatenIf.data.toList.drop 0 = dktX1_beatenIf_0 := by decide +kernel
theorem dksX1_beatenIf_1 : cX1_beatenIf.data.toList.drop 24 = dktX1_beatenIf_1 := dk_seg dksX1_beatenIf_0 24 rfl rfl
theorem dksX1_beatenIf_2 : cX1_beatenIf.data.toList.drop 48 = dktX1_beatenIf_2 := dk_seg dksX1_beatenIf_1 24 rfl rfl
theorem dksX1_beatenIf_3 : cX1_beatenIf.data.toList.drop 72 = dktX1_beatenIf_3 := dk_seg dksX1_beatenIf_2 24 rfl rfl
theorem dX1_beatenIf_0 : decode cX1_beatenIf 0 = .ok (.aload_n 0, 1) := dk_42 (dk_at dksX1_beatenIf_0 0 rfl rfl)
theorem dX1_beatenIf_1 : decode cX1_beatenIf 1 = .ok (.getfield 58, 3) := dk_180 0 58 (dk_at dksX1_beatenIf_0 1 rfl rfl)
theorem dX1_beatenIf_4 : decode cX1_beatenIf 4 = .ok (.bipush 16, 2) := dk_16 16 (dk_at dksX1_beatenIf_0 4 rfl rfl)
theorem dX1_beatenIf_6 : decode cX1_beatenIf 6 = .ok (.iaload, 1) := dk_46 (dk_at dksX1_beatenIf_0 6 rfl rfl)
theorem dX1_beatenIf_7 : decode cX1_beatenIf 7 = .ok (.istore 4, 2) := dk_54 4 (dk_at dksX1_beatenIf_0 7 rfl rfl)
theorem dX1_beatenIf_9 : decode cX1_beatenIf 9 = .ok (.aload_n 0, 1) := dk_42 (dk_at dksX1_beatenIf_0 9 rfl rfl)
theorem dX1_beatenIf_10 : decode cX1_beatenIf 10 = .ok (.getfield 58, 3) := dk_180 0 58 (dk_at dksX1_beatenIf_0 10 rfl rfl)
theorem dX1_beatenIf_13 : decode cX1_beatenIf 13 = .ok (.bipush 16, 2) := dk_16 16 (dk_at dksX1_beatenIf_0 13 rfl rfl)
theorem dX1_beatenIf_15 : decode cX1_beatenIf 15 = .ok (.iload 4, 2) := dk_21 4 (dk_at dksX1_beatenIf_0 15 rfl rfl)
theorem dX1_beatenIf_17 : decode cX1_beatenIf 17 = .ok (.iconst 1, 1) := dk_4 (dk_at dksX1_beatenIf_0 17 rfl rfl)
theorem dX1_beatenIf_18 : decode cX1_beatenIf 18 = .ok (.aload_n 0, 1) := dk_42 (dk_at dksX1_beatenIf_0 18 rfl rfl)
theorem dX1_beatenIf_19 : decode cX1_beatenIf 19 = .ok (.iload_n 1, 1) := dk_27 (dk_at dksX1_beatenIf_0 19 rfl rfl)
theorem dX1_beatenIf_20 : decode cX1_beatenIf 20 = .ok (.iconst 0, 1) := dk_3 (dk_at dksX1_beatenIf_0 20 rfl rfl)
theorem dX1_beatenIf_21 : decode cX1_beatenIf 21 = .ok (.invokevirtual 336, 3) := dk_182 1 80 (dk_at dksX1_beatenIf_0 21 rfl rfl)
theorem dX1_beatenIf_24 : decode cX1_beatenIf 24 = .ok (.ishl, 1) := dk_120 (dk_at dksX1_beatenIf_1 0 rfl rfl)
theorem dX1_beatenIf_25 : decode cX1_beatenIf 25 = .ok (.iconst 1, 1) := dk_4 (dk_at dksX1_beatenIf_1 1 rfl rfl)
theorem dX1_beatenIf_26 : decode cX1_beatenIf 26 = .ok (.aload_n 0, 1) := dk_42 (dk_at dksX1_beatenIf_1 2 rfl rfl)
theorem dX1_beatenIf_27 : decode cX1_beatenIf 27 = .ok (.iload_n 1, 1) := dk_27 (dk_at dksX1_beatenIf_1 3 rfl rfl)
theorem dX1_beatenIf_28 : decode cX1_beatenIf 28 = .ok (.iconst 1, 1) := dk_4 (dk_at dksX1_beatenIf_1 4 rfl rfl)
theorem dX1_beatenIf_29 : decode cX1_beatenIf 29 = .ok (.invokevirtual 336, 3) := dk_182 1 80 (dk_at dksX1_beatenIf_1 5 rfl rfl)
theorem dX1_beatenIf_32 : decode cX1_beatenIf 32 = .ok (.ishl, 1) := dk_120 (dk_at dksX1_beatenIf_1 8 rfl rfl)
theorem dX1_beatenIf_33 : decode cX1_beatenIf 33 = .ok (.ior, 1) := dk_128 (dk_at dksX1_beatenIf_1 9 rfl rfl)
theorem dX1_beatenIf_34 : decode cX1_beatenIf 34 = .ok (.iconst (-1), 1) := dk_2 (dk_at dksX1_beatenIf_1 10 rfl rfl)
theorem dX1_beatenIf_35 : decode cX1_beatenIf 35 = .ok (.ixor, 1) := dk_130 (dk_at dksX1_beatenIf_1 11 rfl rfl)
theorem dX1_beatenIf_36 : decode cX1_beatenIf 36 = .ok (.iand, 1) := dk_126 (dk_at dksX1_beatenIf_1 12 rfl rfl)
theorem dX1_beatenIf_37 : decode cX1_beatenIf 37 = .ok (.iload_n 2, 1) := dk_28 (dk_at dksX1_beatenIf_1 13 rfl rfl)
theorem dX1_beatenIf_38 : decode cX1_beatenIf 38 = .ok (.aload_n 0, 1) := dk_42 (dk_at dksX1_beatenIf_1 14 rfl rfl)
theorem dX1_beatenIf_39 : decode cX1_beatenIf 39 = .ok (.iload_n 1, 1) := dk_27 (dk_at dksX1_beatenIf_1 15 rfl rfl)
theorem dX1_beatenIf_40 : decode cX1_beatenIf 40 = .ok (.iconst 0, 1) := dk_3 (dk_at dksX1_beatenIf_1 16 rfl rfl)
theorem dX1_beatenIf_41 : decode cX1_beatenIf 41 = .ok (.invokevirtual 336, 3) := dk_182 1 80 (dk_at dksX1_beatenIf_1 17 rfl rfl)
theorem dX1_beatenIf_44 : decode cX1_beatenIf 44 = .ok (.ishl, 1) := dk_120 (dk_at dksX1_beatenIf_1 20 rfl rfl)
theorem dX1_beatenIf_45 : decode cX1_beatenIf 45 = .ok (.ior, 1) := dk_128 (dk_at dksX1_beatenIf_1 21 rfl rfl)
theorem dX1_beatenIf_46 : decode cX1_beatenIf 46 = .ok (.iload_n 3, 1) := dk_29 (dk_at dksX1_beatenIf_1 22 rfl rfl)
theorem dX1_beatenIf_47 : decode cX1_beatenIf 47 = .ok (.aload_n 0, 1) := dk_42 (dk_at dksX1_beatenIf_1 23 rfl rfl)
theorem dX1_beatenIf_48 : decode cX1_beatenIf 48 = .ok (.iload_n 1, 1) := dk_27 (dk_at dksX1_beatenIf_2 0 rfl rfl)
theorem dX1_beatenIf_49 : decode cX1_beatenIf 49 = .ok (.iconst 1, 1) := dk_4 (dk_at dksX1_beatenIf_2 1 rfl rfl)
theorem dX1_beatenIf_50 : decode cX1_beatenIf 50 = .ok (.invokevirtual 336, 3) := dk_182 1 80 (dk_at dksX1_beatenIf_2 2 rfl rfl)
theorem dX1_beatenIf_53 : decode cX1_beatenIf 53 = .ok (.ishl, 1) := dk_120 (dk_at dksX1_beatenIf_2 5 rfl rfl)
theorem dX1_beatenIf_54 : decode cX1_beatenIf 54 = .ok (.ior, 1) := dk_128 (dk_at dksX1_beatenIf_2 6 rfl rfl)
theorem dX1_beatenIf_55 : decode cX1_beatenIf 55 = .ok (.iastore, 1) := dk_79 (dk_at dksX1_beatenIf_2 7 rfl rfl)
theorem dX1_beatenIf_56 : decode cX1_beatenIf 56 = .ok (.aload_n 0, 1) := dk_42 (dk_at dksX1_beatenIf_2 8 rfl rfl)
theorem dX1_beatenIf_57 : decode cX1_beatenIf 57 = .ok (.iload_n 1, 1) := dk_27 (dk_at dksX1_beatenIf_2 9 rfl rfl)
theorem dX1_beatenIf_58 : decode cX1_beatenIf 58 = .ok (.invokevirtual 363, 3) := dk_182 1 107 (dk_at dksX1_beatenIf_2 10 rfl rfl)
theorem dX1_beatenIf_61 : decode cX1_beatenIf 61 = .ok (.istore 5, 2) := dk_54 5 (dk_at dksX1_beatenIf_2 13 rfl rfl)
theorem dX1_beatenIf_63 : decode cX1_beatenIf 63 = .ok (.aload_n 0, 1) := dk_42 (dk_at dksX1_beatenIf_2 15 rfl rfl)
theorem dX1_beatenIf_64 : decode cX1_beatenIf 64 = .ok (.getfield 58, 3) := dk_180 0 58 (dk_at dksX1_beatenIf_2 16 rfl rfl)
theorem dX1_beatenIf_67 : decode cX1_beatenIf 67 = .ok (.bipush 16, 2) := dk_16 16 (dk_at dksX1_beatenIf_2 19 rfl rfl)
theorem dX1_beatenIf_69 : decode cX1_beatenIf 69 = .ok (.iload 4, 2) := dk_21 4 (dk_at dksX1_beatenIf_2 21 rfl rfl)
theorem dX1_beatenIf_71 : decode cX1_beatenIf 71 = .ok (.iastore, 1) := dk_79 (dk_at dksX1_beatenIf_2 23 rfl rfl)
theorem dX1_beatenIf_72 : decode cX1_beatenIf 72 = .ok (.iload 5, 2) := dk_21 5 (dk_at dksX1_beatenIf_3 0 rfl rfl)
theorem dX1_beatenIf_74 : decode cX1_beatenIf 74 = .ok (.ireturn, 1) := dk_172 (dk_at dksX1_beatenIf_3 2 rfl rfl)
abbrev cX1_rests : ByteArray := prog_1_method_104_code
def yX1_rests : MethodName := ⟨RX1, "rests", "(II)I"⟩
def dkwX1_rests_5 : List UInt8 := [28, 2, 160, 0, 7, 29, 167, 0, 4, 2, 172]
abbrev dktX1_rests_5 : List UInt8 := dkwX1_rests_5 ++ []
def dkwX1_rests_4 : List UInt8 := [16, 10, 21, 4, 104, 21, 5, 96, 172, 132, 3, 1, 132, 5, 1, 167, 255, 177, 132, 4, 1, 167, 255, 162]
abbrev dktX1_rests_4 : List UInt8 := dkwX1_rests_4 ++ dktX1_rests_5
def dkwX1_rests_3 : List UInt8 := [182, 1, 205, 42, 27, 21, 4, 21, 5, 4, 182, 1, 205, 164, 0, 6, 167, 0, 20, 29, 28, 160, 0, 12]
abbrev dktX1_rests_3 : List UInt8 := dkwX1_rests_3 ++ dktX1_rests_4
def dkwX1_rests_2 : List UInt8 := [42, 27, 21, 4, 21, 5, 3, 182, 1, 205, 163, 0, 48, 42, 27, 21, 4, 4, 21, 5, 100, 4]
abbrev dktX1_rests_2 : List UInt8 := dkwX1_rests_2 ++ dktX1_rests_3
def dkwX1_rests_1 : List UInt8 := [162, 0, 94, 3, 54, 5, 21, 5, 5, 162, 0, 79, 42, 27, 4, 21, 4, 100, 21, 5, 3, 182, 1, 205]
abbrev dktX1_rests_1 : List UInt8 := dkwX1_rests_1 ++ dktX1_rests_2
def dkwX1_rests_0 : List UInt8 := [42, 27, 182, 1, 77, 153, 0, 8, 28, 2, 162, 0, 5, 2, 172, 3, 62, 3, 54, 4, 21, 4, 5]
abbrev dktX1_rests_0 : List UInt8 := dkwX1_rests_0 ++ dktX1_rests_1
theorem dksX1_rests_0 : cX1_rests.data.toList.drop 0 = dktX1_rests_0 := by decide +kernel
theorem dksX1_rests_1 : cX1_rests.data.toList.drop 23 = dktX1_rests_1 := dk_seg dksX1_rests_0 23 rfl rfl
theorem dksX1_rests_2 : cX1_rests.data.toList.drop 47 = dktX1_rests_2 := dk_seg dksX1_rests_1 24 rfl rfl
theorem dksX1_rests_3 : cX1_rests.data.toList.drop 69 = dktX1_rests_3 := dk_seg dksX1_rests_2 22 rfl rfl
theorem dksX1_rests_4 : cX1_rests.data.toList.drop 93 = dktX1_rests_4 := dk_seg dksX1_rests_3 24 rfl rfl
theorem dksX1_rests_5 : cX1_rests.data.toList.drop 117 = dktX1_rests_5 := dk_seg dksX1_rests_4 24 rfl rfl
theorem dX1_rests_0 : decode cX1_rests 0 = .ok (.aload_n 0, 1) := dk_42 (dk_at dksX1_rests_0 0 rfl rfl)
theorem dX1_rests_1 : decode cX1_rests 1 = .ok (.iload_n 1, 1) := dk_27 (dk_at dksX1_rests_0 1 rfl rfl)
theorem dX1_rests_2 : decode cX1_rests 2 = .ok (.invokevirtual 333, 3) := dk_182 1 77 (dk_at dksX1_rests_0 2 rfl rfl)
theorem dX1_rests_5 : decode cX1_rests 5 = .ok (.ifCond .eq 8, 3) := dk_153 0 8 (dk_at dksX1_rests_0 5 rfl rfl)
theorem dX1_rests_8 : decode cX1_rests 8 = .ok (.iload_n 2, 1) := dk_28 (dk_at dksX1_rests_0 8 rfl rfl)
theorem dX1_rests_9 : decode cX1_rests 9 = .ok (.iconst (-1), 1) := dk_2 (dk_at dksX1_rests_0 9 rfl rfl)
theorem dX1_rests_10 : decode cX1_rests 10 = .ok (.if_icmp .ge 5, 3) := dk_162 0 5 (dk_at dksX1_rests_0 10 rfl rfl)
theorem dX1_rests_13 : decode cX1_rests 13 = .ok (.iconst (-1), 1) := dk_2 (dk_at dksX1_rests_0 13 rfl rfl)
theorem dX1_rests_14 : decode cX1_rests 14 = .ok (.ireturn, 1) := dk_172 (dk_at dksX1_rests_0 14 rfl rfl)
theorem dX1_rests_15 : decode cX1_rests 15 = .ok (.iconst 0, 1) := dk_3 (dk_at dksX1_rests_0 15 rfl rfl)
theorem dX1_rests_16 : decode cX1_rests 16 = .ok (.istore_n 3, 1) := dk_62 (dk_at dksX1_rests_0 16 rfl rfl)
theorem dX1_rests_17 : decode cX1_rests 17 = .ok (.iconst 0, 1) := dk_3 (dk_at dksX1_rests_0 17 rfl rfl)
theorem dX1_rests_18 : decode cX1_rests 18 = .ok (.istore 4, 2) := dk_54 4 (dk_at dksX1_rests_0 18 rfl rfl)
theorem dX1_rests_20 : decode cX1_rests 20 = .ok (.iload 4, 2) := dk_21 4 (dk_at dksX1_rests_0 20 rfl rfl)
theorem dX1_rests_22 : decode cX1_rests 22 = .ok (.iconst 2, 1) := dk_5 (dk_at dksX1_rests_0 22 rfl rfl)
theorem dX1_rests_23 : decode cX1_rests 23 = .ok (.if_icmp .ge 94, 3) := dk_162 0 94 (dk_at dksX1_rests_1 0 rfl rfl)
theorem dX1_rests_26 : decode cX1_rests 26 = .ok (.iconst 0, 1) := dk_3 (dk_at dksX1_rests_1 3 rfl rfl)
theorem dX1_rests_27 : decode cX1_rests 27 = .ok (.istore 5, 2) := dk_54 5 (dk_at dksX1_rests_1 4 rfl rfl)
theorem dX1_rests_29 : decode cX1_rests 29 = .ok (.iload 5, 2) := dk_21 5 (dk_at dksX1_rests_1 6 rfl rfl)
theorem dX1_rests_31 : decode cX1_rests 31 = .ok (.iconst 2, 1) := dk_5 (dk_at dksX1_rests_1 8 rfl rfl)
theorem dX1_rests_32 : decode cX1_rests 32 = .ok (.if_icmp .ge 79, 3) := dk_162 0 79 (dk_at dksX1_rests_1 9 rfl rfl)
theorem dX1_rests_35 : decode cX1_rests 35 = .ok (.aload_n 0, 1) := dk_42 (dk_at dksX1_rests_1 12 rfl rfl)
theorem dX1_rests_36 : decode cX1_rests 36 = .ok (.iload_n 1, 1) := dk_27 (dk_at dksX1_rests_1 13 rfl rfl)
theorem dX1_rests_37 : decode cX1_rests 37 = .ok (.iconst 1, 1) := dk_4 (dk_at dksX1_rests_1 14 rfl rfl)
theorem dX1_rests_38 : decode cX1_rests 38 = .ok (.iload 4, 2) := dk_21 4 (dk_at dksX1_rests_1 15 rfl rfl)
theorem dX1_rests_40 : decode cX1_rests 40 = .ok (.isub, 1) := dk_100 (dk_at dksX1_rests_1 17 rfl rfl)
theorem dX1_rests_41 : decode cX1_rests 41 = .ok (.iload 5, 2) := dk_21 5 (dk_at dksX1_rests_1 18 rfl rfl)
theorem dX1_rests_43 : decode cX1_rests 43 = .ok (.iconst 0, 1) := dk_3 (dk_at dksX1_rests_1 20 rfl rfl)
theorem dX1_rests_44 : decode cX1_rests 44 = .ok (.invokevirtual 461, 3) := dk_182 1 205 (dk_at dksX1_rests_1 21 rfl rfl)
theorem dX1_rests_47 : decode cX1_rests 47 = .ok (.aload_n 0, 1) := dk_42 (dk_at dksX1_rests_2 0 rfl rfl)
theorem dX1_rests_48 : decode cX1_rests 48 = .ok (.iload_n 1, 1) := dk_27 (dk_at dksX1_rests_2 1 rfl rfl)
theorem dX1_rests_49 : decode cX1_rests 49 = .ok (.iload 4, 2) := dk_21 4 (dk_at dksX1_rests_2 2 rfl rfl)
theorem dX1_rests_51 : decode cX1_rests 51 = .ok (.iload 5, 2) := dk_21 5 (dk_at dksX1_rests_2 4 rfl rfl)
theorem dX1_rests_53 : decode cX1_rests 53 = .ok (.iconst 0, 1) := dk_3 (dk_at dksX1_rests_2 6 rfl rfl)
theorem dX1_rests_54 : decode cX1_rests 54 = .ok (.invokevirtual 461, 3) := dk_182 1 205 (dk_at dksX1_rests_2 7 rfl rfl)
theorem dX1_rests_57 : decode cX1_rests 57 = .ok (.if_icmp .gt 48, 3) := dk_163 0 48 (dk_at dksX1_rests_2 10 rfl rfl)
theorem dX1_rests_60 : decode cX1_rests 60 = .ok (.aload_n 0, 1) := dk_42 (dk_at dksX1_rests_2 13 rfl rfl)
theorem dX1_rests_61 : decode cX1_rests 61 = .ok (.iload_n 1, 1) := dk_27 (dk_at dksX1_rests_2 14 rfl rfl)
theorem dX1_rests_62 : decode cX1_rests 62 = .ok (.iload 4, 2) := dk_21 4 (dk_at dksX1_rests_2 15 rfl rfl)
theorem dX1_rests_64 : decode cX1_rests 64 = .ok (.iconst 1, 1) := dk_4 (dk_at dksX1_rests_2 17 rfl rfl)
theorem dX1_rests_65 : decode cX1_rests 65 = .ok (.iload 5, 2) := dk_21 5 (dk_at dksX1_rests_2 18 rfl rfl)
theorem dX1_rests_67 : decode cX1_rests 67 = .ok (.isub, 1) := dk_100 (dk_at dksX1_rests_2 20 rfl rfl)
theorem dX1_rests_68 : decode cX1_rests 68 = .ok (.iconst 1, 1) := dk_4 (dk_at dksX1_rests_2 21 rfl rfl)
theorem dX1_rests_69 : decode cX1_rests 69 = .ok (.invokevirtual 461, 3) := dk_182 1 205 (dk_at dksX1_rests_3 0 rfl rfl)
theorem dX1_rests_72 : decode cX1_rests 72 = .ok (.aload_n 0, 1) := dk_42 (dk_at dksX1_rests_3 3 rfl rfl)
theorem dX1_rests_73 : decode cX1_rests 73 = .ok (.iload_n 1, 1) := dk_27 (dk_at dksX1_rests_3 4 rfl rfl)
theorem dX1_rests_74 : decode cX1_rests 74 = .ok (.iload 4, 2) := dk_21 4 (dk_at dksX1_rests_3 5 rfl rfl)
theorem dX1_rests_76 : decode cX1_rests 76 = .ok (.iload 5, 2) := dk_21 5 (dk_at dksX1_rests_3 7 rfl rfl)
theorem dX1_rests_78 : decode cX1_rests 78 = .ok (.iconst 1, 1) := dk_4 (dk_at dksX1_rests_3 9 rfl rfl)
theorem dX1_rests_79 : decode cX1_rests 79 = .ok (.invokevirtual 461, 3) := dk_182 1 205 (dk_at dksX1_rests_3 10 rfl rfl)
theorem dX1_rests_82 : decode cX1_rests 82 = .ok (.if_icmp .le 6, 3) := dk_164 0 6 (dk_at dksX1_rests_3 13 rfl rfl)
theorem dX1_rests_85 : decode cX1_rests 85 = .ok (.goto 20, 3) := dk_167 0 20 (dk_at dksX1_rests_3 16 rfl rfl)
theorem dX1_rests_88 : decode cX1_rests 88 = .ok (.iload_n 3, 1) := dk_29 (dk_at dksX1_rests_3 19 rfl rfl)
theorem dX1_rests_89 : decode cX1_rests 89 = .ok (.iload_n 2, 1) := dk_28 (dk_at dksX1_rests_3 20 rfl rfl)
theorem dX1_rests_90 : decode cX1_rests 90 = .ok (.if_icmp .ne 12, 3) := dk_160 0 12 (dk_at dksX1_rests_3 21 rfl rfl)
theorem dX1_rests_93 : decode cX1_rests 93 = .ok (.bipush 10, 2) := dk_16 10 (dk_at dksX1_rests_4 0 rfl rfl)
theorem dX1_rests_95 : decode cX1_rests 95 = .ok (.iload 4, 2) := dk_21 4 (dk_at dksX1_rests_4 2 rfl rfl)
theorem dX1_rests_97 : decode cX1_rests 97 = .ok (.imul, 1) := dk_104 (dk_at dksX1_rests_4 4 rfl rfl)
theorem dX1_rests_98 : decode cX1_rests 98 = .ok (.iload 5, 2) := dk_21 5 (dk_at dksX1_rests_4 5 rfl rfl)
theorem dX1_rests_100 : decode cX1_rests 100 = .ok (.iadd, 1) := dk_96 (dk_at dksX1_rests_4 7 rfl rfl)
theorem dX1_rests_101 : decode cX1_rests 101 = .ok (.ireturn, 1) := dk_172 (dk_at dksX1_rests_4 8 rfl rfl)
theorem dX1_rests_102 : decode cX1_rests 102 = .ok (.iinc 3 1, 3) := dk_132 3 1 (dk_at dksX1_rests_4 9 rfl rfl)
theorem dX1_rests_105 : decode cX1_rests 105 = .ok (.iinc 5 1, 3) := dk_132 5 1 (dk_at dksX1_rests_4 12 rfl rfl)
theorem dX1_rests_108 : decode cX1_rests 108 = .ok (.goto (-79), 3) := dk_167 255 177 (dk_at dksX1_rests_4 15 rfl rfl)
theorem dX1_rests_111 : decode cX1_rests 111 = .ok (.iinc 4 1, 3) := dk_132 4 1 (dk_at dksX1_rests_4 18 rfl rfl)
theorem dX1_rests_114 : decode cX1_rests 114 = .ok (.goto (-94), 3) := dk_167 255 162 (dk_at dksX1_rests_4 21 rfl rfl)
theorem dX1_rests_117 : decode cX1_rests 117 = .ok (.iload_n 2, 1) := dk_28 (dk_at dksX1_rests_5 0 rfl rfl)
theorem dX1_rests_118 : decode cX1_rests 118 = .ok (.iconst (-1), 1) := dk_2 (dk_at dksX1_rests_5 1 rfl rfl)
theorem dX1_rests_119 : decode cX1_rests 119 = .ok (.if_icmp .ne 7, 3) := dk_160 0 7 (dk_at dksX1_rests_5 2 rfl rfl)
theorem dX1_rests_122 : decode cX1_rests 122 = .ok (.iload_n 3, 1) := dk_29 (dk_at dksX1_rests_5 5 rfl rfl)
theorem dX1_rests_123 : decode cX1_rests 123 = .ok (.goto 4, 3) := dk_167 0 4 (dk_at dksX1_rests_5 6 rfl rfl)
theorem dX1_rests_126 : decode cX1_rests 126 = .ok (.iconst (-1), 1) := dk_2 (dk_at dksX1_rests_5 9 rfl rfl)
theorem dX1_rests_127 : decode cX1_rests 127 = .ok (.ireturn, 1) := dk_172 (dk_at dksX1_rests_5 10 rfl rfl)
abbrev cX1_odds : ByteArray := prog_1_method_106_code
def yX1_odds : MethodName := ⟨RX1, "odds", "(III)I"⟩
def dkwX1_odds_6 : List UInt8 := [21, 4, 172]
abbrev dktX1_odds_6 : List UInt8 := dkwX1_odds_6 ++ []
def dkwX1_odds_5 : List UInt8 := [21, 6, 21, 6, 29, 184, 1, 212, 100, 96, 54, 4, 132, 7, 1, 167, 255, 200, 132, 5, 1, 167, 255, 156]
abbrev dktX1_odds_5 : List UInt8 := dkwX1_odds_5 ++ dktX1_odds_6
def dkwX1_odds_4 : List UInt8 := [182, 1, 80, 160, 0, 32, 21, 4, 21, 7, 4, 160, 0, 12, 21, 6, 29, 184, 1, 212, 167, 0, 12]
abbrev dktX1_odds_4 : List UInt8 := dkwX1_odds_4 ++ dktX1_odds_5
def dkwX1_odds_3 : List UInt8 := [54, 6, 3, 54, 7, 21, 7, 5, 162, 0, 56, 42, 27, 21, 5, 21, 7, 182, 1, 202, 42, 27, 3]
abbrev dktX1_odds_3 : List UInt8 := dkwX1_odds_3 ++ dktX1_odds_4
def dkwX1_odds_2 : List UInt8 := [160, 0, 13, 19, 1, 211, 28, 184, 1, 212, 167, 0, 14, 19, 1, 211, 19, 1, 211, 28, 184, 1, 212, 100]
abbrev dktX1_odds_2 : List UInt8 := dkwX1_odds_2 ++ dktX1_odds_3
def dkwX1_odds_1 : List UInt8 := [184, 0, 233, 154, 0, 5, 2, 172, 3, 54, 4, 3, 54, 5, 21, 5, 5, 162, 0, 100, 21, 5, 4]
abbrev dktX1_odds_1 : List UInt8 := dkwX1_odds_1 ++ dktX1_odds_2
def dkwX1_odds_0 : List UInt8 := [42, 27, 182, 1, 77, 153, 0, 23, 28, 3, 16, 100, 184, 0, 233, 153, 0, 13, 29, 3, 16, 100]
abbrev dktX1_odds_0 : List UInt8 := dkwX1_odds_0 ++ dktX1_odds_1
theorem dksX1_odds_0 : cX1_odds.data.toList.drop 0 = dktX1_odds_0 := by decide +kernel
theorem dksX1_odds_1 : cX1_odds.data.toList.drop 22 = dktX1_odds_1 := dk_seg dksX1_odds_0 22 rfl rfl
theorem dksX1_odds_2 : cX1_odds.data.toList.drop 45 = dktX1_odds_2 := dk_seg dksX1_odds_1 23 rfl rfl
theorem dksX1_odds_3 : cX1_odds.data.toList.drop 69 = dktX1_odds_3 := dk_seg dksX1_odds_2 24 rfl rfl
theorem dksX1_odds_4 : cX1_odds.data.toList.drop 92 = dktX1_odds_4 := dk_seg dksX1_odds_3 23 rfl rfl
theorem dksX1_odds_5 : cX1_odds.data.toList.drop 115 = dktX1_odds_5 := dk_seg dksX1_odds_4 23 rfl rfl
theorem dksX1_odds_6 : cX1_odds.data.toList.drop 139 = dktX1_odds_6 := dk_seg dksX1_odds_5 24 rfl rfl
theorem dX1_odds_0 : decode cX1_odds 0 = .ok (.aload_n 0, 1) := dk_42 (dk_at dksX1_odds_0 0 rfl rfl)
theorem dX1_odds_1 : decode cX1_odds 1 = .ok (.iload_n 1, 1) := dk_27 (dk_at dksX1_odds_0 1 rfl rfl)
theorem dX1_odds_2 : decode cX1_odds 2 = .ok (.invokevirtual 333, 3) := dk_182 1 77 (dk_at dksX1_odds_0 2 rfl rfl)
theorem dX1_odds_5 : decode cX1_odds 5 = .ok (.ifCond .eq 23, 3) := dk_153 0 23 (dk_at dksX1_odds_0 5 rfl rfl)
theorem dX1_odds_8 : decode cX1_odds 8 = .ok (.iload_n 2, 1) := dk_28 (dk_at dksX1_odds_0 8 rfl rfl)
theorem dX1_odds_9 : decode cX1_odds 9 = .ok (.iconst 0, 1) := dk_3 (dk_at dksX1_odds_0 9 rfl rfl)
theorem dX1_odds_10 : decode cX1_odds 10 = .ok (.bipush 100, 2) := dk_16 100 (dk_at dksX1_odds_0 10 rfl rfl)
theorem dX1_odds_12 : decode cX1_odds 12 = .ok (.invokestatic 233, 3) := dk_184 0 233 (dk_at dksX1_odds_0 12 rfl rfl)
theorem dX1_odds_15 : decode cX1_odds 15 = .ok (.ifCond .eq 13, 3) := dk_153 0 13 (dk_at dksX1_odds_0 15 rfl rfl)
theorem dX1_odds_18 : decode cX1_odds 18 = .ok (.iload_n 3, 1) := dk_29 (dk_at dksX1_odds_0 18 rfl rfl)
theorem dX1_odds_19 : decode cX1_odds 19 = .ok (.iconst 0, 1) := dk_3 (dk_at dksX1_odds_0 19 rfl rfl)
theorem dX1_odds_20 : decode cX1_odds 20 = .ok (.bipush 100, 2) := dk_16 100 (dk_at dksX1_odds_0 20 rfl rfl)
theorem dX1_odds_22 : decode cX1_odds 22 = .ok (.invokestatic 233, 3) := dk_184 0 233 (dk_at dksX1_odds_1 0 rfl rfl)
theorem dX1_odds_25 : decode cX1_odds 25 = .ok (.ifCond .ne 5, 3) := dk_154 0 5 (dk_at dksX1_odds_1 3 rfl rfl)
theorem dX1_odds_28 : decode cX1_odds 28 = .ok (.iconst (-1), 1) := dk_2 (dk_at dksX1_odds_1 6 rfl rfl)
theorem dX1_odds_29 : decode cX1_odds 29 = .ok (.ireturn, 1) := dk_172 (dk_at dksX1_odds_1 7 rfl rfl)
theorem dX1_odds_30 : decode cX1_odds 30 = .ok (.iconst 0, 1) := dk_3 (dk_at dksX1_odds_1 8 rfl rfl)
theorem dX1_odds_31 : decode cX1_odds 31 = .ok (.istore 4, 2) := dk_54 4 (dk_at dksX1_odds_1 9 rfl rfl)
theorem dX1_odds_33 : decode cX1_odds 33 = .ok (.iconst 0, 1) := dk_3 (dk_at dksX1_odds_1 11 rfl rfl)
theorem dX1_odds_34 : decode cX1_odds 34 = .ok (.istore 5, 2) := dk_54 5 (dk_at dksX1_odds_1 12 rfl rfl)
theorem dX1_odds_36 : decode cX1_odds 36 = .ok (.iload 5, 2) := dk_21 5 (dk_at dksX1_odds_1 14 rfl rfl)
theorem dX1_odds_38 : decode cX1_odds 38 = .ok (.iconst 2, 1) := dk_5 (dk_at dksX1_odds_1 16 rfl rfl)
theorem dX1_odds_39 : decode cX1_odds 39 = .ok (.if_icmp .ge 100, 3) := dk_162 0 100 (dk_at dksX1_odds_1 17 rfl rfl)
theorem dX1_odds_42 : decode cX1_odds 42 = .ok (.iload 5, 2) := dk_21 5 (dk_at dksX1_odds_1 20 rfl rfl)
theorem dX1_odds_44 : decode cX1_odds 44 = .ok (.iconst 1, 1) := dk_4 (dk_at dksX1_odds_1 22 rfl rfl)
theorem dX1_odds_45 : decode cX1_odds 45 = .ok (.if_icmp .ne 13, 3) := dk_160 0 13 (dk_at dksX1_odds_2 0 rfl rfl)
theorem dX1_odds_48 : decode cX1_odds 48 = .ok (.ldc_w 467, 3) := dk_19 1 211 (dk_at dksX1_odds_2 3 rfl rfl)
theorem dX1_odds_51 : decode cX1_odds 51 = .ok (.iload_n 2, 1) := dk_28 (dk_at dksX1_odds_2 6 rfl rfl)
theorem dX1_odds_52 : decode cX1_odds 52 = .ok (.invokestatic 468, 3) := dk_184 1 212 (dk_at dksX1_odds_2 7 rfl rfl)
theorem dX1_odds_55 : decode cX1_odds 55 = .ok (.goto 14, 3) := dk_167 0 14 (dk_at dksX1_odds_2 10 rfl rfl)
theorem dX1_odds_58 : decode cX1_odds 58 = .ok (.ldc_w 467, 3) := dk_19 1 211 (dk_at dksX1_odds_2 13 rfl rfl)
theorem dX1_odds_61 : decode cX1_odds 61 = .ok (.ldc_w 467, 3) := dk_19 1 211 (dk_at dksX1_odds_2 16 rfl rfl)
theorem dX1_odds_64 : decode cX1_odds 64 = .ok (.iload_n 2, 1) := dk_28 (dk_at dksX1_odds_2 19 rfl rfl)
theorem dX1_odds_65 : decode cX1_odds 65 = .ok (.invokestatic 468, 3) := dk_184 1 212 (dk_at dksX1_odds_2 20 rfl rfl)
theorem dX1_odds_68 : decode cX1_odds 68 = .ok (.isub, 1) := dk_100 (dk_at dksX1_odds_2 23 rfl rfl)
theorem dX1_odds_69 : decode cX1_odds 69 = .ok (.istore 6, 2) := dk_54 6 (dk_at dksX1_odds_3 0 rfl rfl)
theorem dX1_odds_71 : decode cX1_odds 71 = .ok (.iconst 0, 1) := dk_3 (dk_at dksX1_odds_3 2 rfl rfl)
theorem dX1_odds_72 : decode cX1_odds 72 = .ok (.istore 7, 2) := dk_54 7 (dk_at dksX1_odds_3 3 rfl rfl)
theorem dX1_odds_74 : decode cX1_odds 74 = .ok (.iload 7, 2) := dk_21 7 (dk_at dksX1_odds_3 5 rfl rfl)
theorem dX1_odds_76 : decode cX1_odds 76 = .ok (.iconst 2, 1) := dk_5 (dk_at dksX1_odds_3 7 rfl rfl)
theorem dX1_odds_77 : decode cX1_odds 77 = .ok (.if_icmp .ge 56, 3) := dk_162 0 56 (dk_at dksX1_odds_3 8 rfl rfl)
theorem dX1_odds_80 : decode cX1_odds 80 = .ok (.aload_n 0, 1) := dk_42 (dk_at dksX1_odds_3 11 rfl rfl)
theorem dX1_odds_81 : decode cX1_odds 81 = .ok (.iload_n 1, 1) := dk_27 (dk_at dksX1_odds_3 12 rfl rfl)
theorem dX1_odds_82 : decode cX1_odds 82 = .ok (.iload 5, 2) := dk_21 5 (dk_at dksX1_odds_3 13 rfl rfl)
theorem dX1_odds_84 : decode cX1_odds 84 = .ok (.iload 7, 2) := dk_21 7 (dk_at dksX1_odds_3 15 rfl rfl)
theorem dX1_odds_86 : decode cX1_odds 86 = .ok (.invokevirtual 458, 3) := dk_182 1 202 (dk_at dksX1_odds_3 17 rfl rfl)
theorem dX1_odds_89 : decode cX1_odds 89 = .ok (.aload_n 0, 1) := dk_42 (dk_at dksX1_odds_3 20 rfl rfl)
theorem dX1_odds_90 : decode cX1_odds 90 = .ok (.iload_n 1, 1) := dk_27 (dk_at dksX1_odds_3 21 rfl rfl)
theorem dX1_odds_91 : decode cX1_odds 91 = .ok (.iconst 0, 1) := dk_3 (dk_at dksX1_odds_3 22 rfl rfl)
theorem dX1_odds_92 : decode cX1_odds 92 = .ok (.invokevirtual 336, 3) := dk_182 1 80 (dk_at dksX1_odds_4 0 rfl rfl)
theorem dX1_odds_95 : decode cX1_odds 95 = .ok (.if_icmp .ne 32, 3) := dk_160 0 32 (dk_at dksX1_odds_4 3 rfl rfl)
theorem dX1_odds_98 : decode cX1_odds 98 = .ok (.iload 4, 2) := dk_21 4 (dk_at dksX1_odds_4 6 rfl rfl)
theorem dX1_odds_100 : decode cX1_odds 100 = .ok (.iload 7, 2) := dk_21 7 (dk_at dksX1_odds_4 8 rfl rfl)
theorem dX1_odds_102 : decode cX1_odds 102 = .ok (.iconst 1, 1) := dk_4 (dk_at dksX1_odds_4 10 rfl rfl)
theorem dX1_odds_103 : decode cX1_odds 103 = .ok (.if_icmp .ne 12, 3) := dk_160 0 12 (dk_at dksX1_odds_4 11 rfl rfl)
theorem dX1_odds_106 : decode cX1_odds 106 = .ok (.iload 6, 2) := dk_21 6 (dk_at dksX1_odds_4 14 rfl rfl)
theorem dX1_odds_108 : decode cX1_odds 108 = .ok (.iload_n 3, 1) := dk_29 (dk_at dksX1_odds_4 16 rfl rfl)
theorem dX1_odds_109 : decode cX1_odds 109 = .ok (.invokestatic 468, 3) := dk_184 1 212 (dk_at dksX1_odds_4 17 rfl rfl)
theorem dX1_odds_112 : decode cX1_odds 112 = .ok (.goto 12, 3) := dk_167 0 12 (dk_at dksX1_odds_4 20 rfl rfl)
theorem dX1_odds_115 : decode cX1_odds 115 = .ok (.iload 6, 2) := dk_21 6 (dk_at dksX1_odds_5 0 rfl rfl)
theorem dX1_odds_117 : decode cX1_odds 117 = .ok (.iload 6, 2) := dk_21 6 (dk_at dksX1_odds_5 2 rfl rfl)
theorem dX1_odds_119 : decode cX1_odds 119 = .ok (.iload_n 3, 1) := dk_29 (dk_at dksX1_odds_5 4 rfl rfl)
theorem dX1_odds_120 : decode cX1_odds 120 = .ok (.invokestatic 468, 3) := dk_184 1 212 (dk_at dksX1_odds_5 5 rfl rfl)
theorem dX1_odds_123 : decode cX1_odds 123 = .ok (.isub, 1) := dk_100 (dk_at dksX1_odds_5 8 rfl rfl)
theorem dX1_odds_124 : decode cX1_odds 124 = .ok (.iadd, 1) := dk_96 (dk_at dksX1_odds_5 9 rfl rfl)
theorem dX1_odds_125 : decode cX1_odds 125 = .ok (.istore 4, 2) := dk_54 4 (dk_at dksX1_odds_5 10 rfl rfl)
theorem dX1_odds_127 : decode cX1_odds 127 = .ok (.iinc 7 1, 3) := dk_132 7 1 (dk_at dksX1_odds_5 12 rfl rfl)
theorem dX1_odds_130 : decode cX1_odds 130 = .ok (.goto (-56), 3) := dk_167 255 200 (dk_at dksX1_odds_5 15 rfl rfl)
theorem dX1_odds_133 : decode cX1_odds 133 = .ok (.iinc 5 1, 3) := dk_132 5 1 (dk_at dksX1_odds_5 18 rfl rfl)
theorem dX1_odds_136 : decode cX1_odds 136 = .ok (.goto (-100), 3) := dk_167 255 156 (dk_at dksX1_odds_5 21 rfl rfl)
theorem dX1_odds_139 : decode cX1_odds 139 = .ok (.iload 4, 2) := dk_21 4 (dk_at dksX1_odds_6 0 rfl rfl)
theorem dX1_odds_141 : decode cX1_odds 141 = .ok (.ireturn, 1) := dk_172 (dk_at dksX1_odds_6 2 rfl rfl)
abbrev cX1_share : ByteArray := prog_1_method_105_code
def yX1_share : MethodName := ⟨RX1, "share", "(II)I"⟩
def dkwX1_share_0 : List UInt8 := [26, 133, 27, 133, 105, 20, 1, 209, 109, 136, 172]
abbrev dktX1_share_0 : List UInt8 := dkwX1_share_0 ++ []
theorem dksX1_share_0 : cX1_share.data.toList.drop 0 = dktX1_share_0 := by decide +kernel
theorem dX1_share_0 : decode cX1_share 0 = .ok (.iload_n 0, 1) := dk_26 (dk_at dksX1_share_0 0 rfl rfl)
theorem dX1_share_1 : decode cX1_share 1 = .ok (.i2l, 1) := dk_133 (dk_at dksX1_share_0 1 rfl rfl)
theorem dX1_share_2 : decode cX1_share 2 = .ok (.iload_n 1, 1) := dk_27 (dk_at dksX1_share_0 2 rfl rfl)
theorem dX1_share_3 : decode cX1_share 3 = .ok (.i2l, 1) := dk_133 (dk_at dksX1_share_0 3 rfl rfl)
theorem dX1_share_4 : decode cX1_share 4 = .ok (.lmul, 1) := dk_105 (dk_at dksX1_share_0 4 rfl rfl)
theorem dX1_share_5 : decode cX1_share 5 = .ok (.ldc2_w 465, 3) := dk_20 1 209 (dk_at dksX1_share_0 5 rfl rfl)
theorem dX1_share_8 : decode cX1_share 8 = .ok (.ldiv, 1) := dk_109 (dk_at dksX1_share_0 8 rfl rfl)
theorem dX1_share_9 : decode cX1_share 9 = .ok (.l2i, 1) := dk_136 (dk_at dksX1_share_0 9 rfl rfl)
theorem dX1_share_10 : decode cX1_share 10 = .ok (.ireturn, 1) := dk_172 (dk_at dksX1_share_0 10 rfl rfl)
abbrev cX1_shares : ByteArray := prog_1_method_107_code
def yX1_shares : MethodName := ⟨RX1, "shares", "(II)I"⟩
def dkwX1_shares_2 : List UInt8 := [16, 19, 46, 108, 172]
abbrev dktX1_shares_2 : List UInt8 := dkwX1_shares_2 ++ []
def dkwX1_shares_1 : List UInt8 := [180, 0, 58, 16, 19, 46, 154, 0, 7, 3, 167, 0, 18, 28, 42, 27, 182, 1, 74, 104, 42, 180, 0, 58]
abbrev dktX1_shares_1 : List UInt8 := dkwX1_shares_1 ++ dktX1_shares_2
def dkwX1_shares_0 : List UInt8 := [42, 27, 182, 1, 68, 153, 0, 14, 28, 3, 17, 3, 231, 184, 0, 233, 154, 0, 5, 2, 172, 42]
abbrev dktX1_shares_0 : List UInt8 := dkwX1_shares_0 ++ dktX1_shares_1
theorem dksX1_shares_0 : cX1_shares.data.toList.drop 0 = dktX1_shares_0 := by decide +kernel
theorem dksX1_shares_1 : cX1_shares.data.toList.drop 22 = dktX1_shares_1 := dk_seg dksX1_shares_0 22 rfl rfl
theorem dksX1_shares_2 : cX1_shares.data.toList.drop 46 = dktX1_shares_2 := dk_seg dksX1_shares_1 24 rfl rfl
theorem dX1_shares_0 : decode cX1_shares 0 = .ok (.aload_n 0, 1) := dk_42 (dk_at dksX1_shares_0 0 rfl rfl)
theorem dX1_shares_1 : decode cX1_shares 1 = .ok (.iload_n 1, 1) := dk_27 (dk_at dksX1_shares_0 1 rfl rfl)
theorem dX1_shares_2 : decode cX1_shares 2 = .ok (.invokevirtual 324, 3) := dk_182 1 68 (dk_at dksX1_shares_0 2 rfl rfl)
theorem dX1_shares_5 : decode cX1_shares 5 = .ok (.ifCond .eq 14, 3) := dk_153 0 14 (dk_at dksX1_shares_0 5 rfl rfl)
theorem dX1_shares_8 : decode cX1_shares 8 = .ok (.iload_n 2, 1) := dk_28 (dk_at dksX1_shares_0 8 rfl rfl)
theorem dX1_shares_9 : decode cX1_shares 9 = .ok (.iconst 0, 1) := dk_3 (dk_at dksX1_shares_0 9 rfl rfl)
theorem dX1_shares_10 : decode cX1_shares 10 = .ok (.sipush 999, 3) := dk_17 3 231 (dk_at dksX1_shares_0 10 rfl rfl)
theorem dX1_shares_13 : decode cX1_shares 13 = .ok (.invokestatic 233, 3) := dk_184 0 233 (dk_at dksX1_shares_0 13 rfl rfl)
theorem dX1_shares_16 : decode cX1_shares 16 = .ok (.ifCond .ne 5, 3) := dk_154 0 5 (dk_at dksX1_shares_0 16 rfl rfl)
theorem dX1_shares_19 : decode cX1_shares 19 = .ok (.iconst (-1), 1) := dk_2 (dk_at dksX1_shares_0 19 rfl rfl)
theorem dX1_shares_20 : decode cX1_shares 20 = .ok (.ireturn, 1) := dk_172 (dk_at dksX1_shares_0 20 rfl rfl)
theorem dX1_shares_21 : decode cX1_shares 21 = .ok (.aload_n 0, 1) := dk_42 (dk_at dksX1_shares_0 21 rfl rfl)
theorem dX1_shares_22 : decode cX1_shares 22 = .ok (.getfield 58, 3) := dk_180 0 58 (dk_at dksX1_shares_1 0 rfl rfl)
theorem dX1_shares_25 : decode cX1_shares 25 = .ok (.bipush 19, 2) := dk_16 19 (dk_at dksX1_shares_1 3 rfl rfl)
theorem dX1_shares_27 : decode cX1_shares 27 = .ok (.iaload, 1) := dk_46 (dk_at dksX1_shares_1 5 rfl rfl)
theorem dX1_shares_28 : decode cX1_shares 28 = .ok (.ifCond .ne 7, 3) := dk_154 0 7 (dk_at dksX1_shares_1 6 rfl rfl)
theorem dX1_shares_31 : decode cX1_shares 31 = .ok (.iconst 0, 1) := dk_3 (dk_at dksX1_shares_1 9 rfl rfl)
theorem dX1_shares_32 : decode cX1_shares 32 = .ok (.goto 18, 3) := dk_167 0 18 (dk_at dksX1_shares_1 10 rfl rfl)
theorem dX1_shares_35 : decode cX1_shares 35 = .ok (.iload_n 2, 1) := dk_28 (dk_at dksX1_shares_1 13 rfl rfl)
theorem dX1_shares_36 : decode cX1_shares 36 = .ok (.aload_n 0, 1) := dk_42 (dk_at dksX1_shares_1 14 rfl rfl)
theorem dX1_shares_37 : decode cX1_shares 37 = .ok (.iload_n 1, 1) := dk_27 (dk_at dksX1_shares_1 15 rfl rfl)
theorem dX1_shares_38 : decode cX1_shares 38 = .ok (.invokevirtual 330, 3) := dk_182 1 74 (dk_at dksX1_shares_1 16 rfl rfl)
theorem dX1_shares_41 : decode cX1_shares 41 = .ok (.imul, 1) := dk_104 (dk_at dksX1_shares_1 19 rfl rfl)
theorem dX1_shares_42 : decode cX1_shares 42 = .ok (.aload_n 0, 1) := dk_42 (dk_at dksX1_shares_1 20 rfl rfl)
theorem dX1_shares_43 : decode cX1_shares 43 = .ok (.getfield 58, 3) := dk_180 0 58 (dk_at dksX1_shares_1 21 rfl rfl)
theorem dX1_shares_46 : decode cX1_shares 46 = .ok (.bipush 19, 2) := dk_16 19 (dk_at dksX1_shares_2 0 rfl rfl)
theorem dX1_shares_48 : decode cX1_shares 48 = .ok (.iaload, 1) := dk_46 (dk_at dksX1_shares_2 2 rfl rfl)
theorem dX1_shares_49 : decode cX1_shares 49 = .ok (.idiv, 1) := dk_108 (dk_at dksX1_shares_2 3 rfl rfl)
theorem dX1_shares_50 : decode cX1_shares 50 = .ok (.ireturn, 1) := dk_172 (dk_at dksX1_shares_2 4 rfl rfl)
abbrev cX1_all : ByteArray := prog_1_method_116_code
def yX1_all : MethodName := ⟨RX1, "all", "(I)I"⟩
def dkwX1_all_4 : List UInt8 := [182, 1, 234, 172, 42, 27, 182, 1, 237, 172]
abbrev dktX1_all_4 : List UInt8 := dkwX1_all_4 ++ []
def dkwX1_all_3 : List UInt8 := [182, 1, 228, 172, 42, 180, 0, 58, 16, 18, 46, 42, 180, 1, 52, 112, 172, 42, 182, 1, 231, 172, 42]
abbrev dktX1_all_3 : List UInt8 := dkwX1_all_3 ++ dktX1_all_4
def dkwX1_all_2 : List UInt8 := [42, 4, 182, 1, 218, 172, 42, 3, 182, 1, 218, 172, 42, 182, 1, 222, 172, 42, 182, 1, 225, 172, 42]
abbrev dktX1_all_2 : List UInt8 := dkwX1_all_2 ++ dktX1_all_3
def dkwX1_all_1 : List UInt8 := [170, 0, 0, 0, 0, 0, 0, 98, 0, 0, 0, 5, 0, 0, 0, 12, 0, 0, 0, 48, 0, 0, 0, 54, 0, 0, 0, 60, 0, 0, 0, 65, 0, 0, 0, 70, 0, 0, 0, 75, 0, 0, 0, 88, 0, 0, 0, 93]
abbrev dktX1_all_1 : List UInt8 := dkwX1_all_1 ++ dktX1_all_2
def dkwX1_all_0 : List UInt8 := [42, 182, 1, 117, 153, 0, 13, 27, 3, 16, 12, 184, 0, 233, 154, 0, 5, 2, 172, 27]
abbrev dktX1_all_0 : List UInt8 := dkwX1_all_0 ++ dktX1_all_1
theorem dksX1_all_0 : cX1_all.data.toList.drop 0 = dktX1_all_0 := by decide +kernel
theorem dksX1_all_1 : cX1_all.data.toList.drop 20 = dktX1_all_1 := dk_seg dksX1_all_0 20 rfl rfl
theorem dksX1_all_2 : cX1_all.data.toList.drop 68 = dktX1_all_2 := dk_seg dksX1_all_1 48 rfl rfl
theorem dksX1_all_3 : cX1_all.data.toList.drop 91 = dktX1_all_3 := dk_seg dksX1_all_2 23 rfl rfl
theorem dksX1_all_4 : cX1_all.data.toList.drop 114 = dktX1_all_4 := dk_seg dksX1_all_3 23 rfl rfl
theorem dX1_all_0 : decode cX1_all 0 = .ok (.aload_n 0, 1) := dk_42 (dk_at dksX1_all_0 0 rfl rfl)
theorem dX1_all_1 : decode cX1_all 1 = .ok (.invokevirtual 373, 3) := dk_182 1 117 (dk_at dksX1_all_0 1 rfl rfl)
theorem dX1_all_4 : decode cX1_all 4 = .ok (.ifCond .eq 13, 3) := dk_153 0 13 (dk_at dksX1_all_0 4 rfl rfl)
theorem dX1_all_7 : decode cX1_all 7 = .ok (.iload_n 1, 1) := dk_27 (dk_at dksX1_all_0 7 rfl rfl)
theorem dX1_all_8 : decode cX1_all 8 = .ok (.iconst 0, 1) := dk_3 (dk_at dksX1_all_0 8 rfl rfl)
theorem dX1_all_9 : decode cX1_all 9 = .ok (.bipush 12, 2) := dk_16 12 (dk_at dksX1_all_0 9 rfl rfl)
theorem dX1_all_11 : decode cX1_all 11 = .ok (.invokestatic 233, 3) := dk_184 0 233 (dk_at dksX1_all_0 11 rfl rfl)
theorem dX1_all_14 : decode cX1_all 14 = .ok (.ifCond .ne 5, 3) := dk_154 0 5 (dk_at dksX1_all_0 14 rfl rfl)
theorem dX1_all_17 : decode cX1_all 17 = .ok (.iconst (-1), 1) := dk_2 (dk_at dksX1_all_0 17 rfl rfl)
theorem dX1_all_18 : decode cX1_all 18 = .ok (.ireturn, 1) := dk_172 (dk_at dksX1_all_0 18 rfl rfl)
theorem dX1_all_19 : decode cX1_all 19 = .ok (.iload_n 1, 1) := dk_27 (dk_at dksX1_all_0 19 rfl rfl)
theorem dX1_all_20 : decode cX1_all 20 = .ok (.tableswitch 98 5 12 #[48, 54, 60, 65, 70, 75, 88, 93], 48) := by decide +kernel
theorem dX1_all_68 : decode cX1_all 68 = .ok (.aload_n 0, 1) := dk_42 (dk_at dksX1_all_2 0 rfl rfl)
theorem dX1_all_69 : decode cX1_all 69 = .ok (.iconst 1, 1) := dk_4 (dk_at dksX1_all_2 1 rfl rfl)
theorem dX1_all_70 : decode cX1_all 70 = .ok (.invokevirtual 474, 3) := dk_182 1 218 (dk_at dksX1_all_2 2 rfl rfl)
theorem dX1_all_73 : decode cX1_all 73 = .ok (.ireturn, 1) := dk_172 (dk_at dksX1_all_2 5 rfl rfl)
theorem dX1_all_74 : decode cX1_all 74 = .ok (.aload_n 0, 1) := dk_42 (dk_at dksX1_all_2 6 rfl rfl)
theorem dX1_all_75 : decode cX1_all 75 = .ok (.iconst 0, 1) := dk_3 (dk_at dksX1_all_2 7 rfl rfl)
theorem dX1_all_76 : decode cX1_all 76 = .ok (.invokevirtual 474, 3) := dk_182 1 218 (dk_at dksX1_all_2 8 rfl rfl)
theorem dX1_all_79 : decode cX1_all 79 = .ok (.ireturn, 1) := dk_172 (dk_at dksX1_all_2 11 rfl rfl)
theorem dX1_all_80 : decode cX1_all 80 = .ok (.aload_n 0, 1) := dk_42 (dk_at dksX1_all_2 12 rfl rfl)
theorem dX1_all_81 : decode cX1_all 81 = .ok (.invokevirtual 478, 3) := dk_182 1 222 (dk_at dksX1_all_2 13 rfl rfl)
theorem dX1_all_84 : decode cX1_all 84 = .ok (.ireturn, 1) := dk_172 (dk_at dksX1_all_2 16 rfl rfl)
theorem dX1_all_85 : decode cX1_all 85 = .ok (.aload_n 0, 1) := dk_42 (dk_at dksX1_all_2 17 rfl rfl)
theorem dX1_all_86 : decode cX1_all 86 = .ok (.invokevirtual 481, 3) := dk_182 1 225 (dk_at dksX1_all_2 18 rfl rfl)
theorem dX1_all_89 : decode cX1_all 89 = .ok (.ireturn, 1) := dk_172 (dk_at dksX1_all_2 21 rfl rfl)
theorem dX1_all_90 : decode cX1_all 90 = .ok (.aload_n 0, 1) := dk_42 (dk_at dksX1_all_2 22 rfl rfl)
theorem dX1_all_91 : decode cX1_all 91 = .ok (.invokevirtual 484, 3) := dk_182 1 228 (dk_at dksX1_all_3 0 rfl rfl)
theorem dX1_all_94 : decode cX1_all 94 = .ok (.ireturn, 1) := dk_172 (dk_at dksX1_all_3 3 rfl rfl)
theorem dX1_all_95 : decode cX1_all 95 = .ok (.aload_n 0, 1) := dk_42 (dk_at dksX1_all_3 4 rfl rfl)
theorem dX1_all_96 : decode cX1_all 96 = .ok (.getfield 58, 3) := dk_180 0 58 (dk_at dksX1_all_3 5 rfl rfl)
theorem dX1_all_99 : decode cX1_all 99 = .ok (.bipush 18, 2) := dk_16 18 (dk_at dksX1_all_3 8 rfl rfl)
theorem dX1_all_101 : decode cX1_all 101 = .ok (.iaload, 1) := dk_46 (dk_at dksX1_all_3 10 rfl rfl)
theorem dX1_all_102 : decode cX1_all 102 = .ok (.aload_n 0, 1) := dk_42 (dk_at dksX1_all_3 11 rfl rfl)
theorem dX1_all_103 : decode cX1_all 103 = .ok (.getfield 308, 3) := dk_180 1 52 (dk_at dksX1_all_3 12 rfl rfl)
theorem dX1_all_106 : decode cX1_all 106 = .ok (.irem, 1) := dk_112 (dk_at dksX1_all_3 15 rfl rfl)
theorem dX1_all_107 : decode cX1_all 107 = .ok (.ireturn, 1) := dk_172 (dk_at dksX1_all_3 16 rfl rfl)
theorem dX1_all_108 : decode cX1_all 108 = .ok (.aload_n 0, 1) := dk_42 (dk_at dksX1_all_3 17 rfl rfl)
theorem dX1_all_109 : decode cX1_all 109 = .ok (.invokevirtual 487, 3) := dk_182 1 231 (dk_at dksX1_all_3 18 rfl rfl)
theorem dX1_all_112 : decode cX1_all 112 = .ok (.ireturn, 1) := dk_172 (dk_at dksX1_all_3 21 rfl rfl)
theorem dX1_all_113 : decode cX1_all 113 = .ok (.aload_n 0, 1) := dk_42 (dk_at dksX1_all_3 22 rfl rfl)
theorem dX1_all_114 : decode cX1_all 114 = .ok (.invokevirtual 490, 3) := dk_182 1 234 (dk_at dksX1_all_4 0 rfl rfl)
theorem dX1_all_117 : decode cX1_all 117 = .ok (.ireturn, 1) := dk_172 (dk_at dksX1_all_4 3 rfl rfl)
theorem dX1_all_118 : decode cX1_all 118 = .ok (.aload_n 0, 1) := dk_42 (dk_at dksX1_all_4 4 rfl rfl)
theorem dX1_all_119 : decode cX1_all 119 = .ok (.iload_n 1, 1) := dk_27 (dk_at dksX1_all_4 5 rfl rfl)
theorem dX1_all_120 : decode cX1_all 120 = .ok (.invokevirtual 493, 3) := dk_182 1 237 (dk_at dksX1_all_4 6 rfl rfl)
theorem dX1_all_123 : decode cX1_all 123 = .ok (.ireturn, 1) := dk_172 (dk_at dksX1_all_4 9 rfl rfl)
abbrev cX1_believers : ByteArray := prog_1_method_110_code
def yX1_believers : MethodName := ⟨RX1, "believers", "(Z)I"⟩
def dkwX1_believers_2 : List UInt8 := [4, 29, 120, 128, 61, 132, 3, 1, 167, 255, 204, 28, 172]
abbrev dktX1_believers_2 : List UInt8 := dkwX1_believers_2 ++ []
def dkwX1_believers_1 : List UInt8 := [42, 180, 0, 58, 16, 12, 29, 96, 46, 158, 0, 20, 167, 0, 11, 42, 29, 182, 1, 74, 158, 0, 9, 28]
abbrev dktX1_believers_1 : List UInt8 := dkwX1_believers_1 ++ dktX1_believers_2
def dkwX1_believers_0 : List UInt8 := [3, 61, 3, 62, 29, 42, 180, 1, 49, 162, 0, 50, 27, 153, 0, 26, 42, 29, 182, 1, 74, 154, 0, 32]
abbrev dktX1_believers_0 : List UInt8 := dkwX1_believers_0 ++ dktX1_believers_1
theorem dksX1_believers_0 : cX1_believers.data.toList.drop 0 = dktX1_believers_0 := by decide +kernel
theorem dksX1_believers_1 : cX1_believers.data.toList.drop 24 = dktX1_believers_1 := dk_seg dksX1_believers_0 24 rfl rfl
theorem dksX1_believers_2 : cX1_believers.data.toList.drop 48 = dktX1_believers_2 := dk_seg dksX1_believers_1 24 rfl rfl
theorem dX1_believers_0 : decode cX1_believers 0 = .ok (.iconst 0, 1) := dk_3 (dk_at dksX1_believers_0 0 rfl rfl)
theorem dX1_believers_1 : decode cX1_believers 1 = .ok (.istore_n 2, 1) := dk_61 (dk_at dksX1_believers_0 1 rfl rfl)
theorem dX1_believers_2 : decode cX1_believers 2 = .ok (.iconst 0, 1) := dk_3 (dk_at dksX1_believers_0 2 rfl rfl)
theorem dX1_believers_3 : decode cX1_believers 3 = .ok (.istore_n 3, 1) := dk_62 (dk_at dksX1_believers_0 3 rfl rfl)
theorem dX1_believers_4 : decode cX1_believers 4 = .ok (.iload_n 3, 1) := dk_29 (dk_at dksX1_believers_0 4 rfl rfl)
theorem dX1_believers_5 : decode cX1_believers 5 = .ok (.aload_n 0, 1) := dk_42 (dk_at dksX1_believers_0 5 rfl rfl)
theorem dX1_believers_6 : decode cX1_believers 6 = .ok (.getfield 305, 3) := dk_180 1 49 (dk_at dksX1_believers_0 6 rfl rfl)
theorem dX1_believers_9 : decode cX1_believers 9 = .ok (.if_icmp .ge 50, 3) := dk_162 0 50 (dk_at dksX1_believers_0 9 rfl rfl)
theorem dX1_believers_12 : decode cX1_believers 12 = .ok (.iload_n 1, 1) := dk_27 (dk_at dksX1_believers_0 12 rfl rfl)
theorem dX1_believers_13 : decode cX1_believers 13 = .ok (.ifCond .eq 26, 3) := dk_153 0 26 (dk_at dksX1_believers_0 13 rfl rfl)
theorem dX1_believers_16 : decode cX1_believers 16 = .ok (.aload_n 0, 1) := dk_42 (dk_at dksX1_believers_0 16 rfl rfl)
theorem dX1_believers_17 : decode cX1_believers 17 = .ok (.iload_n 3, 1) := dk_29 (dk_at dksX1_believers_0 17 rfl rfl)
theorem dX1_believers_18 : decode cX1_believers 18 = .ok (.invokevirtual 330, 3) := dk_182 1 74 (dk_at dksX1_believers_0 18 rfl rfl)
theorem dX1_believers_21 : decode cX1_believers 21 = .ok (.ifCond .ne 32, 3) := dk_154 0 32 (dk_at dksX1_believers_0 21 rfl rfl)
theorem dX1_believers_24 : decode cX1_believers 24 = .ok (.aload_n 0, 1) := dk_42 (dk_at dksX1_believers_1 0 rfl rfl)
theorem dX1_believers_25 : decode cX1_believers 25 = .ok (.getfield 58, 3) := dk_180 0 58 (dk_at dksX1_believers_1 1 rfl rfl)
theorem dX1_believers_28 : decode cX1_believers 28 = .ok (.bipush 12, 2) := dk_16 12 (dk_at dksX1_believers_1 4 rfl rfl)
theorem dX1_believers_30 : decode cX1_believers 30 = .ok (.iload_n 3, 1) := dk_29 (dk_at dksX1_believers_1 6 rfl rfl)
theorem dX1_believers_31 : decode cX1_believers 31 = .ok (.iadd, 1) := dk_96 (dk_at dksX1_believers_1 7 rfl rfl)
theorem dX1_believers_32 : decode cX1_believers 32 = .ok (.iaload, 1) := dk_46 (dk_at dksX1_believers_1 8 rfl rfl)
theorem dX1_believers_33 : decode cX1_believers 33 = .ok (.ifCond .le 20, 3) := dk_158 0 20 (dk_at dksX1_believers_1 9 rfl rfl)
theorem dX1_believers_36 : decode cX1_believers 36 = .ok (.goto 11, 3) := dk_167 0 11 (dk_at dksX1_believers_1 12 rfl rfl)
theorem dX1_believers_39 : decode cX1_believers 39 = .ok (.aload_n 0, 1) := dk_42 (dk_at dksX1_believers_1 15 rfl rfl)
theorem dX1_believers_40 : decode cX1_believers 40 = .ok (.iload_n 3, 1) := dk_29 (dk_at dksX1_believers_1 16 rfl rfl)
theorem dX1_believers_41 : decode cX1_believers 41 = .ok (.invokevirtual 330, 3) := dk_182 1 74 (dk_at dksX1_believers_1 17 rfl rfl)
theorem dX1_believers_44 : decode cX1_believers 44 = .ok (.ifCond .le 9, 3) := dk_158 0 9 (dk_at dksX1_believers_1 20 rfl rfl)
theorem dX1_believers_47 : decode cX1_believers 47 = .ok (.iload_n 2, 1) := dk_28 (dk_at dksX1_believers_1 23 rfl rfl)
theorem dX1_believers_48 : decode cX1_believers 48 = .ok (.iconst 1, 1) := dk_4 (dk_at dksX1_believers_2 0 rfl rfl)
theorem dX1_believers_49 : decode cX1_believers 49 = .ok (.iload_n 3, 1) := dk_29 (dk_at dksX1_believers_2 1 rfl rfl)
theorem dX1_believers_50 : decode cX1_believers 50 = .ok (.ishl, 1) := dk_120 (dk_at dksX1_believers_2 2 rfl rfl)
theorem dX1_believers_51 : decode cX1_believers 51 = .ok (.ior, 1) := dk_128 (dk_at dksX1_believers_2 3 rfl rfl)
theorem dX1_believers_52 : decode cX1_believers 52 = .ok (.istore_n 2, 1) := dk_61 (dk_at dksX1_believers_2 4 rfl rfl)
theorem dX1_believers_53 : decode cX1_believers 53 = .ok (.iinc 3 1, 3) := dk_132 3 1 (dk_at dksX1_believers_2 5 rfl rfl)
theorem dX1_believers_56 : decode cX1_believers 56 = .ok (.goto (-52), 3) := dk_167 255 204 (dk_at dksX1_believers_2 8 rfl rfl)
theorem dX1_believers_59 : decode cX1_believers 59 = .ok (.iload_n 2, 1) := dk_28 (dk_at dksX1_believers_2 11 rfl rfl)
theorem dX1_believers_60 : decode cX1_believers 60 = .ok (.ireturn, 1) := dk_172 (dk_at dksX1_believers_2 12 rfl rfl)
abbrev cX1_winsOfAll : ByteArray := prog_1_method_111_code
def yX1_winsOfAll : MethodName := ⟨RX1, "winsOfAll", "()I"⟩
def dkwX1_winsOfAll_1 : List UInt8 := [132, 2, 1, 167, 255, 233, 27, 172]
abbrev dktX1_winsOfAll_1 : List UInt8 := dkwX1_winsOfAll_1 ++ []
def dkwX1_winsOfAll_0 : List UInt8 := [3, 60, 3, 61, 28, 42, 180, 1, 49, 162, 0, 21, 27, 42, 180, 0, 58, 16, 12, 28, 96, 46, 96, 60]
abbrev dktX1_winsOfAll_0 : List UInt8 := dkwX1_winsOfAll_0 ++ dktX1_winsOfAll_1
theorem dksX1_winsOfAll_0 : cX1_winsOfAll.data.toList.drop 0 = dktX1_winsOfAll_0 := by decide +kernel
theorem dksX1_winsOfAll_1 : cX1_winsOfAll.data.toList.drop 24 = dktX1_winsOfAll_1 := dk_seg dksX1_winsOfAll_0 24 rfl rfl
theorem dX1_winsOfAll_0 : decode cX1_winsOfAll 0 = .ok (.iconst 0, 1) := dk_3 (dk_at dksX1_winsOfAll_0 0 rfl rfl)
theorem dX1_winsOfAll_1 : decode cX1_winsOfAll 1 = .ok (.istore_n 1, 1) := dk_60 (dk_at dksX1_winsOfAll_0 1 rfl rfl)
theorem dX1_winsOfAll_2 : decode cX1_winsOfAll 2 = .ok (.iconst 0, 1) := dk_3 (dk_at dksX1_winsOfAll_0 2 rfl rfl)
theorem dX1_winsOfAll_3 : decode cX1_winsOfAll 3 = .ok (.istore_n 2, 1) := dk_61 (dk_at dksX1_winsOfAll_0 3 rfl rfl)
theorem dX1_winsOfAll_4 : decode cX1_winsOfAll 4 = .ok (.iload_n 2, 1) := dk_28 (dk_at dksX1_winsOfAll_0 4 rfl rfl)
theorem dX1_winsOfAll_5 : decode cX1_winsOfAll 5 = .ok (.aload_n 0, 1) := dk_42 (dk_at dksX1_winsOfAll_0 5 rfl rfl)
theorem dX1_winsOfAll_6 : decode cX1_winsOfAll 6 = .ok (.getfield 305, 3) := dk_180 1 49 (dk_at dksX1_winsOfAll_0 6 rfl rfl)
theorem dX1_winsOfAll_9 : decode cX1_winsOfAll 9 = .ok (.if_icmp .ge 21, 3) := dk_162 0 21 (dk_at dksX1_winsOfAll_0 9 rfl rfl)
theorem dX1_winsOfAll_12 : decode cX1_winsOfAll 12 = .ok (.iload_n 1, 1) := dk_27 (dk_at dksX1_winsOfAll_0 12 rfl rfl)
theorem dX1_winsOfAll_13 : decode cX1_winsOfAll 13 = .ok (.aload_n 0, 1) := dk_42 (dk_at dksX1_winsOfAll_0 13 rfl rfl)
theorem dX1_winsOfAll_14 : decode cX1_winsOfAll 14 = .ok (.getfield 58, 3) := dk_180 0 58 (dk_at dksX1_winsOfAll_0 14 rfl rfl)
theorem dX1_winsOfAll_17 : decode cX1_winsOfAll 17 = .ok (.bipush 12, 2) := dk_16 12 (dk_at dksX1_winsOfAll_0 17 rfl rfl)
theorem dX1_winsOfAll_19 : decode cX1_winsOfAll 19 = .ok (.iload_n 2, 1) := dk_28 (dk_at dksX1_winsOfAll_0 19 rfl rfl)
theorem dX1_winsOfAll_20 : decode cX1_winsOfAll 20 = .ok (.iadd, 1) := dk_96 (dk_at dksX1_winsOfAll_0 20 rfl rfl)
theorem dX1_winsOfAll_21 : decode cX1_winsOfAll 21 = .ok (.iaload, 1) := dk_46 (dk_at dksX1_winsOfAll_0 21 rfl rfl)
theorem dX1_winsOfAll_22 : decode cX1_winsOfAll 22 = .ok (.iadd, 1) := dk_96 (dk_at dksX1_winsOfAll_0 22 rfl rfl)
theorem dX1_winsOfAll_23 : decode cX1_winsOfAll 23 = .ok (.istore_n 1, 1) := dk_60 (dk_at dksX1_winsOfAll_0 23 rfl rfl)
theorem dX1_winsOfAll_24 : decode cX1_winsOfAll 24 = .ok (.iinc 2 1, 3) := dk_132 2 1 (dk_at dksX1_winsOfAll_1 0 rfl rfl)
theorem dX1_winsOfAll_27 : decode cX1_winsOfAll 27 = .ok (.goto (-23), 3) := dk_167 255 233 (dk_at dksX1_winsOfAll_1 3 rfl rfl)
theorem dX1_winsOfAll_30 : decode cX1_winsOfAll 30 = .ok (.iload_n 1, 1) := dk_27 (dk_at dksX1_winsOfAll_1 6 rfl rfl)
theorem dX1_winsOfAll_31 : decode cX1_winsOfAll 31 = .ok (.ireturn, 1) := dk_172 (dk_at dksX1_winsOfAll_1 7 rfl rfl)
abbrev cX1_bloodiest : ByteArray := prog_1_method_112_code
def yX1_bloodiest : MethodName := ⟨RX1, "bloodiest", "()I"⟩
def dkwX1_bloodiest_1 : List UInt8 := [164, 0, 5, 28, 60, 132, 2, 1, 167, 255, 228, 27, 172]
abbrev dktX1_bloodiest_1 : List UInt8 := dkwX1_bloodiest_1 ++ []
def dkwX1_bloodiest_0 : List UInt8 := [3, 60, 4, 61, 28, 42, 180, 1, 52, 162, 0, 26, 42, 28, 6, 182, 1, 80, 42, 27, 6, 182, 1, 80]
abbrev dktX1_bloodiest_0 : List UInt8 := dkwX1_bloodiest_0 ++ dktX1_bloodiest_1
theorem dksX1_bloodiest_0 : cX1_bloodiest.data.toList.drop 0 = dktX1_bloodiest_0 := by decide +kernel
theorem dksX1_bloodiest_1 : cX1_bloodiest.data.toList.drop 24 = dktX1_bloodiest_1 := dk_seg dksX1_bloodiest_0 24 rfl rfl
theorem dX1_bloodiest_0 : decode cX1_bloodiest 0 = .ok (.iconst 0, 1) := dk_3 (dk_at dksX1_bloodiest_0 0 rfl rfl)
theorem dX1_bloodiest_1 : decode cX1_bloodiest 1 = .ok (.istore_n 1, 1) := dk_60 (dk_at dksX1_bloodiest_0 1 rfl rfl)
theorem dX1_bloodiest_2 : decode cX1_bloodiest 2 = .ok (.iconst 1, 1) := dk_4 (dk_at dksX1_bloodiest_0 2 rfl rfl)
theorem dX1_bloodiest_3 : decode cX1_bloodiest 3 = .ok (.istore_n 2, 1) := dk_61 (dk_at dksX1_bloodiest_0 3 rfl rfl)
theorem dX1_bloodiest_4 : decode cX1_bloodiest 4 = .ok (.iload_n 2, 1) := dk_28 (dk_at dksX1_bloodiest_0 4 rfl rfl)
theorem dX1_bloodiest_5 : decode cX1_bloodiest 5 = .ok (.aload_n 0, 1) := dk_42 (dk_at dksX1_bloodiest_0 5 rfl rfl)
theorem dX1_bloodiest_6 : decode cX1_bloodiest 6 = .ok (.getfield 308, 3) := dk_180 1 52 (dk_at dksX1_bloodiest_0 6 rfl rfl)
theorem dX1_bloodiest_9 : decode cX1_bloodiest 9 = .ok (.if_icmp .ge 26, 3) := dk_162 0 26 (dk_at dksX1_bloodiest_0 9 rfl rfl)
theorem dX1_bloodiest_12 : decode cX1_bloodiest 12 = .ok (.aload_n 0, 1) := dk_42 (dk_at dksX1_bloodiest_0 12 rfl rfl)
theorem dX1_bloodiest_13 : decode cX1_bloodiest 13 = .ok (.iload_n 2, 1) := dk_28 (dk_at dksX1_bloodiest_0 13 rfl rfl)
theorem dX1_bloodiest_14 : decode cX1_bloodiest 14 = .ok (.iconst 3, 1) := dk_6 (dk_at dksX1_bloodiest_0 14 rfl rfl)
theorem dX1_bloodiest_15 : decode cX1_bloodiest 15 = .ok (.invokevirtual 336, 3) := dk_182 1 80 (dk_at dksX1_bloodiest_0 15 rfl rfl)
theorem dX1_bloodiest_18 : decode cX1_bloodiest 18 = .ok (.aload_n 0, 1) := dk_42 (dk_at dksX1_bloodiest_0 18 rfl rfl)
theorem dX1_bloodiest_19 : decode cX1_bloodiest 19 = .ok (.iload_n 1, 1) := dk_27 (dk_at dksX1_bloodiest_0 19 rfl rfl)
theorem dX1_bloodiest_20 : decode cX1_bloodiest 20 = .ok (.iconst 3, 1) := dk_6 (dk_at dksX1_bloodiest_0 20 rfl rfl)
theorem dX1_bloodiest_21 : decode cX1_bloodiest 21 = .ok (.invokevirtual 336, 3) := dk_182 1 80 (dk_at dksX1_bloodiest_0 21 rfl rfl)
theorem dX1_bloodiest_24 : decode cX1_bloodiest 24 = .ok (.if_icmp .le 5, 3) := dk_164 0 5 (dk_at dksX1_bloodiest_1 0 rfl rfl)
theorem dX1_bloodiest_27 : decode cX1_bloodiest 27 = .ok (.iload_n 2, 1) := dk_28 (dk_at dksX1_bloodiest_1 3 rfl rfl)
theorem dX1_bloodiest_28 : decode cX1_bloodiest 28 = .ok (.istore_n 1, 1) := dk_60 (dk_at dksX1_bloodiest_1 4 rfl rfl)
theorem dX1_bloodiest_29 : decode cX1_bloodiest 29 = .ok (.iinc 2 1, 3) := dk_132 2 1 (dk_at dksX1_bloodiest_1 5 rfl rfl)
theorem dX1_bloodiest_32 : decode cX1_bloodiest 32 = .ok (.goto (-28), 3) := dk_167 255 228 (dk_at dksX1_bloodiest_1 8 rfl rfl)
theorem dX1_bloodiest_35 : decode cX1_bloodiest 35 = .ok (.iload_n 1, 1) := dk_27 (dk_at dksX1_bloodiest_1 11 rfl rfl)
theorem dX1_bloodiest_36 : decode cX1_bloodiest 36 = .ok (.ireturn, 1) := dk_172 (dk_at dksX1_bloodiest_1 12 rfl rfl)
abbrev cX1_lieOfAll : ByteArray := prog_1_method_113_code
def yX1_lieOfAll : MethodName := ⟨RX1, "lieOfAll", "()I"⟩
def dkwX1_lieOfAll_1 : List UInt8 := [28, 3, 182, 1, 65, 6, 182, 1, 80, 100, 96, 60, 132, 2, 1, 167, 255, 221, 27, 172]
abbrev dktX1_lieOfAll_1 : List UInt8 := dkwX1_lieOfAll_1 ++ []
def dkwX1_lieOfAll_0 : List UInt8 := [3, 60, 3, 61, 28, 42, 180, 0, 58, 16, 19, 46, 162, 0, 30, 27, 42, 28, 5, 182, 1, 65, 42, 42]
abbrev dktX1_lieOfAll_0 : List UInt8 := dkwX1_lieOfAll_0 ++ dktX1_lieOfAll_1
theorem dksX1_lieOfAll_0 : cX1_lieOfAll.data.toList.drop 0 = dktX1_lieOfAll_0 := by decide +kernel
theorem dksX1_lieOfAll_1 : cX1_lieOfAll.data.toList.drop 24 = dktX1_lieOfAll_1 := dk_seg dksX1_lieOfAll_0 24 rfl rfl
theorem dX1_lieOfAll_0 : decode cX1_lieOfAll 0 = .ok (.iconst 0, 1) := dk_3 (dk_at dksX1_lieOfAll_0 0 rfl rfl)
theorem dX1_lieOfAll_1 : decode cX1_lieOfAll 1 = .ok (.istore_n 1, 1) := dk_60 (dk_at dksX1_lieOfAll_0 1 rfl rfl)
theorem dX1_lieOfAll_2 : decode cX1_lieOfAll 2 = .ok (.iconst 0, 1) := dk_3 (dk_at dksX1_lieOfAll_0 2 rfl rfl)
theorem dX1_lieOfAll_3 : decode cX1_lieOfAll 3 = .ok (.istore_n 2, 1) := dk_61 (dk_at dksX1_lieOfAll_0 3 rfl rfl)
theorem dX1_lieOfAll_4 : decode cX1_lieOfAll 4 = .ok (.iload_n 2, 1) := dk_28 (dk_at dksX1_lieOfAll_0 4 rfl rfl)
theorem dX1_lieOfAll_5 : decode cX1_lieOfAll 5 = .ok (.aload_n 0, 1) := dk_42 (dk_at dksX1_lieOfAll_0 5 rfl rfl)
theorem dX1_lieOfAll_6 : decode cX1_lieOfAll 6 = .ok (.getfield 58, 3) := dk_180 0 58 (dk_at dksX1_lieOfAll_0 6 rfl rfl)
theorem dX1_lieOfAll_9 : decode cX1_lieOfAll 9 = .ok (.bipush 19, 2) := dk_16 19 (dk_at dksX1_lieOfAll_0 9 rfl rfl)
theorem dX1_lieOfAll_11 : decode cX1_lieOfAll 11 = .ok (.iaload, 1) := dk_46 (dk_at dksX1_lieOfAll_0 11 rfl rfl)
theorem dX1_lieOfAll_12 : decode cX1_lieOfAll 12 = .ok (.if_icmp .ge 30, 3) := dk_162 0 30 (dk_at dksX1_lieOfAll_0 12 rfl rfl)
theorem dX1_lieOfAll_15 : decode cX1_lieOfAll 15 = .ok (.iload_n 1, 1) := dk_27 (dk_at dksX1_lieOfAll_0 15 rfl rfl)
theorem dX1_lieOfAll_16 : decode cX1_lieOfAll 16 = .ok (.aload_n 0, 1) := dk_42 (dk_at dksX1_lieOfAll_0 16 rfl rfl)
theorem dX1_lieOfAll_17 : decode cX1_lieOfAll 17 = .ok (.iload_n 2, 1) := dk_28 (dk_at dksX1_lieOfAll_0 17 rfl rfl)
theorem dX1_lieOfAll_18 : decode cX1_lieOfAll 18 = .ok (.iconst 2, 1) := dk_5 (dk_at dksX1_lieOfAll_0 18 rfl rfl)
theorem dX1_lieOfAll_19 : decode cX1_lieOfAll 19 = .ok (.invokevirtual 321, 3) := dk_182 1 65 (dk_at dksX1_lieOfAll_0 19 rfl rfl)
theorem dX1_lieOfAll_22 : decode cX1_lieOfAll 22 = .ok (.aload_n 0, 1) := dk_42 (dk_at dksX1_lieOfAll_0 22 rfl rfl)
theorem dX1_lieOfAll_23 : decode cX1_lieOfAll 23 = .ok (.aload_n 0, 1) := dk_42 (dk_at dksX1_lieOfAll_0 23 rfl rfl)
theorem dX1_lieOfAll_24 : decode cX1_lieOfAll 24 = .ok (.iload_n 2, 1) := dk_28 (dk_at dksX1_lieOfAll_1 0 rfl rfl)
theorem dX1_lieOfAll_25 : decode cX1_lieOfAll 25 = .ok (.iconst 0, 1) := dk_3 (dk_at dksX1_lieOfAll_1 1 rfl rfl)
theorem dX1_lieOfAll_26 : decode cX1_lieOfAll 26 = .ok (.invokevirtual 321, 3) := dk_182 1 65 (dk_at dksX1_lieOfAll_1 2 rfl rfl)
theorem dX1_lieOfAll_29 : decode cX1_lieOfAll 29 = .ok (.iconst 3, 1) := dk_6 (dk_at dksX1_lieOfAll_1 5 rfl rfl)
theorem dX1_lieOfAll_30 : decode cX1_lieOfAll 30 = .ok (.invokevirtual 336, 3) := dk_182 1 80 (dk_at dksX1_lieOfAll_1 6 rfl rfl)
theorem dX1_lieOfAll_33 : decode cX1_lieOfAll 33 = .ok (.isub, 1) := dk_100 (dk_at dksX1_lieOfAll_1 9 rfl rfl)
theorem dX1_lieOfAll_34 : decode cX1_lieOfAll 34 = .ok (.iadd, 1) := dk_96 (dk_at dksX1_lieOfAll_1 10 rfl rfl)
theorem dX1_lieOfAll_35 : decode cX1_lieOfAll 35 = .ok (.istore_n 1, 1) := dk_60 (dk_at dksX1_lieOfAll_1 11 rfl rfl)
theorem dX1_lieOfAll_36 : decode cX1_lieOfAll 36 = .ok (.iinc 2 1, 3) := dk_132 2 1 (dk_at dksX1_lieOfAll_1 12 rfl rfl)
theorem dX1_lieOfAll_39 : decode cX1_lieOfAll 39 = .ok (.goto (-35), 3) := dk_167 255 221 (dk_at dksX1_lieOfAll_1 15 rfl rfl)
theorem dX1_lieOfAll_42 : decode cX1_lieOfAll 42 = .ok (.iload_n 1, 1) := dk_27 (dk_at dksX1_lieOfAll_1 18 rfl rfl)
theorem dX1_lieOfAll_43 : decode cX1_lieOfAll 43 = .ok (.ireturn, 1) := dk_172 (dk_at dksX1_lieOfAll_1 19 rfl rfl)
abbrev cX1_sameOnes : ByteArray := prog_1_method_114_code
def yX1_sameOnes : MethodName := ⟨RX1, "sameOnes", "()I"⟩
def dkwX1_sameOnes_3 : List UInt8 := [28, 3, 182, 1, 65, 120, 128, 60, 132, 3, 1, 167, 255, 192, 132, 2, 1, 167, 255, 173, 27, 172]
abbrev dktX1_sameOnes_3 : List UInt8 := dkwX1_sameOnes_3 ++ []
def dkwX1_sameOnes_2 : List UInt8 := [182, 1, 65, 159, 0, 29, 42, 28, 5, 182, 1, 65, 42, 29, 5, 182, 1, 65, 160, 0, 14, 27, 4, 42]
abbrev dktX1_sameOnes_2 : List UInt8 := dkwX1_sameOnes_2 ++ dktX1_sameOnes_3
def dkwX1_sameOnes_1 : List UInt8 := [3, 182, 1, 65, 42, 29, 3, 182, 1, 65, 160, 0, 44, 42, 28, 4, 182, 1, 65, 42, 29, 4]
abbrev dktX1_sameOnes_1 : List UInt8 := dkwX1_sameOnes_1 ++ dktX1_sameOnes_2
def dkwX1_sameOnes_0 : List UInt8 := [3, 60, 3, 61, 28, 42, 180, 0, 58, 16, 19, 46, 162, 0, 78, 3, 62, 29, 28, 162, 0, 65, 42, 28]
abbrev dktX1_sameOnes_0 : List UInt8 := dkwX1_sameOnes_0 ++ dktX1_sameOnes_1
theorem dksX1_sameOnes_0 : cX1_sameOnes.data.toList.drop 0 = dktX1_sameOnes_0 := by decide +kernel
theorem dksX1_sameOnes_1 : cX1_sameOnes.data.toList.drop 24 = dktX1_sameOnes_1 := dk_seg dksX1_sameOnes_0 24 rfl rfl
theorem dksX1_sameOnes_2 : cX1_sameOnes.data.toList.drop 46 = dktX1_sameOnes_2 := dk_seg dksX1_sameOnes_1 22 rfl rfl
theorem dksX1_sameOnes_3 : cX1_sameOnes.data.toList.drop 70 = dktX1_sameOnes_3 := dk_seg dksX1_sameOnes_2 24 rfl rfl
theorem dX1_sameOnes_0 : decode cX1_sameOnes 0 = .ok (.iconst 0, 1) := dk_3 (dk_at dksX1_sameOnes_0 0 rfl rfl)
theorem dX1_sameOnes_1 : decode cX1_sameOnes 1 = .ok (.istore_n 1, 1) := dk_60 (dk_at dksX1_sameOnes_0 1 rfl rfl)
theorem dX1_sameOnes_2 : decode cX1_sameOnes 2 = .ok (.iconst 0, 1) := dk_3 (dk_at dksX1_sameOnes_0 2 rfl rfl)
theorem dX1_sameOnes_3 : decode cX1_sameOnes 3 = .ok (.istore_n 2, 1) := dk_61 (dk_at dksX1_sameOnes_0 3 rfl rfl)
theorem dX1_sameOnes_4 : decode cX1_sameOnes 4 = .ok (.iload_n 2, 1) := dk_28 (dk_at dksX1_sameOnes_0 4 rfl rfl)
theorem dX1_sameOnes_5 : decode cX1_sameOnes 5 = .ok (.aload_n 0, 1) := dk_42 (dk_at dksX1_sameOnes_0 5 rfl rfl)
theorem dX1_sameOnes_6 : decode cX1_sameOnes 6 = .ok (.getfield 58, 3) := dk_180 0 58 (dk_at dksX1_sameOnes_0 6 rfl rfl)
theorem dX1_sameOnes_9 : decode cX1_sameOnes 9 = .ok (.bipush 19, 2) := dk_16 19 (dk_at dksX1_sameOnes_0 9 rfl rfl)
theorem dX1_sameOnes_11 : decode cX1_sameOnes 11 = .ok (.iaload, 1) := dk_46 (dk_at dksX1_sameOnes_0 11 rfl rfl)
theorem dX1_sameOnes_12 : decode cX1_sameOnes 12 = .ok (.if_icmp .ge 78, 3) := dk_162 0 78 (dk_at dksX1_sameOnes_0 12 rfl rfl)
theorem dX1_sameOnes_15 : decode cX1_sameOnes 15 = .ok (.iconst 0, 1) := dk_3 (dk_at dksX1_sameOnes_0 15 rfl rfl)
theorem dX1_sameOnes_16 : decode cX1_sameOnes 16 = .ok (.istore_n 3, 1) := dk_62 (dk_at dksX1_sameOnes_0 16 rfl rfl)
theorem dX1_sameOnes_17 : decode cX1_sameOnes 17 = .ok (.iload_n 3, 1) := dk_29 (dk_at dksX1_sameOnes_0 17 rfl rfl)
theorem dX1_sameOnes_18 : decode cX1_sameOnes 18 = .ok (.iload_n 2, 1) := dk_28 (dk_at dksX1_sameOnes_0 18 rfl rfl)
theorem dX1_sameOnes_19 : decode cX1_sameOnes 19 = .ok (.if_icmp .ge 65, 3) := dk_162 0 65 (dk_at dksX1_sameOnes_0 19 rfl rfl)
theorem dX1_sameOnes_22 : decode cX1_sameOnes 22 = .ok (.aload_n 0, 1) := dk_42 (dk_at dksX1_sameOnes_0 22 rfl rfl)
theorem dX1_sameOnes_23 : decode cX1_sameOnes 23 = .ok (.iload_n 2, 1) := dk_28 (dk_at dksX1_sameOnes_0 23 rfl rfl)
theorem dX1_sameOnes_24 : decode cX1_sameOnes 24 = .ok (.iconst 0, 1) := dk_3 (dk_at dksX1_sameOnes_1 0 rfl rfl)
theorem dX1_sameOnes_25 : decode cX1_sameOnes 25 = .ok (.invokevirtual 321, 3) := dk_182 1 65 (dk_at dksX1_sameOnes_1 1 rfl rfl)
theorem dX1_sameOnes_28 : decode cX1_sameOnes 28 = .ok (.aload_n 0, 1) := dk_42 (dk_at dksX1_sameOnes_1 4 rfl rfl)
theorem dX1_sameOnes_29 : decode cX1_sameOnes 29 = .ok (.iload_n 3, 1) := dk_29 (dk_at dksX1_sameOnes_1 5 rfl rfl)
theorem dX1_sameOnes_30 : decode cX1_sameOnes 30 = .ok (.iconst 0, 1) := dk_3 (dk_at dksX1_sameOnes_1 6 rfl rfl)
theorem dX1_sameOnes_31 : decode cX1_sameOnes 31 = .ok (.invokevirtual 321, 3) := dk_182 1 65 (dk_at dksX1_sameOnes_1 7 rfl rfl)
theorem dX1_sameOnes_34 : decode cX1_sameOnes 34 = .ok (.if_icmp .ne 44, 3) := dk_160 0 44 (dk_at dksX1_sameOnes_1 10 rfl rfl)
theorem dX1_sameOnes_37 : decode cX1_sameOnes 37 = .ok (.aload_n 0, 1) := dk_42 (dk_at dksX1_sameOnes_1 13 rfl rfl)
theorem dX1_sameOnes_38 : decode cX1_sameOnes 38 = .ok (.iload_n 2, 1) := dk_28 (dk_at dksX1_sameOnes_1 14 rfl rfl)
theorem dX1_sameOnes_39 : decode cX1_sameOnes 39 = .ok (.iconst 1, 1) := dk_4 (dk_at dksX1_sameOnes_1 15 rfl rfl)
theorem dX1_sameOnes_40 : decode cX1_sameOnes 40 = .ok (.invokevirtual 321, 3) := dk_182 1 65 (dk_at dksX1_sameOnes_1 16 rfl rfl)
theorem dX1_sameOnes_43 : decode cX1_sameOnes 43 = .ok (.aload_n 0, 1) := dk_42 (dk_at dksX1_sameOnes_1 19 rfl rfl)
theorem dX1_sameOnes_44 : decode cX1_sameOnes 44 = .ok (.iload_n 3, 1) := dk_29 (dk_at dksX1_sameOnes_1 20 rfl rfl)
theorem dX1_sameOnes_45 : decode cX1_sameOnes 45 = .ok (.iconst 1, 1) := dk_4 (dk_at dksX1_sameOnes_1 21 rfl rfl)
theorem dX1_sameOnes_46 : decode cX1_sameOnes 46 = .ok (.invokevirtual 321, 3) := dk_182 1 65 (dk_at dksX1_sameOnes_2 0 rfl rfl)
theorem dX1_sameOnes_49 : decode cX1_sameOnes 49 = .ok (.if_icmp .eq 29, 3) := dk_159 0 29 (dk_at dksX1_sameOnes_2 3 rfl rfl)
theorem dX1_sameOnes_52 : decode cX1_sameOnes 52 = .ok (.aload_n 0, 1) := dk_42 (dk_at dksX1_sameOnes_2 6 rfl rfl)
theorem dX1_sameOnes_53 : decode cX1_sameOnes 53 = .ok (.iload_n 2, 1) := dk_28 (dk_at dksX1_sameOnes_2 7 rfl rfl)
theorem dX1_sameOnes_54 : decode cX1_sameOnes 54 = .ok (.iconst 2, 1) := dk_5 (dk_at dksX1_sameOnes_2 8 rfl rfl)
theorem dX1_sameOnes_55 : decode cX1_sameOnes 55 = .ok (.invokevirtual 321, 3) := dk_182 1 65 (dk_at dksX1_sameOnes_2 9 rfl rfl)
theorem dX1_sameOnes_58 : decode cX1_sameOnes 58 = .ok (.aload_n 0, 1) := dk_42 (dk_at dksX1_sameOnes_2 12 rfl rfl)
theorem dX1_sameOnes_59 : decode cX1_sameOnes 59 = .ok (.iload_n 3, 1) := dk_29 (dk_at dksX1_sameOnes_2 13 rfl rfl)
theorem dX1_sameOnes_60 : decode cX1_sameOnes 60 = .ok (.iconst 2, 1) := dk_5 (dk_at dksX1_sameOnes_2 14 rfl rfl)
theorem dX1_sameOnes_61 : decode cX1_sameOnes 61 = .ok (.invokevirtual 321, 3) := dk_182 1 65 (dk_at dksX1_sameOnes_2 15 rfl rfl)
theorem dX1_sameOnes_64 : decode cX1_sameOnes 64 = .ok (.if_icmp .ne 14, 3) := dk_160 0 14 (dk_at dksX1_sameOnes_2 18 rfl rfl)
theorem dX1_sameOnes_67 : decode cX1_sameOnes 67 = .ok (.iload_n 1, 1) := dk_27 (dk_at dksX1_sameOnes_2 21 rfl rfl)
theorem dX1_sameOnes_68 : decode cX1_sameOnes 68 = .ok (.iconst 1, 1) := dk_4 (dk_at dksX1_sameOnes_2 22 rfl rfl)
theorem dX1_sameOnes_69 : decode cX1_sameOnes 69 = .ok (.aload_n 0, 1) := dk_42 (dk_at dksX1_sameOnes_2 23 rfl rfl)
theorem dX1_sameOnes_70 : decode cX1_sameOnes 70 = .ok (.iload_n 2, 1) := dk_28 (dk_at dksX1_sameOnes_3 0 rfl rfl)
theorem dX1_sameOnes_71 : decode cX1_sameOnes 71 = .ok (.iconst 0, 1) := dk_3 (dk_at dksX1_sameOnes_3 1 rfl rfl)
theorem dX1_sameOnes_72 : decode cX1_sameOnes 72 = .ok (.invokevirtual 321, 3) := dk_182 1 65 (dk_at dksX1_sameOnes_3 2 rfl rfl)
theorem dX1_sameOnes_75 : decode cX1_sameOnes 75 = .ok (.ishl, 1) := dk_120 (dk_at dksX1_sameOnes_3 5 rfl rfl)
theorem dX1_sameOnes_76 : decode cX1_sameOnes 76 = .ok (.ior, 1) := dk_128 (dk_at dksX1_sameOnes_3 6 rfl rfl)
theorem dX1_sameOnes_77 : decode cX1_sameOnes 77 = .ok (.istore_n 1, 1) := dk_60 (dk_at dksX1_sameOnes_3 7 rfl rfl)
theorem dX1_sameOnes_78 : decode cX1_sameOnes 78 = .ok (.iinc 3 1, 3) := dk_132 3 1 (dk_at dksX1_sameOnes_3 8 rfl rfl)
theorem dX1_sameOnes_81 : decode cX1_sameOnes 81 = .ok (.goto (-64), 3) := dk_167 255 192 (dk_at dksX1_sameOnes_3 11 rfl rfl)
theorem dX1_sameOnes_84 : decode cX1_sameOnes 84 = .ok (.iinc 2 1, 3) := dk_132 2 1 (dk_at dksX1_sameOnes_3 14 rfl rfl)
theorem dX1_sameOnes_87 : decode cX1_sameOnes 87 = .ok (.goto (-83), 3) := dk_167 255 173 (dk_at dksX1_sameOnes_3 17 rfl rfl)
theorem dX1_sameOnes_90 : decode cX1_sameOnes 90 = .ok (.iload_n 1, 1) := dk_27 (dk_at dksX1_sameOnes_3 20 rfl rfl)
theorem dX1_sameOnes_91 : decode cX1_sameOnes 91 = .ok (.ireturn, 1) := dk_172 (dk_at dksX1_sameOnes_3 21 rfl rfl)
abbrev cX1_silentOnes : ByteArray := prog_1_method_115_code
def yX1_silentOnes : MethodName := ⟨RX1, "silentOnes", "()I"⟩
def dkwX1_silentOnes_1 : List UInt8 := [42, 28, 3, 182, 1, 65, 120, 2, 130, 126, 60, 132, 2, 1, 167, 255, 229, 27, 172]
abbrev dktX1_silentOnes_1 : List UInt8 := dkwX1_silentOnes_1 ++ []
def dkwX1_silentOnes_0 : List UInt8 := [4, 42, 180, 1, 52, 120, 4, 100, 60, 3, 61, 28, 42, 180, 0, 58, 16, 19, 46, 162, 0, 22, 27, 4]
abbrev dktX1_silentOnes_0 : List UInt8 := dkwX1_silentOnes_0 ++ dktX1_silentOnes_1
theorem dksX1_silentOnes_0 : cX1_silentOnes.data.toList.drop 0 = dktX1_silentOnes_0 := by decide +kernel
theorem dksX1_silentOnes_1 : cX1_silentOnes.data.toList.drop 24 = dktX1_silentOnes_1 := dk_seg dksX1_silentOnes_0 24 rfl rfl
theorem dX1_silentOnes_0 : decode cX1_silentOnes 0 = .ok (.iconst 1, 1) := dk_4 (dk_at dksX1_silentOnes_0 0 rfl rfl)
theorem dX1_silentOnes_1 : decode cX1_silentOnes 1 = .ok (.aload_n 0, 1) := dk_42 (dk_at dksX1_silentOnes_0 1 rfl rfl)
theorem dX1_silentOnes_2 : decode cX1_silentOnes 2 = .ok (.getfield 308, 3) := dk_180 1 52 (dk_at dksX1_silentOnes_0 2 rfl rfl)
theorem dX1_silentOnes_5 : decode cX1_silentOnes 5 = .ok (.ishl, 1) := dk_120 (dk_at dksX1_silentOnes_0 5 rfl rfl)
theorem dX1_silentOnes_6 : decode cX1_silentOnes 6 = .ok (.iconst 1, 1) := dk_4 (dk_at dksX1_silentOnes_0 6 rfl rfl)
theorem dX1_silentOnes_7 : decode cX1_silentOnes 7 = .ok (.isub, 1) := dk_100 (dk_at dksX1_silentOnes_0 7 rfl rfl)
theorem dX1_silentOnes_8 : decode cX1_silentOnes 8 = .ok (.istore_n 1, 1) := dk_60 (dk_at dksX1_silentOnes_0 8 rfl rfl)
theorem dX1_silentOnes_9 : decode cX1_silentOnes 9 = .ok (.iconst 0, 1) := dk_3 (dk_at dksX1_silentOnes_0 9 rfl rfl)
theorem dX1_silentOnes_10 : decode cX1_silentOnes 10 = .ok (.istore_n 2, 1) := dk_61 (dk_at dksX1_silentOnes_0 10 rfl rfl)
theorem dX1_silentOnes_11 : decode cX1_silentOnes 11 = .ok (.iload_n 2, 1) := dk_28 (dk_at dksX1_silentOnes_0 11 rfl rfl)
theorem dX1_silentOnes_12 : decode cX1_silentOnes 12 = .ok (.aload_n 0, 1) := dk_42 (dk_at dksX1_silentOnes_0 12 rfl rfl)
theorem dX1_silentOnes_13 : decode cX1_silentOnes 13 = .ok (.getfield 58, 3) := dk_180 0 58 (dk_at dksX1_silentOnes_0 13 rfl rfl)
theorem dX1_silentOnes_16 : decode cX1_silentOnes 16 = .ok (.bipush 19, 2) := dk_16 19 (dk_at dksX1_silentOnes_0 16 rfl rfl)
theorem dX1_silentOnes_18 : decode cX1_silentOnes 18 = .ok (.iaload, 1) := dk_46 (dk_at dksX1_silentOnes_0 18 rfl rfl)
theorem dX1_silentOnes_19 : decode cX1_silentOnes 19 = .ok (.if_icmp .ge 22, 3) := dk_162 0 22 (dk_at dksX1_silentOnes_0 19 rfl rfl)
theorem dX1_silentOnes_22 : decode cX1_silentOnes 22 = .ok (.iload_n 1, 1) := dk_27 (dk_at dksX1_silentOnes_0 22 rfl rfl)
theorem dX1_silentOnes_23 : decode cX1_silentOnes 23 = .ok (.iconst 1, 1) := dk_4 (dk_at dksX1_silentOnes_0 23 rfl rfl)
theorem dX1_silentOnes_24 : decode cX1_silentOnes 24 = .ok (.aload_n 0, 1) := dk_42 (dk_at dksX1_silentOnes_1 0 rfl rfl)
theorem dX1_silentOnes_25 : decode cX1_silentOnes 25 = .ok (.iload_n 2, 1) := dk_28 (dk_at dksX1_silentOnes_1 1 rfl rfl)
theorem dX1_silentOnes_26 : decode cX1_silentOnes 26 = .ok (.iconst 0, 1) := dk_3 (dk_at dksX1_silentOnes_1 2 rfl rfl)
theorem dX1_silentOnes_27 : decode cX1_silentOnes 27 = .ok (.invokevirtual 321, 3) := dk_182 1 65 (dk_at dksX1_silentOnes_1 3 rfl rfl)
theorem dX1_silentOnes_30 : decode cX1_silentOnes 30 = .ok (.ishl, 1) := dk_120 (dk_at dksX1_silentOnes_1 6 rfl rfl)
theorem dX1_silentOnes_31 : decode cX1_silentOnes 31 = .ok (.iconst (-1), 1) := dk_2 (dk_at dksX1_silentOnes_1 7 rfl rfl)
theorem dX1_silentOnes_32 : decode cX1_silentOnes 32 = .ok (.ixor, 1) := dk_130 (dk_at dksX1_silentOnes_1 8 rfl rfl)
theorem dX1_silentOnes_33 : decode cX1_silentOnes 33 = .ok (.iand, 1) := dk_126 (dk_at dksX1_silentOnes_1 9 rfl rfl)
theorem dX1_silentOnes_34 : decode cX1_silentOnes 34 = .ok (.istore_n 1, 1) := dk_60 (dk_at dksX1_silentOnes_1 10 rfl rfl)
theorem dX1_silentOnes_35 : decode cX1_silentOnes 35 = .ok (.iinc 2 1, 3) := dk_132 2 1 (dk_at dksX1_silentOnes_1 11 rfl rfl)
theorem dX1_silentOnes_38 : decode cX1_silentOnes 38 = .ok (.goto (-27), 3) := dk_167 255 229 (dk_at dksX1_silentOnes_1 14 rfl rfl)
theorem dX1_silentOnes_41 : decode cX1_silentOnes 41 = .ok (.iload_n 1, 1) := dk_27 (dk_at dksX1_silentOnes_1 17 rfl rfl)
theorem dX1_silentOnes_42 : decode cX1_silentOnes 42 = .ok (.ireturn, 1) := dk_172 (dk_at dksX1_silentOnes_1 18 rfl rfl)
abbrev cX1_topBy : ByteArray := prog_1_method_109_code
def yX1_topBy : MethodName := ⟨RX1, "topBy", "(I)I"⟩
def dkwX1_topBy_1 : List UInt8 := [164, 0, 5, 29, 61, 132, 3, 1, 167, 255, 228, 28, 172]
abbrev dktX1_topBy_1 : List UInt8 := dkwX1_topBy_1 ++ []
def dkwX1_topBy_0 : List UInt8 := [3, 61, 4, 62, 29, 42, 180, 1, 49, 162, 0, 26, 42, 29, 27, 182, 1, 215, 42, 28, 27, 182, 1, 215]
abbrev dktX1_topBy_0 : List UInt8 := dkwX1_topBy_0 ++ dktX1_topBy_1
theorem dksX1_topBy_0 : cX1_topBy.data.toList.drop 0 = dktX1_topBy_0 := by decide +kernel
theorem dksX1_topBy_1 : cX1_topBy.data.toList.drop 24 = dktX1_topBy_1 := dk_seg dksX1_topBy_0 24 rfl rfl
theorem dX1_topBy_0 : decode cX1_topBy 0 = .ok (.iconst 0, 1) := dk_3 (dk_at dksX1_topBy_0 0 rfl rfl)
theorem dX1_topBy_1 : decode cX1_topBy 1 = .ok (.istore_n 2, 1) := dk_61 (dk_at dksX1_topBy_0 1 rfl rfl)
theorem dX1_topBy_2 : decode cX1_topBy 2 = .ok (.iconst 1, 1) := dk_4 (dk_at dksX1_topBy_0 2 rfl rfl)
theorem dX1_topBy_3 : decode cX1_topBy 3 = .ok (.istore_n 3, 1) := dk_62 (dk_at dksX1_topBy_0 3 rfl rfl)
theorem dX1_topBy_4 : decode cX1_topBy 4 = .ok (.iload_n 3, 1) := dk_29 (dk_at dksX1_topBy_0 4 rfl rfl)
theorem dX1_topBy_5 : decode cX1_topBy 5 = .ok (.aload_n 0, 1) := dk_42 (dk_at dksX1_topBy_0 5 rfl rfl)
theorem dX1_topBy_6 : decode cX1_topBy 6 = .ok (.getfield 305, 3) := dk_180 1 49 (dk_at dksX1_topBy_0 6 rfl rfl)
theorem dX1_topBy_9 : decode cX1_topBy 9 = .ok (.if_icmp .ge 26, 3) := dk_162 0 26 (dk_at dksX1_topBy_0 9 rfl rfl)
theorem dX1_topBy_12 : decode cX1_topBy 12 = .ok (.aload_n 0, 1) := dk_42 (dk_at dksX1_topBy_0 12 rfl rfl)
theorem dX1_topBy_13 : decode cX1_topBy 13 = .ok (.iload_n 3, 1) := dk_29 (dk_at dksX1_topBy_0 13 rfl rfl)
theorem dX1_topBy_14 : decode cX1_topBy 14 = .ok (.iload_n 1, 1) := dk_27 (dk_at dksX1_topBy_0 14 rfl rfl)
theorem dX1_topBy_15 : decode cX1_topBy 15 = .ok (.invokevirtual 471, 3) := dk_182 1 215 (dk_at dksX1_topBy_0 15 rfl rfl)
theorem dX1_topBy_18 : decode cX1_topBy 18 = .ok (.aload_n 0, 1) := dk_42 (dk_at dksX1_topBy_0 18 rfl rfl)
theorem dX1_topBy_19 : decode cX1_topBy 19 = .ok (.iload_n 2, 1) := dk_28 (dk_at dksX1_topBy_0 19 rfl rfl)
theorem dX1_topBy_20 : decode cX1_topBy 20 = .ok (.iload_n 1, 1) := dk_27 (dk_at dksX1_topBy_0 20 rfl rfl)
theorem dX1_topBy_21 : decode cX1_topBy 21 = .ok (.invokevirtual 471, 3) := dk_182 1 215 (dk_at dksX1_topBy_0 21 rfl rfl)
theorem dX1_topBy_24 : decode cX1_topBy 24 = .ok (.if_icmp .le 5, 3) := dk_164 0 5 (dk_at dksX1_topBy_1 0 rfl rfl)
theorem dX1_topBy_27 : decode cX1_topBy 27 = .ok (.iload_n 3, 1) := dk_29 (dk_at dksX1_topBy_1 3 rfl rfl)
theorem dX1_topBy_28 : decode cX1_topBy 28 = .ok (.istore_n 2, 1) := dk_61 (dk_at dksX1_topBy_1 4 rfl rfl)
theorem dX1_topBy_29 : decode cX1_topBy 29 = .ok (.iinc 3 1, 3) := dk_132 3 1 (dk_at dksX1_topBy_1 5 rfl rfl)
theorem dX1_topBy_32 : decode cX1_topBy 32 = .ok (.goto (-28), 3) := dk_167 255 228 (dk_at dksX1_topBy_1 8 rfl rfl)
theorem dX1_topBy_35 : decode cX1_topBy 35 = .ok (.iload_n 2, 1) := dk_28 (dk_at dksX1_topBy_1 11 rfl rfl)
theorem dX1_topBy_36 : decode cX1_topBy 36 = .ok (.ireturn, 1) := dk_172 (dk_at dksX1_topBy_1 12 rfl rfl)
abbrev cX1_valueOf : ByteArray := prog_1_method_108_code
def yX1_valueOf : MethodName := ⟨RX1, "valueOf", "(II)I"⟩
def dkwX1_valueOf_0 : List UInt8 := [28, 7, 162, 0, 16, 42, 180, 0, 58, 7, 28, 104, 27, 96, 46, 167, 0, 8, 42, 27, 182, 1, 74, 172]
abbrev dktX1_valueOf_0 : List UInt8 := dkwX1_valueOf_0 ++ []
theorem dksX1_valueOf_0 : cX1_valueOf.data.toList.drop 0 = dktX1_valueOf_0 := by decide +kernel
theorem dX1_valueOf_0 : decode cX1_valueOf 0 = .ok (.iload_n 2, 1) := dk_28 (dk_at dksX1_valueOf_0 0 rfl rfl)
theorem dX1_valueOf_1 : decode cX1_valueOf 1 = .ok (.iconst 4, 1) := dk_7 (dk_at dksX1_valueOf_0 1 rfl rfl)
theorem dX1_valueOf_2 : decode cX1_valueOf 2 = .ok (.if_icmp .ge 16, 3) := dk_162 0 16 (dk_at dksX1_valueOf_0 2 rfl rfl)
theorem dX1_valueOf_5 : decode cX1_valueOf 5 = .ok (.aload_n 0, 1) := dk_42 (dk_at dksX1_valueOf_0 5 rfl rfl)
theorem dX1_valueOf_6 : decode cX1_valueOf 6 = .ok (.getfield 58, 3) := dk_180 0 58 (dk_at dksX1_valueOf_0 6 rfl rfl)
theorem dX1_valueOf_9 : decode cX1_valueOf 9 = .ok (.iconst 4, 1) := dk_7 (dk_at dksX1_valueOf_0 9 rfl rfl)
theorem dX1_valueOf_10 : decode cX1_valueOf 10 = .ok (.iload_n 2, 1) := dk_28 (dk_at dksX1_valueOf_0 10 rfl rfl)
theorem dX1_valueOf_11 : decode cX1_valueOf 11 = .ok (.imul, 1) := dk_104 (dk_at dksX1_valueOf_0 11 rfl rfl)
theorem dX1_valueOf_12 : decode cX1_valueOf 12 = .ok (.iload_n 1, 1) := dk_27 (dk_at dksX1_valueOf_0 12 rfl rfl)
theorem dX1_valueOf_13 : decode cX1_valueOf 13 = .ok (.iadd, 1) := dk_96 (dk_at dksX1_valueOf_0 13 rfl rfl)
theorem dX1_valueOf_14 : decode cX1_valueOf 14 = .ok (.iaload, 1) := dk_46 (dk_at dksX1_valueOf_0 14 rfl rfl)
theorem dX1_valueOf_15 : decode cX1_valueOf 15 = .ok (.goto 8, 3) := dk_167 0 8 (dk_at dksX1_valueOf_0 15 rfl rfl)
theorem dX1_valueOf_18 : decode cX1_valueOf 18 = .ok (.aload_n 0, 1) := dk_42 (dk_at dksX1_valueOf_0 18 rfl rfl)
theorem dX1_valueOf_19 : decode cX1_valueOf 19 = .ok (.iload_n 1, 1) := dk_27 (dk_at dksX1_valueOf_0 19 rfl rfl)
theorem dX1_valueOf_20 : decode cX1_valueOf 20 = .ok (.invokevirtual 330, 3) := dk_182 1 74 (dk_at dksX1_valueOf_0 20 rfl rfl)
theorem dX1_valueOf_23 : decode cX1_valueOf 23 = .ok (.ireturn, 1) := dk_172 (dk_at dksX1_valueOf_0 23 rfl rfl)
abbrev cX1_page : ByteArray := prog_1_method_117_code
def yX1_page : MethodName := ⟨RX1, "page", "(II)I"⟩
def dkwX1_page_1 : List UInt8 := [153, 0, 12, 42, 27, 28, 182, 1, 65, 167, 0, 4, 2, 172]
abbrev dktX1_page_1 : List UInt8 := dkwX1_page_1 ++ []
def dkwX1_page_0 : List UInt8 := [27, 3, 42, 180, 0, 58, 16, 19, 46, 4, 100, 184, 0, 233, 153, 0, 21, 28, 3, 5, 184, 0, 233]
abbrev dktX1_page_0 : List UInt8 := dkwX1_page_0 ++ dktX1_page_1
theorem dksX1_page_0 : cX1_page.data.toList.drop 0 = dktX1_page_0 := by decide +kernel
theorem dksX1_page_1 : cX1_page.data.toList.drop 23 = dktX1_page_1 := dk_seg dksX1_page_0 23 rfl rfl
theorem dX1_page_0 : decode cX1_page 0 = .ok (.iload_n 1, 1) := dk_27 (dk_at dksX1_page_0 0 rfl rfl)
theorem dX1_page_1 : decode cX1_page 1 = .ok (.iconst 0, 1) := dk_3 (dk_at dksX1_page_0 1 rfl rfl)
theorem dX1_page_2 : decode cX1_page 2 = .ok (.aload_n 0, 1) := dk_42 (dk_at dksX1_page_0 2 rfl rfl)
theorem dX1_page_3 : decode cX1_page 3 = .ok (.getfield 58, 3) := dk_180 0 58 (dk_at dksX1_page_0 3 rfl rfl)
theorem dX1_page_6 : decode cX1_page 6 = .ok (.bipush 19, 2) := dk_16 19 (dk_at dksX1_page_0 6 rfl rfl)
theorem dX1_page_8 : decode cX1_page 8 = .ok (.iaload, 1) := dk_46 (dk_at dksX1_page_0 8 rfl rfl)
theorem dX1_page_9 : decode cX1_page 9 = .ok (.iconst 1, 1) := dk_4 (dk_at dksX1_page_0 9 rfl rfl)
theorem dX1_page_10 : decode cX1_page 10 = .ok (.isub, 1) := dk_100 (dk_at dksX1_page_0 10 rfl rfl)
theorem dX1_page_11 : decode cX1_page 11 = .ok (.invokestatic 233, 3) := dk_184 0 233 (dk_at dksX1_page_0 11 rfl rfl)
theorem dX1_page_14 : decode cX1_page 14 = .ok (.ifCond .eq 21, 3) := dk_153 0 21 (dk_at dksX1_page_0 14 rfl rfl)
theorem dX1_page_17 : decode cX1_page 17 = .ok (.iload_n 2, 1) := dk_28 (dk_at dksX1_page_0 17 rfl rfl)
theorem dX1_page_18 : decode cX1_page 18 = .ok (.iconst 0, 1) := dk_3 (dk_at dksX1_page_0 18 rfl rfl)
theorem dX1_page_19 : decode cX1_page 19 = .ok (.iconst 2, 1) := dk_5 (dk_at dksX1_page_0 19 rfl rfl)
theorem dX1_page_20 : decode cX1_page 20 = .ok (.invokestatic 233, 3) := dk_184 0 233 (dk_at dksX1_page_0 20 rfl rfl)
theorem dX1_page_23 : decode cX1_page 23 = .ok (.ifCond .eq 12, 3) := dk_153 0 12 (dk_at dksX1_page_1 0 rfl rfl)
theorem dX1_page_26 : decode cX1_page 26 = .ok (.aload_n 0, 1) := dk_42 (dk_at dksX1_page_1 3 rfl rfl)
theorem dX1_page_27 : decode cX1_page 27 = .ok (.iload_n 1, 1) := dk_27 (dk_at dksX1_page_1 4 rfl rfl)
theorem dX1_page_28 : decode cX1_page 28 = .ok (.iload_n 2, 1) := dk_28 (dk_at dksX1_page_1 5 rfl rfl)
theorem dX1_page_29 : decode cX1_page 29 = .ok (.invokevirtual 321, 3) := dk_182 1 65 (dk_at dksX1_page_1 6 rfl rfl)
theorem dX1_page_32 : decode cX1_page 32 = .ok (.goto 4, 3) := dk_167 0 4 (dk_at dksX1_page_1 9 rfl rfl)
theorem dX1_page_35 : decode cX1_page 35 = .ok (.iconst (-1), 1) := dk_2 (dk_at dksX1_page_1 12 rfl rfl)
theorem dX1_page_36 : decode cX1_page 36 = .ok (.ireturn, 1) := dk_172 (dk_at dksX1_page_1 13 rfl rfl)
abbrev cX1_wars : ByteArray := prog_1_method_118_code
def yX1_wars : MethodName := ⟨RX1, "wars", "(II)I"⟩
def dkwX1_wars_3 : List UInt8 := [172]
abbrev dktX1_wars_3 : List UInt8 := dkwX1_wars_3 ++ []
def dkwX1_wars_2 : List UInt8 := [42, 28, 21, 4, 182, 1, 172, 153, 0, 10, 29, 4, 21, 4, 120, 128, 62, 132, 4, 1, 167, 255, 212, 29]
abbrev dktX1_wars_2 : List UInt8 := dkwX1_wars_2 ++ dktX1_wars_3
def dkwX1_wars_1 : List UInt8 := [21, 4, 42, 180, 1, 52, 162, 0, 41, 27, 28, 159, 0, 30, 42, 27, 21, 4, 182, 1, 172, 153, 0, 20]
abbrev dktX1_wars_1 : List UInt8 := dkwX1_wars_1 ++ dktX1_wars_2
def dkwX1_wars_0 : List UInt8 := [42, 27, 182, 1, 68, 153, 0, 11, 42, 28, 182, 1, 68, 154, 0, 5, 2, 172, 3, 62, 3, 54, 4]
abbrev dktX1_wars_0 : List UInt8 := dkwX1_wars_0 ++ dktX1_wars_1
theorem dksX1_wars_0 : cX1_wars.data.toList.drop 0 = dktX1_wars_0 := by decide +kernel
theorem dksX1_wars_1 : cX1_wars.data.toList.drop 23 = dktX1_wars_1 := dk_seg dksX1_wars_0 23 rfl rfl
theorem dksX1_wars_2 : cX1_wars.data.toList.drop 47 = dktX1_wars_2 := dk_seg dksX1_wars_1 24 rfl rfl
theorem dksX1_wars_3 : cX1_wars.data.toList.drop 71 = dktX1_wars_3 := dk_seg dksX1_wars_2 24 rfl rfl
theorem dX1_wars_0 : decode cX1_wars 0 = .ok (.aload_n 0, 1) := dk_42 (dk_at dksX1_wars_0 0 rfl rfl)
theorem dX1_wars_1 : decode cX1_wars 1 = .ok (.iload_n 1, 1) := dk_27 (dk_at dksX1_wars_0 1 rfl rfl)
theorem dX1_wars_2 : decode cX1_wars 2 = .ok (.invokevirtual 324, 3) := dk_182 1 68 (dk_at dksX1_wars_0 2 rfl rfl)
theorem dX1_wars_5 : decode cX1_wars 5 = .ok (.ifCond .eq 11, 3) := dk_153 0 11 (dk_at dksX1_wars_0 5 rfl rfl)
theorem dX1_wars_8 : decode cX1_wars 8 = .ok (.aload_n 0, 1) := dk_42 (dk_at dksX1_wars_0 8 rfl rfl)
theorem dX1_wars_9 : decode cX1_wars 9 = .ok (.iload_n 2, 1) := dk_28 (dk_at dksX1_wars_0 9 rfl rfl)
theorem dX1_wars_10 : decode cX1_wars 10 = .ok (.invokevirtual 324, 3) := dk_182 1 68 (dk_at dksX1_wars_0 10 rfl rfl)
theorem dX1_wars_13 : decode cX1_wars 13 = .ok (.ifCond .ne 5, 3) := dk_154 0 5 (dk_at dksX1_wars_0 13 rfl rfl)
theorem dX1_wars_16 : decode cX1_wars 16 = .ok (.iconst (-1), 1) := dk_2 (dk_at dksX1_wars_0 16 rfl rfl)
theorem dX1_wars_17 : decode cX1_wars 17 = .ok (.ireturn, 1) := dk_172 (dk_at dksX1_wars_0 17 rfl rfl)
theorem dX1_wars_18 : decode cX1_wars 18 = .ok (.iconst 0, 1) := dk_3 (dk_at dksX1_wars_0 18 rfl rfl)
theorem dX1_wars_19 : decode cX1_wars 19 = .ok (.istore_n 3, 1) := dk_62 (dk_at dksX1_wars_0 19 rfl rfl)
theorem dX1_wars_20 : decode cX1_wars 20 = .ok (.iconst 0, 1) := dk_3 (dk_at dksX1_wars_0 20 rfl rfl)
theorem dX1_wars_21 : decode cX1_wars 21 = .ok (.istore 4, 2) := dk_54 4 (dk_at dksX1_wars_0 21 rfl rfl)
theorem dX1_wars_23 : decode cX1_wars 23 = .ok (.iload 4, 2) := dk_21 4 (dk_at dksX1_wars_1 0 rfl rfl)
theorem dX1_wars_25 : decode cX1_wars 25 = .ok (.aload_n 0, 1) := dk_42 (dk_at dksX1_wars_1 2 rfl rfl)
theorem dX1_wars_26 : decode cX1_wars 26 = .ok (.getfield 308, 3) := dk_180 1 52 (dk_at dksX1_wars_1 3 rfl rfl)
theorem dX1_wars_29 : decode cX1_wars 29 = .ok (.if_icmp .ge 41, 3) := dk_162 0 41 (dk_at dksX1_wars_1 6 rfl rfl)
theorem dX1_wars_32 : decode cX1_wars 32 = .ok (.iload_n 1, 1) := dk_27 (dk_at dksX1_wars_1 9 rfl rfl)
theorem dX1_wars_33 : decode cX1_wars 33 = .ok (.iload_n 2, 1) := dk_28 (dk_at dksX1_wars_1 10 rfl rfl)
theorem dX1_wars_34 : decode cX1_wars 34 = .ok (.if_icmp .eq 30, 3) := dk_159 0 30 (dk_at dksX1_wars_1 11 rfl rfl)
theorem dX1_wars_37 : decode cX1_wars 37 = .ok (.aload_n 0, 1) := dk_42 (dk_at dksX1_wars_1 14 rfl rfl)
theorem dX1_wars_38 : decode cX1_wars 38 = .ok (.iload_n 1, 1) := dk_27 (dk_at dksX1_wars_1 15 rfl rfl)
theorem dX1_wars_39 : decode cX1_wars 39 = .ok (.iload 4, 2) := dk_21 4 (dk_at dksX1_wars_1 16 rfl rfl)
theorem dX1_wars_41 : decode cX1_wars 41 = .ok (.invokevirtual 428, 3) := dk_182 1 172 (dk_at dksX1_wars_1 18 rfl rfl)
theorem dX1_wars_44 : decode cX1_wars 44 = .ok (.ifCond .eq 20, 3) := dk_153 0 20 (dk_at dksX1_wars_1 21 rfl rfl)
theorem dX1_wars_47 : decode cX1_wars 47 = .ok (.aload_n 0, 1) := dk_42 (dk_at dksX1_wars_2 0 rfl rfl)
theorem dX1_wars_48 : decode cX1_wars 48 = .ok (.iload_n 2, 1) := dk_28 (dk_at dksX1_wars_2 1 rfl rfl)
theorem dX1_wars_49 : decode cX1_wars 49 = .ok (.iload 4, 2) := dk_21 4 (dk_at dksX1_wars_2 2 rfl rfl)
theorem dX1_wars_51 : decode cX1_wars 51 = .ok (.invokevirtual 428, 3) := dk_182 1 172 (dk_at dksX1_wars_2 4 rfl rfl)
theorem dX1_wars_54 : decode cX1_wars 54 = .ok (.ifCond .eq 10, 3) := dk_153 0 10 (dk_at dksX1_wars_2 7 rfl rfl)
theorem dX1_wars_57 : decode cX1_wars 57 = .ok (.iload_n 3, 1) := dk_29 (dk_at dksX1_wars_2 10 rfl rfl)
theorem dX1_wars_58 : decode cX1_wars 58 = .ok (.iconst 1, 1) := dk_4 (dk_at dksX1_wars_2 11 rfl rfl)
theorem dX1_wars_59 : decode cX1_wars 59 = .ok (.iload 4, 2) := dk_21 4 (dk_at dksX1_wars_2 12 rfl rfl)
theorem dX1_wars_61 : decode cX1_wars 61 = .ok (.ishl, 1) := dk_120 (dk_at dksX1_wars_2 14 rfl rfl)
theorem dX1_wars_62 : decode cX1_wars 62 = .ok (.ior, 1) := dk_128 (dk_at dksX1_wars_2 15 rfl rfl)
theorem dX1_wars_63 : decode cX1_wars 63 = .ok (.istore_n 3, 1) := dk_62 (dk_at dksX1_wars_2 16 rfl rfl)
theorem dX1_wars_64 : decode cX1_wars 64 = .ok (.iinc 4 1, 3) := dk_132 4 1 (dk_at dksX1_wars_2 17 rfl rfl)
theorem dX1_wars_67 : decode cX1_wars 67 = .ok (.goto (-44), 3) := dk_167 255 212 (dk_at dksX1_wars_2 20 rfl rfl)
theorem dX1_wars_70 : decode cX1_wars 70 = .ok (.iload_n 3, 1) := dk_29 (dk_at dksX1_wars_2 23 rfl rfl)
theorem dX1_wars_71 : decode cX1_wars 71 = .ok (.ireturn, 1) := dk_172 (dk_at dksX1_wars_3 0 rfl rfl)
abbrev cX1_image : ByteArray := prog_1_method_119_code
def yX1_image : MethodName := ⟨RX1, "image", "()I"⟩
def dkwX1_image_2 : List UInt8 := [172]
abbrev dktX1_image_2 : List UInt8 := dkwX1_image_2 ++ []
def dkwX1_image_1 : List UInt8 := [180, 0, 58, 27, 46, 79, 132, 1, 1, 167, 255, 234, 42, 4, 181, 1, 61, 42, 180, 0, 58, 16, 18, 46]
abbrev dktX1_image_1 : List UInt8 := dkwX1_image_1 ++ dktX1_image_2
def dkwX1_image_0 : List UInt8 := [42, 182, 1, 117, 154, 0, 5, 2, 172, 3, 60, 27, 17, 1, 35, 162, 0, 21, 42, 180, 0, 82, 27, 42]
abbrev dktX1_image_0 : List UInt8 := dkwX1_image_0 ++ dktX1_image_1
theorem dksX1_image_0 : cX1_image.data.toList.drop 0 = dktX1_image_0 := by decide +kernel
theorem dksX1_image_1 : cX1_image.data.toList.drop 24 = dktX1_image_1 := dk_seg dksX1_image_0 24 rfl rfl
theorem dksX1_image_2 : cX1_image.data.toList.drop 48 = dktX1_image_2 := dk_seg dksX1_image_1 24 rfl rfl
theorem dX1_image_0 : decode cX1_image 0 = .ok (.aload_n 0, 1) := dk_42 (dk_at dksX1_image_0 0 rfl rfl)
theorem dX1_image_1 : decode cX1_image 1 = .ok (.invokevirtual 373, 3) := dk_182 1 117 (dk_at dksX1_image_0 1 rfl rfl)
theorem dX1_image_4 : decode cX1_image 4 = .ok (.ifCond .ne 5, 3) := dk_154 0 5 (dk_at dksX1_image_0 4 rfl rfl)
theorem dX1_image_7 : decode cX1_image 7 = .ok (.iconst (-1), 1) := dk_2 (dk_at dksX1_image_0 7 rfl rfl)
theorem dX1_image_8 : decode cX1_image 8 = .ok (.ireturn, 1) := dk_172 (dk_at dksX1_image_0 8 rfl rfl)
theorem dX1_image_9 : decode cX1_image 9 = .ok (.iconst 0, 1) := dk_3 (dk_at dksX1_image_0 9 rfl rfl)
theorem dX1_image_10 : decode cX1_image 10 = .ok (.istore_n 1, 1) := dk_60 (dk_at dksX1_image_0 10 rfl rfl)
theorem dX1_image_11 : decode cX1_image 11 = .ok (.iload_n 1, 1) := dk_27 (dk_at dksX1_image_0 11 rfl rfl)
theorem dX1_image_12 : decode cX1_image 12 = .ok (.sipush 291, 3) := dk_17 1 35 (dk_at dksX1_image_0 12 rfl rfl)
theorem dX1_image_15 : decode cX1_image 15 = .ok (.if_icmp .ge 21, 3) := dk_162 0 21 (dk_at dksX1_image_0 15 rfl rfl)
theorem dX1_image_18 : decode cX1_image 18 = .ok (.aload_n 0, 1) := dk_42 (dk_at dksX1_image_0 18 rfl rfl)
theorem dX1_image_19 : decode cX1_image 19 = .ok (.getfield 82, 3) := dk_180 0 82 (dk_at dksX1_image_0 19 rfl rfl)
theorem dX1_image_22 : decode cX1_image 22 = .ok (.iload_n 1, 1) := dk_27 (dk_at dksX1_image_0 22 rfl rfl)
theorem dX1_image_23 : decode cX1_image 23 = .ok (.aload_n 0, 1) := dk_42 (dk_at dksX1_image_0 23 rfl rfl)
theorem dX1_image_24 : decode cX1_image 24 = .ok (.getfield 58, 3) := dk_180 0 58 (dk_at dksX1_image_1 0 rfl rfl)
theorem dX1_image_27 : decode cX1_image 27 = .ok (.iload_n 1, 1) := dk_27 (dk_at dksX1_image_1 3 rfl rfl)
theorem dX1_image_28 : decode cX1_image 28 = .ok (.iaload, 1) := dk_46 (dk_at dksX1_image_1 4 rfl rfl)
theorem dX1_image_29 : decode cX1_image 29 = .ok (.iastore, 1) := dk_79 (dk_at dksX1_image_1 5 rfl rfl)
theorem dX1_image_30 : decode cX1_image 30 = .ok (.iinc 1 1, 3) := dk_132 1 1 (dk_at dksX1_image_1 6 rfl rfl)
theorem dX1_image_33 : decode cX1_image 33 = .ok (.goto (-22), 3) := dk_167 255 234 (dk_at dksX1_image_1 9 rfl rfl)
theorem dX1_image_36 : decode cX1_image 36 = .ok (.aload_n 0, 1) := dk_42 (dk_at dksX1_image_1 12 rfl rfl)
theorem dX1_image_37 : decode cX1_image 37 = .ok (.iconst 1, 1) := dk_4 (dk_at dksX1_image_1 13 rfl rfl)
theorem dX1_image_38 : decode cX1_image 38 = .ok (.putfield 317, 3) := dk_181 1 61 (dk_at dksX1_image_1 14 rfl rfl)
theorem dX1_image_41 : decode cX1_image 41 = .ok (.aload_n 0, 1) := dk_42 (dk_at dksX1_image_1 17 rfl rfl)
theorem dX1_image_42 : decode cX1_image 42 = .ok (.getfield 58, 3) := dk_180 0 58 (dk_at dksX1_image_1 18 rfl rfl)
theorem dX1_image_45 : decode cX1_image 45 = .ok (.bipush 18, 2) := dk_16 18 (dk_at dksX1_image_1 21 rfl rfl)
theorem dX1_image_47 : decode cX1_image 47 = .ok (.iaload, 1) := dk_46 (dk_at dksX1_image_1 23 rfl rfl)
theorem dX1_image_48 : decode cX1_image 48 = .ok (.ireturn, 1) := dk_172 (dk_at dksX1_image_2 0 rfl rfl)
abbrev cX1_back : ByteArray := prog_1_method_120_code
def yX1_back : MethodName := ⟨RX1, "back", "()I"⟩
def dkwX1_back_2 : List UInt8 := [172]
abbrev dktX1_back_2 : List UInt8 := dkwX1_back_2 ++ []
def dkwX1_back_1 : List UInt8 := [180, 0, 82, 27, 46, 79, 132, 1, 1, 167, 255, 234, 42, 3, 181, 1, 58, 42, 180, 0, 58, 16, 18, 46]
abbrev dktX1_back_1 : List UInt8 := dkwX1_back_1 ++ dktX1_back_2
def dkwX1_back_0 : List UInt8 := [42, 180, 1, 61, 154, 0, 5, 2, 172, 3, 60, 27, 17, 1, 35, 162, 0, 21, 42, 180, 0, 58, 27, 42]
abbrev dktX1_back_0 : List UInt8 := dkwX1_back_0 ++ dktX1_back_1
theorem dksX1_back_0 : cX1_back.data.toList.drop 0 = dktX1_back_0 := by decide +kernel
theorem dksX1_back_1 : cX1_back.data.toList.drop 24 = dktX1_back_1 := dk_seg dksX1_back_0 24 rfl rfl
theorem dksX1_back_2 : cX1_back.data.toList.drop 48 = dktX1_back_2 := dk_seg dksX1_back_1 24 rfl rfl
theorem dX1_back_0 : decode cX1_back 0 = .ok (.aload_n 0, 1) := dk_42 (dk_at dksX1_back_0 0 rfl rfl)
theorem dX1_back_1 : decode cX1_back 1 = .ok (.getfield 317, 3) := dk_180 1 61 (dk_at dksX1_back_0 1 rfl rfl)
theorem dX1_back_4 : decode cX1_back 4 = .ok (.ifCond .ne 5, 3) := dk_154 0 5 (dk_at dksX1_back_0 4 rfl rfl)
theorem dX1_back_7 : decode cX1_back 7 = .ok (.iconst (-1), 1) := dk_2 (dk_at dksX1_back_0 7 rfl rfl)
theorem dX1_back_8 : decode cX1_back 8 = .ok (.ireturn, 1) := dk_172 (dk_at dksX1_back_0 8 rfl rfl)
theorem dX1_back_9 : decode cX1_back 9 = .ok (.iconst 0, 1) := dk_3 (dk_at dksX1_back_0 9 rfl rfl)
theorem dX1_back_10 : decode cX1_back 10 = .ok (.istore_n 1, 1) := dk_60 (dk_at dksX1_back_0 10 rfl rfl)
theorem dX1_back_11 : decode cX1_back 11 = .ok (.iload_n 1, 1) := dk_27 (dk_at dksX1_back_0 11 rfl rfl)
theorem dX1_back_12 : decode cX1_back 12 = .ok (.sipush 291, 3) := dk_17 1 35 (dk_at dksX1_back_0 12 rfl rfl)
theorem dX1_back_15 : decode cX1_back 15 = .ok (.if_icmp .ge 21, 3) := dk_162 0 21 (dk_at dksX1_back_0 15 rfl rfl)
theorem dX1_back_18 : decode cX1_back 18 = .ok (.aload_n 0, 1) := dk_42 (dk_at dksX1_back_0 18 rfl rfl)
theorem dX1_back_19 : decode cX1_back 19 = .ok (.getfield 58, 3) := dk_180 0 58 (dk_at dksX1_back_0 19 rfl rfl)
theorem dX1_back_22 : decode cX1_back 22 = .ok (.iload_n 1, 1) := dk_27 (dk_at dksX1_back_0 22 rfl rfl)
theorem dX1_back_23 : decode cX1_back 23 = .ok (.aload_n 0, 1) := dk_42 (dk_at dksX1_back_0 23 rfl rfl)
theorem dX1_back_24 : decode cX1_back 24 = .ok (.getfield 82, 3) := dk_180 0 82 (dk_at dksX1_back_1 0 rfl rfl)
theorem dX1_back_27 : decode cX1_back 27 = .ok (.iload_n 1, 1) := dk_27 (dk_at dksX1_back_1 3 rfl rfl)
theorem dX1_back_28 : decode cX1_back 28 = .ok (.iaload, 1) := dk_46 (dk_at dksX1_back_1 4 rfl rfl)
theorem dX1_back_29 : decode cX1_back 29 = .ok (.iastore, 1) := dk_79 (dk_at dksX1_back_1 5 rfl rfl)
theorem dX1_back_30 : decode cX1_back 30 = .ok (.iinc 1 1, 3) := dk_132 1 1 (dk_at dksX1_back_1 6 rfl rfl)
theorem dX1_back_33 : decode cX1_back 33 = .ok (.goto (-22), 3) := dk_167 255 234 (dk_at dksX1_back_1 9 rfl rfl)
theorem dX1_back_36 : decode cX1_back 36 = .ok (.aload_n 0, 1) := dk_42 (dk_at dksX1_back_1 12 rfl rfl)
theorem dX1_back_37 : decode cX1_back 37 = .ok (.iconst 0, 1) := dk_3 (dk_at dksX1_back_1 13 rfl rfl)
theorem dX1_back_38 : decode cX1_back 38 = .ok (.putfield 314, 3) := dk_181 1 58 (dk_at dksX1_back_1 14 rfl rfl)
theorem dX1_back_41 : decode cX1_back 41 = .ok (.aload_n 0, 1) := dk_42 (dk_at dksX1_back_1 17 rfl rfl)
theorem dX1_back_42 : decode cX1_back 42 = .ok (.getfield 58, 3) := dk_180 0 58 (dk_at dksX1_back_1 18 rfl rfl)
theorem dX1_back_45 : decode cX1_back 45 = .ok (.bipush 18, 2) := dk_16 18 (dk_at dksX1_back_1 21 rfl rfl)
theorem dX1_back_47 : decode cX1_back 47 = .ok (.iaload, 1) := dk_46 (dk_at dksX1_back_1 23 rfl rfl)
theorem dX1_back_48 : decode cX1_back 48 = .ok (.ireturn, 1) := dk_172 (dk_at dksX1_back_2 0 rfl rfl)
abbrev cX1_count : ByteArray := prog_1_method_121_code
def yX1_count : MethodName := ⟨RX1, "count", "(I)I"⟩
def dkwX1_count_5 : List UInt8 := [172, 42, 180, 1, 58, 172, 19, 1, 155, 172]
abbrev dktX1_count_5 : List UInt8 := dkwX1_count_5 ++ []
def dkwX1_count_4 : List UInt8 := [180, 0, 58, 16, 19, 46, 172, 42, 180, 0, 55, 172, 42, 180, 1, 55, 172, 42, 180, 0, 58, 16, 110, 46]
abbrev dktX1_count_4 : List UInt8 := dkwX1_count_4 ++ dktX1_count_5
def dkwX1_count_3 : List UInt8 := [172, 42, 180, 0, 51, 172, 42, 180, 0, 58, 16, 18, 46, 172, 42, 180, 0, 58, 16, 17, 46, 172, 42]
abbrev dktX1_count_3 : List UInt8 := dkwX1_count_3 ++ dktX1_count_4
def dkwX1_count_2 : List UInt8 := [42, 180, 1, 49, 172, 42, 180, 1, 52, 172, 42, 180, 1, 35, 172, 42, 180, 1, 38, 172, 42, 180, 0, 89]
abbrev dktX1_count_2 : List UInt8 := dkwX1_count_2 ++ dktX1_count_3
def dkwX1_count_1 : List UInt8 := [170, 0, 0, 0, 0, 0, 144, 0, 0, 0, 0, 0, 0, 0, 12, 0, 0, 0, 67, 0, 0, 0, 72, 0, 0, 0, 77, 0, 0, 0, 82, 0, 0, 0, 87, 0, 0, 0, 92, 0, 0, 0, 97, 0, 0, 0, 105, 0, 0, 0, 113, 0, 0, 0, 121, 0, 0, 0, 126, 0, 0, 0, 131, 0, 0, 0, 139]
abbrev dktX1_count_1 : List UInt8 := dkwX1_count_1 ++ dktX1_count_2
def dkwX1_count_0 : List UInt8 := [27]
abbrev dktX1_count_0 : List UInt8 := dkwX1_count_0 ++ dktX1_count_1
theorem dksX1_count_0 : cX1_count.data.toList.drop 0 = dktX1_count_0 := by decide +kernel
theorem dksX1_count_1 : cX1_count.data.toList.drop 1 = dktX1_count_1 := dk_seg dksX1_count_0 1 rfl rfl
theorem dksX1_count_2 : cX1_count.data.toList.drop 68 = dktX1_count_2 := dk_seg dksX1_count_1 67 rfl rfl
theorem dksX1_count_3 : cX1_count.data.toList.drop 92 = dktX1_count_3 := dk_seg dksX1_count_2 24 rfl rfl
theorem dksX1_count_4 : cX1_count.data.toList.drop 115 = dktX1_count_4 := dk_seg dksX1_count_3 23 rfl rfl
theorem dksX1_count_5 : cX1_count.data.toList.drop 139 = dktX1_count_5 := dk_seg dksX1_count_4 24 rfl rfl
theorem dX1_count_0 : decode cX1_count 0 = .ok (.iload_n 1, 1) := dk_27 (dk_at dksX1_count_0 0 rfl rfl)
theorem dX1_count_1 : decode cX1_count 1 = .ok (.tableswitch 144 0 12 #[67, 72, 77, 82, 87, 92, 97, 105, 113, 121, 126, 131, 139], 67) := by decide +kernel
theorem dX1_count_68 : decode cX1_count 68 = .ok (.aload_n 0, 1) := dk_42 (dk_at dksX1_count_2 0 rfl rfl)
theorem dX1_count_69 : decode cX1_count 69 = .ok (.getfield 305, 3) := dk_180 1 49 (dk_at dksX1_count_2 1 rfl rfl)
theorem dX1_count_72 : decode cX1_count 72 = .ok (.ireturn, 1) := dk_172 (dk_at dksX1_count_2 4 rfl rfl)
theorem dX1_count_73 : decode cX1_count 73 = .ok (.aload_n 0, 1) := dk_42 (dk_at dksX1_count_2 5 rfl rfl)
theorem dX1_count_74 : decode cX1_count 74 = .ok (.getfield 308, 3) := dk_180 1 52 (dk_at dksX1_count_2 6 rfl rfl)
theorem dX1_count_77 : decode cX1_count 77 = .ok (.ireturn, 1) := dk_172 (dk_at dksX1_count_2 9 rfl rfl)
theorem dX1_count_78 : decode cX1_count 78 = .ok (.aload_n 0, 1) := dk_42 (dk_at dksX1_count_2 10 rfl rfl)
theorem dX1_count_79 : decode cX1_count 79 = .ok (.getfield 291, 3) := dk_180 1 35 (dk_at dksX1_count_2 11 rfl rfl)
theorem dX1_count_82 : decode cX1_count 82 = .ok (.ireturn, 1) := dk_172 (dk_at dksX1_count_2 14 rfl rfl)
theorem dX1_count_83 : decode cX1_count 83 = .ok (.aload_n 0, 1) := dk_42 (dk_at dksX1_count_2 15 rfl rfl)
theorem dX1_count_84 : decode cX1_count 84 = .ok (.getfield 294, 3) := dk_180 1 38 (dk_at dksX1_count_2 16 rfl rfl)
theorem dX1_count_87 : decode cX1_count 87 = .ok (.ireturn, 1) := dk_172 (dk_at dksX1_count_2 19 rfl rfl)
theorem dX1_count_88 : decode cX1_count 88 = .ok (.aload_n 0, 1) := dk_42 (dk_at dksX1_count_2 20 rfl rfl)
theorem dX1_count_89 : decode cX1_count 89 = .ok (.getfield 89, 3) := dk_180 0 89 (dk_at dksX1_count_2 21 rfl rfl)
theorem dX1_count_92 : decode cX1_count 92 = .ok (.ireturn, 1) := dk_172 (dk_at dksX1_count_3 0 rfl rfl)
theorem dX1_count_93 : decode cX1_count 93 = .ok (.aload_n 0, 1) := dk_42 (dk_at dksX1_count_3 1 rfl rfl)
theorem dX1_count_94 : decode cX1_count 94 = .ok (.getfield 51, 3) := dk_180 0 51 (dk_at dksX1_count_3 2 rfl rfl)
theorem dX1_count_97 : decode cX1_count 97 = .ok (.ireturn, 1) := dk_172 (dk_at dksX1_count_3 5 rfl rfl)
theorem dX1_count_98 : decode cX1_count 98 = .ok (.aload_n 0, 1) := dk_42 (dk_at dksX1_count_3 6 rfl rfl)
theorem dX1_count_99 : decode cX1_count 99 = .ok (.getfield 58, 3) := dk_180 0 58 (dk_at dksX1_count_3 7 rfl rfl)
theorem dX1_count_102 : decode cX1_count 102 = .ok (.bipush 18, 2) := dk_16 18 (dk_at dksX1_count_3 10 rfl rfl)
theorem dX1_count_104 : decode cX1_count 104 = .ok (.iaload, 1) := dk_46 (dk_at dksX1_count_3 12 rfl rfl)
theorem dX1_count_105 : decode cX1_count 105 = .ok (.ireturn, 1) := dk_172 (dk_at dksX1_count_3 13 rfl rfl)
theorem dX1_count_106 : decode cX1_count 106 = .ok (.aload_n 0, 1) := dk_42 (dk_at dksX1_count_3 14 rfl rfl)
theorem dX1_count_107 : decode cX1_count 107 = .ok (.getfield 58, 3) := dk_180 0 58 (dk_at dksX1_count_3 15 rfl rfl)
theorem dX1_count_110 : decode cX1_count 110 = .ok (.bipush 17, 2) := dk_16 17 (dk_at dksX1_count_3 18 rfl rfl)
theorem dX1_count_112 : decode cX1_count 112 = .ok (.iaload, 1) := dk_46 (dk_at dksX1_count_3 20 rfl rfl)
theorem dX1_count_113 : decode cX1_count 113 = .ok (.ireturn, 1) := dk_172 (dk_at dksX1_count_3 21 rfl rfl)
theorem dX1_count_114 : decode cX1_count 114 = .ok (.aload_n 0, 1) := dk_42 (dk_at dksX1_count_3 22 rfl rfl)
theorem dX1_count_115 : decode cX1_count 115 = .ok (.getfield 58, 3) := dk_180 0 58 (dk_at dksX1_count_4 0 rfl rfl)
theorem dX1_count_118 : decode cX1_count 118 = .ok (.bipush 19, 2) := dk_16 19 (dk_at dksX1_count_4 3 rfl rfl)
theorem dX1_count_120 : decode cX1_count 120 = .ok (.iaload, 1) := dk_46 (dk_at dksX1_count_4 5 rfl rfl)
theorem dX1_count_121 : decode cX1_count 121 = .ok (.ireturn, 1) := dk_172 (dk_at dksX1_count_4 6 rfl rfl)
theorem dX1_count_122 : decode cX1_count 122 = .ok (.aload_n 0, 1) := dk_42 (dk_at dksX1_count_4 7 rfl rfl)
theorem dX1_count_123 : decode cX1_count 123 = .ok (.getfield 55, 3) := dk_180 0 55 (dk_at dksX1_count_4 8 rfl rfl)
theorem dX1_count_126 : decode cX1_count 126 = .ok (.ireturn, 1) := dk_172 (dk_at dksX1_count_4 11 rfl rfl)
theorem dX1_count_127 : decode cX1_count 127 = .ok (.aload_n 0, 1) := dk_42 (dk_at dksX1_count_4 12 rfl rfl)
theorem dX1_count_128 : decode cX1_count 128 = .ok (.getfield 311, 3) := dk_180 1 55 (dk_at dksX1_count_4 13 rfl rfl)
theorem dX1_count_131 : decode cX1_count 131 = .ok (.ireturn, 1) := dk_172 (dk_at dksX1_count_4 16 rfl rfl)
theorem dX1_count_132 : decode cX1_count 132 = .ok (.aload_n 0, 1) := dk_42 (dk_at dksX1_count_4 17 rfl rfl)
theorem dX1_count_133 : decode cX1_count 133 = .ok (.getfield 58, 3) := dk_180 0 58 (dk_at dksX1_count_4 18 rfl rfl)
theorem dX1_count_136 : decode cX1_count 136 = .ok (.bipush 110, 2) := dk_16 110 (dk_at dksX1_count_4 21 rfl rfl)
theorem dX1_count_138 : decode cX1_count 138 = .ok (.iaload, 1) := dk_46 (dk_at dksX1_count_4 23 rfl rfl)
theorem dX1_count_139 : decode cX1_count 139 = .ok (.ireturn, 1) := dk_172 (dk_at dksX1_count_5 0 rfl rfl)
theorem dX1_count_140 : decode cX1_count 140 = .ok (.aload_n 0, 1) := dk_42 (dk_at dksX1_count_5 1 rfl rfl)
theorem dX1_count_141 : decode cX1_count 141 = .ok (.getfield 314, 3) := dk_180 1 58 (dk_at dksX1_count_5 2 rfl rfl)
theorem dX1_count_144 : decode cX1_count 144 = .ok (.ireturn, 1) := dk_172 (dk_at dksX1_count_5 5 rfl rfl)
theorem dX1_count_145 : decode cX1_count 145 = .ok (.ldc_w 411, 3) := dk_19 1 155 (dk_at dksX1_count_5 6 rfl rfl)
theorem dX1_count_148 : decode cX1_count 148 = .ok (.ireturn, 1) := dk_172 (dk_at dksX1_count_5 9 rfl rfl)
abbrev cX1_kingdom : ByteArray := prog_1_method_47_code
def yX1_kingdom : MethodName := ⟨RX1, "kingdom", "(II)I"⟩
def dkwX1_kingdom_2 : List UInt8 := [42, 27, 182, 1, 74, 167, 0, 14, 42, 180, 0, 58, 16, 16, 46, 27, 122, 4, 126, 172]
abbrev dktX1_kingdom_2 : List UInt8 := dkwX1_kingdom_2 ++ []
def dkwX1_kingdom_1 : List UInt8 := [191, 28, 7, 162, 0, 16, 42, 180, 0, 58, 7, 28, 104, 27, 96, 46, 167, 0, 27, 28, 7, 160, 0, 11]
abbrev dktX1_kingdom_1 : List UInt8 := dkwX1_kingdom_1 ++ dktX1_kingdom_2
def dkwX1_kingdom_0 : List UInt8 := [42, 27, 182, 1, 68, 153, 0, 12, 28, 3, 8, 184, 0, 233, 154, 0, 11, 187, 1, 71, 89, 183, 1, 73]
abbrev dktX1_kingdom_0 : List UInt8 := dkwX1_kingdom_0 ++ dktX1_kingdom_1
theorem dksX1_kingdom_0 : cX1_kingdom.data.toList.drop 0 = dktX1_kingdom_0 := by decide +kernel
theorem dksX1_kingdom_1 : cX1_kingdom.data.toList.drop 24 = dktX1_kingdom_1 := dk_seg dksX1_kingdom_0 24 rfl rfl
theorem dksX1_kingdom_2 : cX1_kingdom.data.toList.drop 48 = dktX1_kingdom_2 := dk_seg dksX1_kingdom_1 24 rfl rfl
theorem dX1_kingdom_0 : decode cX1_kingdom 0 = .ok (.aload_n 0, 1) := dk_42 (dk_at dksX1_kingdom_0 0 rfl rfl)
theorem dX1_kingdom_1 : decode cX1_kingdom 1 = .ok (.iload_n 1, 1) := dk_27 (dk_at dksX1_kingdom_0 1 rfl rfl)
theorem dX1_kingdom_2 : decode cX1_kingdom 2 = .ok (.invokevirtual 324, 3) := dk_182 1 68 (dk_at dksX1_kingdom_0 2 rfl rfl)
theorem dX1_kingdom_5 : decode cX1_kingdom 5 = .ok (.ifCond .eq 12, 3) := dk_153 0 12 (dk_at dksX1_kingdom_0 5 rfl rfl)
theorem dX1_kingdom_8 : decode cX1_kingdom 8 = .ok (.iload_n 2, 1) := dk_28 (dk_at dksX1_kingdom_0 8 rfl rfl)
theorem dX1_kingdom_9 : decode cX1_kingdom 9 = .ok (.iconst 0, 1) := dk_3 (dk_at dksX1_kingdom_0 9 rfl rfl)
theorem dX1_kingdom_10 : decode cX1_kingdom 10 = .ok (.iconst 5, 1) := dk_8 (dk_at dksX1_kingdom_0 10 rfl rfl)
theorem dX1_kingdom_11 : decode cX1_kingdom 11 = .ok (.invokestatic 233, 3) := dk_184 0 233 (dk_at dksX1_kingdom_0 11 rfl rfl)
theorem dX1_kingdom_14 : decode cX1_kingdom 14 = .ok (.ifCond .ne 11, 3) := dk_154 0 11 (dk_at dksX1_kingdom_0 14 rfl rfl)
theorem dX1_kingdom_17 : decode cX1_kingdom 17 = .ok (.new 327, 3) := dk_187 1 71 (dk_at dksX1_kingdom_0 17 rfl rfl)
theorem dX1_kingdom_20 : decode cX1_kingdom 20 = .ok (.dup, 1) := dk_89 (dk_at dksX1_kingdom_0 20 rfl rfl)
theorem dX1_kingdom_21 : decode cX1_kingdom 21 = .ok (.invokespecial 329, 3) := dk_183 1 73 (dk_at dksX1_kingdom_0 21 rfl rfl)
theorem dX1_kingdom_24 : decode cX1_kingdom 24 = .ok (.athrow, 1) := dk_191 (dk_at dksX1_kingdom_1 0 rfl rfl)
theorem dX1_kingdom_25 : decode cX1_kingdom 25 = .ok (.iload_n 2, 1) := dk_28 (dk_at dksX1_kingdom_1 1 rfl rfl)
theorem dX1_kingdom_26 : decode cX1_kingdom 26 = .ok (.iconst 4, 1) := dk_7 (dk_at dksX1_kingdom_1 2 rfl rfl)
theorem dX1_kingdom_27 : decode cX1_kingdom 27 = .ok (.if_icmp .ge 16, 3) := dk_162 0 16 (dk_at dksX1_kingdom_1 3 rfl rfl)
theorem dX1_kingdom_30 : decode cX1_kingdom 30 = .ok (.aload_n 0, 1) := dk_42 (dk_at dksX1_kingdom_1 6 rfl rfl)
theorem dX1_kingdom_31 : decode cX1_kingdom 31 = .ok (.getfield 58, 3) := dk_180 0 58 (dk_at dksX1_kingdom_1 7 rfl rfl)
theorem dX1_kingdom_34 : decode cX1_kingdom 34 = .ok (.iconst 4, 1) := dk_7 (dk_at dksX1_kingdom_1 10 rfl rfl)
theorem dX1_kingdom_35 : decode cX1_kingdom 35 = .ok (.iload_n 2, 1) := dk_28 (dk_at dksX1_kingdom_1 11 rfl rfl)
theorem dX1_kingdom_36 : decode cX1_kingdom 36 = .ok (.imul, 1) := dk_104 (dk_at dksX1_kingdom_1 12 rfl rfl)
theorem dX1_kingdom_37 : decode cX1_kingdom 37 = .ok (.iload_n 1, 1) := dk_27 (dk_at dksX1_kingdom_1 13 rfl rfl)
theorem dX1_kingdom_38 : decode cX1_kingdom 38 = .ok (.iadd, 1) := dk_96 (dk_at dksX1_kingdom_1 14 rfl rfl)
theorem dX1_kingdom_39 : decode cX1_kingdom 39 = .ok (.iaload, 1) := dk_46 (dk_at dksX1_kingdom_1 15 rfl rfl)
theorem dX1_kingdom_40 : decode cX1_kingdom 40 = .ok (.goto 27, 3) := dk_167 0 27 (dk_at dksX1_kingdom_1 16 rfl rfl)
theorem dX1_kingdom_43 : decode cX1_kingdom 43 = .ok (.iload_n 2, 1) := dk_28 (dk_at dksX1_kingdom_1 19 rfl rfl)
theorem dX1_kingdom_44 : decode cX1_kingdom 44 = .ok (.iconst 4, 1) := dk_7 (dk_at dksX1_kingdom_1 20 rfl rfl)
theorem dX1_kingdom_45 : decode cX1_kingdom 45 = .ok (.if_icmp .ne 11, 3) := dk_160 0 11 (dk_at dksX1_kingdom_1 21 rfl rfl)
theorem dX1_kingdom_48 : decode cX1_kingdom 48 = .ok (.aload_n 0, 1) := dk_42 (dk_at dksX1_kingdom_2 0 rfl rfl)
theorem dX1_kingdom_49 : decode cX1_kingdom 49 = .ok (.iload_n 1, 1) := dk_27 (dk_at dksX1_kingdom_2 1 rfl rfl)
theorem dX1_kingdom_50 : decode cX1_kingdom 50 = .ok (.invokevirtual 330, 3) := dk_182 1 74 (dk_at dksX1_kingdom_2 2 rfl rfl)
theorem dX1_kingdom_53 : decode cX1_kingdom 53 = .ok (.goto 14, 3) := dk_167 0 14 (dk_at dksX1_kingdom_2 5 rfl rfl)
theorem dX1_kingdom_56 : decode cX1_kingdom 56 = .ok (.aload_n 0, 1) := dk_42 (dk_at dksX1_kingdom_2 8 rfl rfl)
theorem dX1_kingdom_57 : decode cX1_kingdom 57 = .ok (.getfield 58, 3) := dk_180 0 58 (dk_at dksX1_kingdom_2 9 rfl rfl)
theorem dX1_kingdom_60 : decode cX1_kingdom 60 = .ok (.bipush 16, 2) := dk_16 16 (dk_at dksX1_kingdom_2 12 rfl rfl)
theorem dX1_kingdom_62 : decode cX1_kingdom 62 = .ok (.iaload, 1) := dk_46 (dk_at dksX1_kingdom_2 14 rfl rfl)
theorem dX1_kingdom_63 : decode cX1_kingdom 63 = .ok (.iload_n 1, 1) := dk_27 (dk_at dksX1_kingdom_2 15 rfl rfl)
theorem dX1_kingdom_64 : decode cX1_kingdom 64 = .ok (.ishr, 1) := dk_122 (dk_at dksX1_kingdom_2 16 rfl rfl)
theorem dX1_kingdom_65 : decode cX1_kingdom 65 = .ok (.iconst 1, 1) := dk_4 (dk_at dksX1_kingdom_2 17 rfl rfl)
theorem dX1_kingdom_66 : decode cX1_kingdom 66 = .ok (.iand, 1) := dk_126 (dk_at dksX1_kingdom_2 18 rfl rfl)
theorem dX1_kingdom_67 : decode cX1_kingdom 67 = .ok (.ireturn, 1) := dk_172 (dk_at dksX1_kingdom_2 19 rfl rfl)
theorem q119 : (Jvm.Cond.initialized "LosersBooks") ∈ lw_all := lw_g (lw_at lw_m1 1 rfl) rfl
theorem q144 : (Jvm.Cond.instantiable "LosersBooks" (35 : Nat)) ∈ lw_all := lw_g (lw_at lw_m1 26 rfl) rfl
theorem q146 : (Jvm.Cond.instanceMethod ({ cls := "LosersBooks", name := "<init>", desc := "()V" } : Jvm.MethodName)) ∈ lw_all := lw_g (lw_at lw_m1 28 rfl) rfl
theorem q147 : (Jvm.Cond.code ({ cls := "LosersBooks", name := "<init>", desc := "()V" } : Jvm.MethodName) prog_1_method_3_code (1 : Nat) (Option.none : Option Jvm.ClassFile.FieldType)) ∈ lw_all := lw_g (lw_at lw_m1 29 rfl) rfl
theorem q148 : (Jvm.Cond.methodLink "LosersBooks" (3 : Nat) ({ cls := "java/lang/Object", name := "<init>", desc := "()V" } : Jvm.MethodName)) ∈ lw_all := lw_g (lw_at lw_m1 30 rfl) rfl
theorem q151 : (Jvm.Cond.classLink "LosersBooks" (9 : Nat) "LosersBooks$Fault") ∈ lw_all := lw_g (lw_at lw_m1 33 rfl) rfl
theorem q189 : (Jvm.Cond.methodLinkNest "LosersBooks" (11 : Nat) ({ cls := "LosersBooks$Fault", name := "<init>", desc := "()V" } : Jvm.MethodName) "LosersBooks") ∈ lw_tbl := lw_at lw_m1 71 rfl
theorem q208 : (Jvm.Cond.classLink "LosersBooks" (45 : Nat) "LosersBooks$Clause") ∈ lw_all := lw_g (lw_at lw_m1 90 rfl) rfl
theorem q210 : (Jvm.Cond.fieldLink "LosersBooks" (12 : Nat) "LosersBooks" "fault" "LLosersBooks$Fault;") ∈ lw_all := lw_g (lw_at lw_m1 92 rfl) rfl
theorem q211 : (Jvm.Cond.fieldLink "LosersBooks" (16 : Nat) "LosersBooks" "tape" "[B") ∈ lw_all := lw_g (lw_at lw_m1 93 rfl) rfl
theorem q212 : (Jvm.Cond.fieldLink "LosersBooks" (89 : Nat) "LosersBooks" "taped" "I") ∈ lw_all := lw_g (lw_at lw_m1 94 rfl) rfl
theorem q213 : (Jvm.Cond.fieldLink "LosersBooks" (92 : Nat) "LosersBooks" "place" "I") ∈ lw_all := lw_g (lw_at lw_m1 95 rfl) rfl
theorem q214 : (Jvm.Cond.fieldLink "LosersBooks" (95 : Nat) "LosersBooks" "deep" "I") ∈ lw_all := lw_g (lw_at lw_m1 96 rfl) rfl
theorem q215 : (Jvm.Cond.fieldLink "LosersBooks" (20 : Nat) "LosersBooks" "letters" "[I") ∈ lw_all := lw_g (lw_at lw_m1 97 rfl) rfl
theorem q216 : (Jvm.Cond.fieldLink "LosersBooks" (24 : Nat) "LosersBooks" "readRule" "[I") ∈ lw_all := lw_g (lw_at lw_m1 98 rfl) rfl
theorem q217 : (Jvm.Cond.fieldLink "LosersBooks" (27 : Nat) "LosersBooks" "readKingdom" "[I") ∈ lw_all := lw_g (lw_at lw_m1 99 rfl) rfl
theorem q218 : (Jvm.Cond.fieldLink "LosersBooks" (30 : Nat) "LosersBooks" "readField" "[I") ∈ lw_all := lw_g (lw_at lw_m1 100 rfl) rfl
theorem q219 : (Jvm.Cond.fieldLink "LosersBooks" (33 : Nat) "LosersBooks" "rules" "[I") ∈ lw_all := lw_g (lw_at lw_m1 101 rfl) rfl
theorem q220 : (Jvm.Cond.fieldLink "LosersBooks" (36 : Nat) "LosersBooks" "fields" "[I") ∈ lw_all := lw_g (lw_at lw_m1 102 rfl) rfl
theorem q221 : (Jvm.Cond.fieldLink "LosersBooks" (260 : Nat) "LosersBooks" "readKingdoms" "I") ∈ lw_all := lw_g (lw_at lw_m1 103 rfl) rfl
theorem q222 : (Jvm.Cond.fieldLink "LosersBooks" (263 : Nat) "LosersBooks" "readFields" "I") ∈ lw_all := lw_g (lw_at lw_m1 104 rfl) rfl
theorem q223 : (Jvm.Cond.fieldLink "LosersBooks" (305 : Nat) "LosersBooks" "kingdomMany" "I") ∈ lw_all := lw_g (lw_at lw_m1 105 rfl) rfl
theorem q224 : (Jvm.Cond.fieldLink "LosersBooks" (308 : Nat) "LosersBooks" "fieldMany" "I") ∈ lw_all := lw_g (lw_at lw_m1 106 rfl) rfl
theorem q225 : (Jvm.Cond.fieldLink "LosersBooks" (39 : Nat) "LosersBooks" "campaigns" "[I") ∈ lw_all := lw_g (lw_at lw_m1 107 rfl) rfl
theorem q226 : (Jvm.Cond.fieldLink "LosersBooks" (42 : Nat) "LosersBooks" "campaignLong" "[I") ∈ lw_all := lw_g (lw_at lw_m1 108 rfl) rfl
theorem q227 : (Jvm.Cond.fieldLink "LosersBooks" (294 : Nat) "LosersBooks" "campaignMany" "I") ∈ lw_all := lw_g (lw_at lw_m1 109 rfl) rfl
theorem q228 : (Jvm.Cond.fieldLink "LosersBooks" (47 : Nat) "LosersBooks" "laws" "[LLosersBooks$Clause;") ∈ lw_all := lw_g (lw_at lw_m1 110 rfl) rfl
theorem q229 : (Jvm.Cond.fieldLink "LosersBooks" (291 : Nat) "LosersBooks" "lawMany" "I") ∈ lw_all := lw_g (lw_at lw_m1 111 rfl) rfl
theorem q230 : (Jvm.Cond.fieldLink "LosersBooks" (51 : Nat) "LosersBooks" "holding" "I") ∈ lw_all := lw_g (lw_at lw_m1 112 rfl) rfl
theorem q231 : (Jvm.Cond.fieldLink "LosersBooks" (55 : Nat) "LosersBooks" "intrigues" "I") ∈ lw_all := lw_g (lw_at lw_m1 113 rfl) rfl
theorem q232 : (Jvm.Cond.fieldLink "LosersBooks" (58 : Nat) "LosersBooks" "now" "[I") ∈ lw_all := lw_g (lw_at lw_m1 114 rfl) rfl
theorem q233 : (Jvm.Cond.fieldLink "LosersBooks" (61 : Nat) "LosersBooks" "kept" "[I") ∈ lw_all := lw_g (lw_at lw_m1 115 rfl) rfl
theorem q234 : (Jvm.Cond.fieldLink "LosersBooks" (314 : Nat) "LosersBooks" "acts" "I") ∈ lw_all := lw_g (lw_at lw_m1 116 rfl) rfl
theorem q235 : (Jvm.Cond.fieldLink "LosersBooks" (397 : Nat) "LosersBooks" "draws" "J") ∈ lw_all := lw_g (lw_at lw_m1 117 rfl) rfl
theorem q236 : (Jvm.Cond.fieldLink "LosersBooks" (64 : Nat) "LosersBooks" "aside" "[I") ∈ lw_all := lw_g (lw_at lw_m1 118 rfl) rfl
theorem q237 : (Jvm.Cond.fieldLink "LosersBooks" (67 : Nat) "LosersBooks" "noteKingdom" "[I") ∈ lw_all := lw_g (lw_at lw_m1 119 rfl) rfl
theorem q238 : (Jvm.Cond.fieldLink "LosersBooks" (70 : Nat) "LosersBooks" "noteField" "[I") ∈ lw_all := lw_g (lw_at lw_m1 120 rfl) rfl
theorem q239 : (Jvm.Cond.fieldLink "LosersBooks" (73 : Nat) "LosersBooks" "noteMany" "[I") ∈ lw_all := lw_g (lw_at lw_m1 121 rfl) rfl
theorem q240 : (Jvm.Cond.fieldLink "LosersBooks" (76 : Nat) "LosersBooks" "biasOf" "[I") ∈ lw_all := lw_g (lw_at lw_m1 122 rfl) rfl
theorem q241 : (Jvm.Cond.fieldLink "LosersBooks" (311 : Nat) "LosersBooks" "noted" "I") ∈ lw_all := lw_g (lw_at lw_m1 123 rfl) rfl
theorem q242 : (Jvm.Cond.fieldLink "LosersBooks" (79 : Nat) "LosersBooks" "tells" "[I") ∈ lw_all := lw_g (lw_at lw_m1 124 rfl) rfl
theorem q243 : (Jvm.Cond.fieldLink "LosersBooks" (82 : Nat) "LosersBooks" "image" "[I") ∈ lw_all := lw_g (lw_at lw_m1 125 rfl) rfl
theorem q244 : (Jvm.Cond.fieldLink "LosersBooks" (317 : Nat) "LosersBooks" "hasImage" "Z") ∈ lw_all := lw_g (lw_at lw_m1 126 rfl) rfl
theorem q245 : (Jvm.Cond.laysFinal "LosersBooks" "LosersBooks" "fault" "LLosersBooks$Fault;") ∈ lw_all := lw_g (lw_at lw_m1 127 rfl) rfl
theorem q246 : (Jvm.Cond.soleField "LosersBooks" "fault") ∈ lw_all := lw_g (lw_at lw_m1 128 rfl) rfl
theorem q247 : (Jvm.Cond.laysFinal "LosersBooks" "LosersBooks" "tape" "[B") ∈ lw_all := lw_g (lw_at lw_m1 129 rfl) rfl
theorem q248 : (Jvm.Cond.soleField "LosersBooks" "tape") ∈ lw_all := lw_g (lw_at lw_m1 130 rfl) rfl
theorem q249 : (Jvm.Cond.lays "LosersBooks" "LosersBooks" "taped" "I") ∈ lw_all := lw_g (lw_at lw_m1 131 rfl) rfl
theorem q250 : (Jvm.Cond.soleField "LosersBooks" "taped") ∈ lw_all := lw_g (lw_at lw_m1 132 rfl) rfl
theorem q251 : (Jvm.Cond.lays "LosersBooks" "LosersBooks" "place" "I") ∈ lw_all := lw_g (lw_at lw_m1 133 rfl) rfl
theorem q252 : (Jvm.Cond.soleField "LosersBooks" "place") ∈ lw_all := lw_g (lw_at lw_m1 134 rfl) rfl
theorem q253 : (Jvm.Cond.lays "LosersBooks" "LosersBooks" "deep" "I") ∈ lw_all := lw_g (lw_at lw_m1 135 rfl) rfl
theorem q254 : (Jvm.Cond.soleField "LosersBooks" "deep") ∈ lw_all := lw_g (lw_at lw_m1 136 rfl) rfl
theorem q255 : (Jvm.Cond.laysFinal "LosersBooks" "LosersBooks" "letters" "[I") ∈ lw_all := lw_g (lw_at lw_m1 137 rfl) rfl
theorem q256 : (Jvm.Cond.soleField "LosersBooks" "letters") ∈ lw_all := lw_g (lw_at lw_m1 138 rfl) rfl
theorem q257 : (Jvm.Cond.laysFinal "LosersBooks" "LosersBooks" "readRule" "[I") ∈ lw_all := lw_g (lw_at lw_m1 139 rfl) rfl
theorem q258 : (Jvm.Cond.soleField "LosersBooks" "readRule") ∈ lw_all := lw_g (lw_at lw_m1 140 rfl) rfl
theorem q259 : (Jvm.Cond.laysFinal "LosersBooks" "LosersBooks" "readKingdom" "[I") ∈ lw_all := lw_g (lw_at lw_m1 141 rfl) rfl
theorem q260 : (Jvm.Cond.soleField "LosersBooks" "readKingdom") ∈ lw_all := lw_g (lw_at lw_m1 142 rfl) rfl
theorem q261 : (Jvm.Cond.laysFinal "LosersBooks" "LosersBooks" "readField" "[I") ∈ lw_all := lw_g (lw_at lw_m1 143 rfl) rfl
theorem q262 : (Jvm.Cond.soleField "LosersBooks" "readField") ∈ lw_all := lw_g (lw_at lw_m1 144 rfl) rfl
theorem q263 : (Jvm.Cond.laysFinal "LosersBooks" "LosersBooks" "rules" "[I") ∈ lw_all := lw_g (lw_at lw_m1 145 rfl) rfl
theorem q264 : (Jvm.Cond.soleField "LosersBooks" "rules") ∈ lw_all := lw_g (lw_at lw_m1 146 rfl) rfl
theorem q265 : (Jvm.Cond.laysFinal "LosersBooks" "LosersBooks" "fields" "[I") ∈ lw_all := lw_g (lw_at lw_m1 147 rfl) rfl
theorem q266 : (Jvm.Cond.soleField "LosersBooks" "fields") ∈ lw_all := lw_g (lw_at lw_m1 148 rfl) rfl
theorem q267 : (Jvm.Cond.lays "LosersBooks" "LosersBooks" "readKingdoms" "I") ∈ lw_all := lw_g (lw_at lw_m1 149 rfl) rfl
theorem q268 : (Jvm.Cond.soleField "LosersBooks" "readKingdoms") ∈ lw_all := lw_g (lw_at lw_m1 150 rfl) rfl
theorem q269 : (Jvm.Cond.lays "LosersBooks" "LosersBooks" "readFields" "I") ∈ lw_all := lw_g (lw_at lw_m1 151 rfl) rfl
theorem q270 : (Jvm.Cond.soleField "LosersBooks" "readFields") ∈ lw_all := lw_g (lw_at lw_m1 152 rfl) rfl
theorem q271 : (Jvm.Cond.lays "LosersBooks" "LosersBooks" "kingdomMany" "I") ∈ lw_all := lw_g (lw_at lw_m1 153 rfl) rfl
theorem q272 : (Jvm.Cond.soleField "LosersBooks" "kingdomMany") ∈ lw_all := lw_g (lw_at lw_m1 154 rfl) rfl
theorem q273 : (Jvm.Cond.lays "LosersBooks" "LosersBooks" "fieldMany" "I") ∈ lw_all := lw_g (lw_at lw_m1 155 rfl) rfl
theorem q274 : (Jvm.Cond.soleField "LosersBooks" "fieldMany") ∈ lw_all := lw_g (lw_at lw_m1 156 rfl) rfl
theorem q275 : (Jvm.Cond.laysFinal "LosersBooks" "LosersBooks" "campaigns" "[I") ∈ lw_all := lw_g (lw_at lw_m1 157 rfl) rfl
theorem q276 : (Jvm.Cond.soleField "LosersBooks" "campaigns") ∈ lw_all := lw_g (lw_at lw_m1 158 rfl) rfl
theorem q277 : (Jvm.Cond.laysFinal "LosersBooks" "LosersBooks" "campaignLong" "[I") ∈ lw_all := lw_g (lw_at lw_m1 159 rfl) rfl
theorem q278 : (Jvm.Cond.soleField "LosersBooks" "campaignLong") ∈ lw_all := lw_g (lw_at lw_m1 160 rfl) rfl
theorem q279 : (Jvm.Cond.lays "LosersBooks" "LosersBooks" "campaignMany" "I") ∈ lw_all := lw_g (lw_at lw_m1 161 rfl) rfl
theorem q280 : (Jvm.Cond.soleField "LosersBooks" "campaignMany") ∈ lw_all := lw_g (lw_at lw_m1 162 rfl) rfl
theorem q281 : (Jvm.Cond.laysFinal "LosersBooks" "LosersBooks" "laws" "[LLosersBooks$Clause;") ∈ lw_all := lw_g (lw_at lw_m1 163 rfl) rfl
theorem q282 : (Jvm.Cond.soleField "LosersBooks" "laws") ∈ lw_all := lw_g (lw_at lw_m1 164 rfl) rfl
theorem q283 : (Jvm.Cond.lays "LosersBooks" "LosersBooks" "lawMany" "I") ∈ lw_all := lw_g (lw_at lw_m1 165 rfl) rfl
theorem q284 : (Jvm.Cond.soleField "LosersBooks" "lawMany") ∈ lw_all := lw_g (lw_at lw_m1 166 rfl) rfl
theorem q285 : (Jvm.Cond.lays "LosersBooks" "LosersBooks" "holding" "I") ∈ lw_all := lw_g (lw_at lw_m1 167 rfl) rfl
theorem q286 : (Jvm.Cond.soleField "LosersBooks" "holding") ∈ lw_all := lw_g (lw_at lw_m1 168 rfl) rfl
theorem q287 : (Jvm.Cond.lays "LosersBooks" "LosersBooks" "intrigues" "I") ∈ lw_all := lw_g (lw_at lw_m1 169 rfl) rfl
theorem q288 : (Jvm.Cond.soleField "LosersBooks" "intrigues") ∈ lw_all := lw_g (lw_at lw_m1 170 rfl) rfl
theorem q289 : (Jvm.Cond.laysFinal "LosersBooks" "LosersBooks" "now" "[I") ∈ lw_all := lw_g (lw_at lw_m1 171 rfl) rfl
theorem q290 : (Jvm.Cond.soleField "LosersBooks" "now") ∈ lw_all := lw_g (lw_at lw_m1 172 rfl) rfl
theorem q291 : (Jvm.Cond.laysFinal "LosersBooks" "LosersBooks" "kept" "[I") ∈ lw_all := lw_g (lw_at lw_m1 173 rfl) rfl
theorem q292 : (Jvm.Cond.soleField "LosersBooks" "kept") ∈ lw_all := lw_g (lw_at lw_m1 174 rfl) rfl
theorem q293 : (Jvm.Cond.lays "LosersBooks" "LosersBooks" "acts" "I") ∈ lw_all := lw_g (lw_at lw_m1 175 rfl) rfl
theorem q294 : (Jvm.Cond.soleField "LosersBooks" "acts") ∈ lw_all := lw_g (lw_at lw_m1 176 rfl) rfl
theorem q295 : (Jvm.Cond.lays "LosersBooks" "LosersBooks" "draws" "J") ∈ lw_all := lw_g (lw_at lw_m1 177 rfl) rfl
theorem q296 : (Jvm.Cond.soleField "LosersBooks" "draws") ∈ lw_all := lw_g (lw_at lw_m1 178 rfl) rfl
theorem q297 : (Jvm.Cond.laysFinal "LosersBooks" "LosersBooks" "aside" "[I") ∈ lw_all := lw_g (lw_at lw_m1 179 rfl) rfl
theorem q298 : (Jvm.Cond.soleField "LosersBooks" "aside") ∈ lw_all := lw_g (lw_at lw_m1 180 rfl) rfl
theorem q299 : (Jvm.Cond.laysFinal "LosersBooks" "LosersBooks" "noteKingdom" "[I") ∈ lw_all := lw_g (lw_at lw_m1 181 rfl) rfl
theorem q300 : (Jvm.Cond.soleField "LosersBooks" "noteKingdom") ∈ lw_all := lw_g (lw_at lw_m1 182 rfl) rfl
theorem q301 : (Jvm.Cond.laysFinal "LosersBooks" "LosersBooks" "noteField" "[I") ∈ lw_all := lw_g (lw_at lw_m1 183 rfl) rfl
theorem q302 : (Jvm.Cond.soleField "LosersBooks" "noteField") ∈ lw_all := lw_g (lw_at lw_m1 184 rfl) rfl
theorem q303 : (Jvm.Cond.laysFinal "LosersBooks" "LosersBooks" "noteMany" "[I") ∈ lw_all := lw_g (lw_at lw_m1 185 rfl) rfl
theorem q304 : (Jvm.Cond.soleField "LosersBooks" "noteMany") ∈ lw_all := lw_g (lw_at lw_m1 186 rfl) rfl
theorem q305 : (Jvm.Cond.laysFinal "LosersBooks" "LosersBooks" "biasOf" "[I") ∈ lw_all := lw_g (lw_at lw_m1 187 rfl) rfl
theorem q306 : (Jvm.Cond.soleField "LosersBooks" "biasOf") ∈ lw_all := lw_g (lw_at lw_m1 188 rfl) rfl
theorem q307 : (Jvm.Cond.lays "LosersBooks" "LosersBooks" "noted" "I") ∈ lw_all := lw_g (lw_at lw_m1 189 rfl) rfl
theorem q308 : (Jvm.Cond.soleField "LosersBooks" "noted") ∈ lw_all := lw_g (lw_at lw_m1 190 rfl) rfl
theorem q309 : (Jvm.Cond.laysFinal "LosersBooks" "LosersBooks" "tells" "[I") ∈ lw_all := lw_g (lw_at lw_m1 191 rfl) rfl
theorem q310 : (Jvm.Cond.soleField "LosersBooks" "tells") ∈ lw_all := lw_g (lw_at lw_m1 192 rfl) rfl
theorem q311 : (Jvm.Cond.laysFinal "LosersBooks" "LosersBooks" "image" "[I") ∈ lw_all := lw_g (lw_at lw_m1 193 rfl) rfl
theorem q312 : (Jvm.Cond.soleField "LosersBooks" "image") ∈ lw_all := lw_g (lw_at lw_m1 194 rfl) rfl
theorem q313 : (Jvm.Cond.lays "LosersBooks" "LosersBooks" "hasImage" "Z") ∈ lw_all := lw_g (lw_at lw_m1 195 rfl) rfl
theorem q314 : (Jvm.Cond.soleField "LosersBooks" "hasImage") ∈ lw_all := lw_g (lw_at lw_m1 196 rfl) rfl
theorem q315 : (Jvm.Cond.superclass "LosersBooks" "java/lang/Object") ∈ lw_all := lw_g (lw_at lw_m1 197 rfl) rfl
theorem q319 : (Jvm.Cond.instanceMethod ({ cls := "LosersBooks", name := "feed", desc := "(IIIII)I" } : Jvm.MethodName)) ∈ lw_all := lw_g (lw_at lw_m1 201 rfl) rfl
theorem q320 : (Jvm.Cond.selects "LosersBooks" ({ cls := "LosersBooks", name := "feed", desc := "(IIIII)I" } : Jvm.MethodName) ({ cls := "LosersBooks", name := "feed", desc := "(IIIII)I" } : Jvm.MethodName)) ∈ lw_all := lw_g (lw_at lw_m1 202 rfl) rfl
theorem q321 : (Jvm.Cond.code ({ cls := "LosersBooks", name := "feed", desc := "(IIIII)I" } : Jvm.MethodName) prog_1_method_5_code (9 : Nat) (Option.some Jvm.ClassFile.FieldType.int)) ∈ lw_all := lw_g (lw_at lw_m1 203 rfl) rfl
theorem q322 : (Jvm.Cond.methodLink "LosersBooks" (85 : Nat) ({ cls := "LosersBooks", name := "byteOf", desc := "(IIIIII)I" } : Jvm.MethodName)) ∈ lw_all := lw_g (lw_at lw_m1 204 rfl) rfl
theorem q323 : (Jvm.Cond.static ({ cls := "LosersBooks", name := "byteOf", desc := "(IIIIII)I" } : Jvm.MethodName)) ∈ lw_all := lw_g (lw_at lw_m1 205 rfl) rfl
theorem q324 : (Jvm.Cond.code ({ cls := "LosersBooks", name := "byteOf", desc := "(IIIIII)I" } : Jvm.MethodName) prog_1_method_4_code (7 : Nat) (Option.some Jvm.ClassFile.FieldType.int)) ∈ lw_all := lw_g (lw_at lw_m1 206 rfl) rfl
theorem q326 : (Jvm.Cond.instanceMethod ({ cls := "LosersBooks", name := "end", desc := "(I)Z" } : Jvm.MethodName)) ∈ lw_all := lw_g (lw_at lw_m1 208 rfl) rfl
theorem q327 : (Jvm.Cond.selects "LosersBooks" ({ cls := "LosersBooks", name := "end", desc := "(I)Z" } : Jvm.MethodName) ({ cls := "LosersBooks", name := "end", desc := "(I)Z" } : Jvm.MethodName)) ∈ lw_all := lw_g (lw_at lw_m1 209 rfl) rfl
theorem q328 : (Jvm.Cond.code ({ cls := "LosersBooks", name := "end", desc := "(I)Z" } : Jvm.MethodName) prog_1_method_6_code (2 : Nat) (Option.some Jvm.ClassFile.FieldType.boolean)) ∈ lw_all := lw_g (lw_at lw_m1 210 rfl) rfl
theorem q330 : (Jvm.Cond.instanceMethod ({ cls := "LosersBooks", name := "fault", desc := "(I)I" } : Jvm.MethodName)) ∈ lw_all := lw_g (lw_at lw_m1 212 rfl) rfl
theorem q331 : (Jvm.Cond.selects "LosersBooks" ({ cls := "LosersBooks", name := "fault", desc := "(I)I" } : Jvm.MethodName) ({ cls := "LosersBooks", name := "fault", desc := "(I)I" } : Jvm.MethodName)) ∈ lw_all := lw_g (lw_at lw_m1 213 rfl) rfl
theorem q332 : (Jvm.Cond.codeWith ({ cls := "LosersBooks", name := "fault", desc := "(I)I" } : Jvm.MethodName) prog_1_method_36_code (3 : Nat) (Option.some Jvm.ClassFile.FieldType.int) [((22 : Nat), (28 : Nat), (29 : Nat), (9 : Nat))]) ∈ lw_all := lw_g (lw_at lw_m1 214 rfl) rfl
theorem q333 : (Jvm.Cond.methodLink "LosersBooks" (285 : Nat) ({ cls := "LosersBooks", name := "lawFault", desc := "()I" } : Jvm.MethodName)) ∈ lw_all := lw_g (lw_at lw_m1 215 rfl) rfl
theorem q334 : (Jvm.Cond.privateMethod ({ cls := "LosersBooks", name := "lawFault", desc := "()I" } : Jvm.MethodName)) ∈ lw_tbl := lw_at lw_m1 216 rfl
theorem q335 : (Jvm.Cond.instanceMethod ({ cls := "LosersBooks", name := "lawFault", desc := "()I" } : Jvm.MethodName)) ∈ lw_all := lw_g (lw_at lw_m1 217 rfl) rfl
theorem q336 : (Jvm.Cond.codeWith ({ cls := "LosersBooks", name := "lawFault", desc := "()I" } : Jvm.MethodName) prog_1_method_22_code (2 : Nat) (Option.some Jvm.ClassFile.FieldType.int) [((0 : Nat), (6 : Nat), (7 : Nat), (9 : Nat))]) ∈ lw_all := lw_g (lw_at lw_m1 218 rfl) rfl
theorem q337 : (Jvm.Cond.methodLink "LosersBooks" (198 : Nat) ({ cls := "LosersBooks", name := "wholeLaw", desc := "()LLosersBooks$Clause;" } : Jvm.MethodName)) ∈ lw_all := lw_g (lw_at lw_m1 219 rfl) rfl
theorem q338 : (Jvm.Cond.privateMethod ({ cls := "LosersBooks", name := "wholeLaw", desc := "()LLosersBooks$Clause;" } : Jvm.MethodName)) ∈ lw_tbl := lw_at lw_m1 220 rfl
theorem q339 : (Jvm.Cond.instanceMethod ({ cls := "LosersBooks", name := "wholeLaw", desc := "()LLosersBooks$Clause;" } : Jvm.MethodName)) ∈ lw_all := lw_g (lw_at lw_m1 221 rfl) rfl
theorem q340 : (Jvm.Cond.code ({ cls := "LosersBooks", name := "wholeLaw", desc := "()LLosersBooks$Clause;" } : Jvm.MethodName) prog_1_method_21_code (3 : Nat) (Option.some (Jvm.ClassFile.FieldType.object "LosersBooks$Clause"))) ∈ lw_all := lw_g (lw_at lw_m1 222 rfl) rfl
theorem q341 : (Jvm.Cond.methodLink "LosersBooks" (190 : Nat) ({ cls := "LosersBooks", name := "clause", desc := "()LLosersBooks$Clause;" } : Jvm.MethodName)) ∈ lw_all := lw_g (lw_at lw_m1 223 rfl) rfl
theorem q342 : (Jvm.Cond.privateMethod ({ cls := "LosersBooks", name := "clause", desc := "()LLosersBooks$Clause;" } : Jvm.MethodName)) ∈ lw_tbl := lw_at lw_m1 224 rfl
theorem q343 : (Jvm.Cond.instanceMethod ({ cls := "LosersBooks", name := "clause", desc := "()LLosersBooks$Clause;" } : Jvm.MethodName)) ∈ lw_all := lw_g (lw_at lw_m1 225 rfl) rfl
theorem q344 : (Jvm.Cond.code ({ cls := "LosersBooks", name := "clause", desc := "()LLosersBooks$Clause;" } : Jvm.MethodName) prog_1_method_20_code (5 : Nat) (Option.some (Jvm.ClassFile.FieldType.object "LosersBooks$Clause"))) ∈ lw_all := lw_g (lw_at lw_m1 226 rfl) rfl
theorem q345 : (Jvm.Cond.methodLink "LosersBooks" (102 : Nat) ({ cls := "LosersBooks", name := "look", desc := "()I" } : Jvm.MethodName)) ∈ lw_all := lw_g (lw_at lw_m1 227 rfl) rfl
theorem q346 : (Jvm.Cond.privateMethod ({ cls := "LosersBooks", name := "look", desc := "()I" } : Jvm.MethodName)) ∈ lw_tbl := lw_at lw_m1 228 rfl
theorem q347 : (Jvm.Cond.instanceMethod ({ cls := "LosersBooks", name := "look", desc := "()I" } : Jvm.MethodName)) ∈ lw_all := lw_g (lw_at lw_m1 229 rfl) rfl
theorem q348 : (Jvm.Cond.code ({ cls := "LosersBooks", name := "look", desc := "()I" } : Jvm.MethodName) prog_1_method_7_code (1 : Nat) (Option.some Jvm.ClassFile.FieldType.int)) ∈ lw_all := lw_g (lw_at lw_m1 230 rfl) rfl
theorem q349 : (Jvm.Cond.stringRef "LosersBooks" (185 : Nat) "y") ∈ lw_tbl := lw_at lw_m1 231 rfl
theorem q350 : (Jvm.Cond.methodLink "LosersBooks" (119 : Nat) ({ cls := "java/lang/String", name := "indexOf", desc := "(I)I" } : Jvm.MethodName)) ∈ lw_all := lw_g (lw_at lw_m1 232 rfl) rfl
theorem q436 : (Jvm.Cond.methodLink "LosersBooks" (98 : Nat) ({ cls := "LosersBooks", name := "need", desc := "(Z)V" } : Jvm.MethodName)) ∈ lw_all := lw_g (lw_at lw_m2 78 rfl) rfl
theorem q437 : (Jvm.Cond.privateMethod ({ cls := "LosersBooks", name := "need", desc := "(Z)V" } : Jvm.MethodName)) ∈ lw_tbl := lw_at lw_m2 79 rfl
theorem q438 : (Jvm.Cond.instanceMethod ({ cls := "LosersBooks", name := "need", desc := "(Z)V" } : Jvm.MethodName)) ∈ lw_all := lw_g (lw_at lw_m2 80 rfl) rfl
theorem q439 : (Jvm.Cond.code ({ cls := "LosersBooks", name := "need", desc := "(Z)V" } : Jvm.MethodName) prog_1_method_9_code (2 : Nat) (Option.none : Option Jvm.ClassFile.FieldType)) ∈ lw_all := lw_g (lw_at lw_m2 81 rfl) rfl
theorem q440 : (Jvm.Cond.methodLink "LosersBooks" (109 : Nat) ({ cls := "LosersBooks", name := "sum", desc := "()LLosersBooks$Sum;" } : Jvm.MethodName)) ∈ lw_all := lw_g (lw_at lw_m2 82 rfl) rfl
theorem q441 : (Jvm.Cond.privateMethod ({ cls := "LosersBooks", name := "sum", desc := "()LLosersBooks$Sum;" } : Jvm.MethodName)) ∈ lw_tbl := lw_at lw_m2 83 rfl
theorem q442 : (Jvm.Cond.instanceMethod ({ cls := "LosersBooks", name := "sum", desc := "()LLosersBooks$Sum;" } : Jvm.MethodName)) ∈ lw_all := lw_g (lw_at lw_m2 84 rfl) rfl
theorem q443 : (Jvm.Cond.code ({ cls := "LosersBooks", name := "sum", desc := "()LLosersBooks$Sum;" } : Jvm.MethodName) prog_1_method_14_code (4 : Nat) (Option.some (Jvm.ClassFile.FieldType.object "LosersBooks$Sum"))) ∈ lw_all := lw_g (lw_at lw_m2 85 rfl) rfl
theorem q444 : (Jvm.Cond.methodLink "LosersBooks" (148 : Nat) ({ cls := "LosersBooks", name := "term", desc := "()LLosersBooks$Sum;" } : Jvm.MethodName)) ∈ lw_all := lw_g (lw_at lw_m2 86 rfl) rfl
theorem q445 : (Jvm.Cond.privateMethod ({ cls := "LosersBooks", name := "term", desc := "()LLosersBooks$Sum;" } : Jvm.MethodName)) ∈ lw_tbl := lw_at lw_m2 87 rfl
theorem q446 : (Jvm.Cond.instanceMethod ({ cls := "LosersBooks", name := "term", desc := "()LLosersBooks$Sum;" } : Jvm.MethodName)) ∈ lw_all := lw_g (lw_at lw_m2 88 rfl) rfl
theorem q447 : (Jvm.Cond.code ({ cls := "LosersBooks", name := "term", desc := "()LLosersBooks$Sum;" } : Jvm.MethodName) prog_1_method_13_code (4 : Nat) (Option.some (Jvm.ClassFile.FieldType.object "LosersBooks$Sum"))) ∈ lw_all := lw_g (lw_at lw_m2 89 rfl) rfl
theorem q448 : (Jvm.Cond.methodLink "LosersBooks" (136 : Nat) ({ cls := "LosersBooks", name := "atom", desc := "()LLosersBooks$Sum;" } : Jvm.MethodName)) ∈ lw_all := lw_g (lw_at lw_m2 90 rfl) rfl
theorem q449 : (Jvm.Cond.privateMethod ({ cls := "LosersBooks", name := "atom", desc := "()LLosersBooks$Sum;" } : Jvm.MethodName)) ∈ lw_tbl := lw_at lw_m2 91 rfl
theorem q450 : (Jvm.Cond.instanceMethod ({ cls := "LosersBooks", name := "atom", desc := "()LLosersBooks$Sum;" } : Jvm.MethodName)) ∈ lw_all := lw_g (lw_at lw_m2 92 rfl) rfl
theorem q451 : (Jvm.Cond.code ({ cls := "LosersBooks", name := "atom", desc := "()LLosersBooks$Sum;" } : Jvm.MethodName) prog_1_method_12_code (4 : Nat) (Option.some (Jvm.ClassFile.FieldType.object "LosersBooks$Sum"))) ∈ lw_all := lw_g (lw_at lw_m2 93 rfl) rfl
theorem q452 : (Jvm.Cond.methodLink "LosersBooks" (106 : Nat) ({ cls := "LosersBooks", name := "opens", desc := "()V" } : Jvm.MethodName)) ∈ lw_all := lw_g (lw_at lw_m2 94 rfl) rfl
theorem q453 : (Jvm.Cond.privateMethod ({ cls := "LosersBooks", name := "opens", desc := "()V" } : Jvm.MethodName)) ∈ lw_tbl := lw_at lw_m2 95 rfl
theorem q454 : (Jvm.Cond.instanceMethod ({ cls := "LosersBooks", name := "opens", desc := "()V" } : Jvm.MethodName)) ∈ lw_all := lw_g (lw_at lw_m2 96 rfl) rfl
theorem q455 : (Jvm.Cond.code ({ cls := "LosersBooks", name := "opens", desc := "()V" } : Jvm.MethodName) prog_1_method_10_code (1 : Nat) (Option.none : Option Jvm.ClassFile.FieldType)) ∈ lw_all := lw_g (lw_at lw_m2 97 rfl) rfl
theorem q456 : (Jvm.Cond.methodLink "LosersBooks" (113 : Nat) ({ cls := "LosersBooks", name := "closes", desc := "(I)V" } : Jvm.MethodName)) ∈ lw_all := lw_g (lw_at lw_m2 98 rfl) rfl
theorem q457 : (Jvm.Cond.privateMethod ({ cls := "LosersBooks", name := "closes", desc := "(I)V" } : Jvm.MethodName)) ∈ lw_tbl := lw_at lw_m2 99 rfl
theorem q458 : (Jvm.Cond.instanceMethod ({ cls := "LosersBooks", name := "closes", desc := "(I)V" } : Jvm.MethodName)) ∈ lw_all := lw_g (lw_at lw_m2 100 rfl) rfl
theorem q459 : (Jvm.Cond.code ({ cls := "LosersBooks", name := "closes", desc := "(I)V" } : Jvm.MethodName) prog_1_method_11_code (2 : Nat) (Option.none : Option Jvm.ClassFile.FieldType)) ∈ lw_all := lw_g (lw_at lw_m2 101 rfl) rfl
theorem q460 : (Jvm.Cond.stringRef "LosersBooks" (117 : Nat) "mgspwd") ∈ lw_tbl := lw_at lw_m2 102 rfl
theorem q461 : (Jvm.Cond.classLink "LosersBooks" (125 : Nat) "LosersBooks$Letter") ∈ lw_all := lw_g (lw_at lw_m2 103 rfl) rfl
theorem q463 : (Jvm.Cond.methodLink "LosersBooks" (127 : Nat) ({ cls := "LosersBooks$Letter", name := "<init>", desc := "(I)V" } : Jvm.MethodName)) ∈ lw_all := lw_g (lw_at lw_m2 105 rfl) rfl
theorem q474 : (Jvm.Cond.methodLink "LosersBooks" (129 : Nat) ({ cls := "LosersBooks", name := "isDigit", desc := "(I)Z" } : Jvm.MethodName)) ∈ lw_all := lw_g (lw_at lw_m2 116 rfl) rfl
theorem q475 : (Jvm.Cond.static ({ cls := "LosersBooks", name := "isDigit", desc := "(I)Z" } : Jvm.MethodName)) ∈ lw_all := lw_g (lw_at lw_m2 117 rfl) rfl
theorem q476 : (Jvm.Cond.code ({ cls := "LosersBooks", name := "isDigit", desc := "(I)Z" } : Jvm.MethodName) prog_1_method_8_code (1 : Nat) (Option.some Jvm.ClassFile.FieldType.boolean)) ∈ lw_all := lw_g (lw_at lw_m2 118 rfl) rfl
theorem q477 : (Jvm.Cond.classLink "LosersBooks" (133 : Nat) "LosersBooks$Constant") ∈ lw_all := lw_g (lw_at lw_m2 119 rfl) rfl
theorem q479 : (Jvm.Cond.methodLink "LosersBooks" (135 : Nat) ({ cls := "LosersBooks$Constant", name := "<init>", desc := "(I)V" } : Jvm.MethodName)) ∈ lw_all := lw_g (lw_at lw_m2 121 rfl) rfl
theorem q487 : (Jvm.Cond.classLink "LosersBooks" (139 : Nat) "LosersBooks$Chain") ∈ lw_all := lw_g (lw_at lw_m2 129 rfl) rfl
theorem q489 : (Jvm.Cond.methodLink "LosersBooks" (141 : Nat) ({ cls := "LosersBooks$Chain", name := "<init>", desc := "(LLosersBooks$Sum;)V" } : Jvm.MethodName)) ∈ lw_all := lw_g (lw_at lw_m2 131 rfl) rfl
theorem q503 : (Jvm.Cond.methodLink "LosersBooks" (144 : Nat) ({ cls := "LosersBooks$Chain", name := "add", desc := "(ILLosersBooks$Sum;)V" } : Jvm.MethodName)) ∈ lw_all := lw_g (lw_at lw_m2 145 rfl) rfl
theorem q523 : (Jvm.Cond.methodLink "LosersBooks" (151 : Nat) ({ cls := "LosersBooks", name := "isSign", desc := "(I)Z" } : Jvm.MethodName)) ∈ lw_all := lw_g (lw_at lw_m2 165 rfl) rfl
theorem q524 : (Jvm.Cond.static ({ cls := "LosersBooks", name := "isSign", desc := "(I)Z" } : Jvm.MethodName)) ∈ lw_all := lw_g (lw_at lw_m2 166 rfl) rfl
theorem q525 : (Jvm.Cond.code ({ cls := "LosersBooks", name := "isSign", desc := "(I)Z" } : Jvm.MethodName) prog_1_method_15_code (1 : Nat) (Option.some Jvm.ClassFile.FieldType.boolean)) ∈ lw_all := lw_g (lw_at lw_m2 167 rfl) rfl
theorem q527 : (Jvm.Cond.methodLink "LosersBooks" (187 : Nat) ({ cls := "LosersBooks$Clause", name := "<init>", desc := "(ILLosersBooks$Test;LLosersBooks$Sum;)V" } : Jvm.MethodName)) ∈ lw_all := lw_g (lw_at lw_m2 169 rfl) rfl
theorem q532 : (Jvm.Cond.fieldLinkNest "LosersBooks" (208 : Nat) "LosersBooks$Clause" "label" "I" "LosersBooks") ∈ lw_tbl := lw_at lw_m2 174 rfl
theorem q534 : (Jvm.Cond.fieldLinkNest "LosersBooks" (211 : Nat) "LosersBooks$Clause" "test" "LLosersBooks$Test;" "LosersBooks") ∈ lw_tbl := lw_at lw_m2 176 rfl
theorem q536 : (Jvm.Cond.fieldLinkNest "LosersBooks" (221 : Nat) "LosersBooks$Clause" "sum" "LLosersBooks$Sum;" "LosersBooks") ∈ lw_tbl := lw_at lw_m2 178 rfl
theorem q537 : (Jvm.Cond.fieldLinkNest "LosersBooks" (194 : Nat) "LosersBooks$Clause" "next" "LLosersBooks$Clause;" "LosersBooks") ∈ lw_tbl := lw_at lw_m2 179 rfl
theorem q547 : (Jvm.Cond.methodLink "LosersBooks" (168 : Nat) ({ cls := "LosersBooks", name := "condition", desc := "(LLosersBooks$Sum;)LLosersBooks$Test;" } : Jvm.MethodName)) ∈ lw_all := lw_g (lw_at lw_m2 189 rfl) rfl
theorem q548 : (Jvm.Cond.privateMethod ({ cls := "LosersBooks", name := "condition", desc := "(LLosersBooks$Sum;)LLosersBooks$Test;" } : Jvm.MethodName)) ∈ lw_tbl := lw_at lw_m2 190 rfl
theorem q549 : (Jvm.Cond.instanceMethod ({ cls := "LosersBooks", name := "condition", desc := "(LLosersBooks$Sum;)LLosersBooks$Test;" } : Jvm.MethodName)) ∈ lw_all := lw_g (lw_at lw_m2 191 rfl) rfl
theorem q550 : (Jvm.Cond.code ({ cls := "LosersBooks", name := "condition", desc := "(LLosersBooks$Sum;)LLosersBooks$Test;" } : Jvm.MethodName) prog_1_method_19_code (4 : Nat) (Option.some (Jvm.ClassFile.FieldType.object "LosersBooks$Test"))) ∈ lw_all := lw_g (lw_at lw_m2 192 rfl) rfl
theorem q551 : (Jvm.Cond.methodLink "LosersBooks" (182 : Nat) ({ cls := "LosersBooks", name := "part", desc := "(LLosersBooks$Sum;)LLosersBooks$Test;" } : Jvm.MethodName)) ∈ lw_all := lw_g (lw_at lw_m2 193 rfl) rfl
theorem q552 : (Jvm.Cond.privateMethod ({ cls := "LosersBooks", name := "part", desc := "(LLosersBooks$Sum;)LLosersBooks$Test;" } : Jvm.MethodName)) ∈ lw_tbl := lw_at lw_m2 194 rfl
theorem q553 : (Jvm.Cond.instanceMethod ({ cls := "LosersBooks", name := "part", desc := "(LLosersBooks$Sum;)LLosersBooks$Test;" } : Jvm.MethodName)) ∈ lw_all := lw_g (lw_at lw_m2 195 rfl) rfl
theorem q554 : (Jvm.Cond.code ({ cls := "LosersBooks", name := "part", desc := "(LLosersBooks$Sum;)LLosersBooks$Test;" } : Jvm.MethodName) prog_1_method_18_code (4 : Nat) (Option.some (Jvm.ClassFile.FieldType.object "LosersBooks$Test"))) ∈ lw_all := lw_g (lw_at lw_m2 196 rfl) rfl
theorem q555 : (Jvm.Cond.methodLink "LosersBooks" (159 : Nat) ({ cls := "LosersBooks", name := "unit", desc := "()LLosersBooks$Test;" } : Jvm.MethodName)) ∈ lw_all := lw_g (lw_at lw_m2 197 rfl) rfl
theorem q556 : (Jvm.Cond.privateMethod ({ cls := "LosersBooks", name := "unit", desc := "()LLosersBooks$Test;" } : Jvm.MethodName)) ∈ lw_tbl := lw_at lw_m2 198 rfl
theorem q557 : (Jvm.Cond.instanceMethod ({ cls := "LosersBooks", name := "unit", desc := "()LLosersBooks$Test;" } : Jvm.MethodName)) ∈ lw_all := lw_g (lw_at lw_m2 199 rfl) rfl
theorem q558 : (Jvm.Cond.code ({ cls := "LosersBooks", name := "unit", desc := "()LLosersBooks$Test;" } : Jvm.MethodName) prog_1_method_17_code (3 : Nat) (Option.some (Jvm.ClassFile.FieldType.object "LosersBooks$Test"))) ∈ lw_all := lw_g (lw_at lw_m2 200 rfl) rfl
theorem q559 : (Jvm.Cond.classLink "LosersBooks" (163 : Nat) "LosersBooks$Not") ∈ lw_all := lw_g (lw_at lw_m2 201 rfl) rfl
theorem q561 : (Jvm.Cond.methodLink "LosersBooks" (165 : Nat) ({ cls := "LosersBooks$Not", name := "<init>", desc := "(LLosersBooks$Test;)V" } : Jvm.MethodName)) ∈ lw_all := lw_g (lw_at lw_m2 203 rfl) rfl
theorem q575 : (Jvm.Cond.methodLink "LosersBooks" (172 : Nat) ({ cls := "LosersBooks", name := "compare", desc := "(LLosersBooks$Sum;)LLosersBooks$Test;" } : Jvm.MethodName)) ∈ lw_all := lw_g (lw_at lw_m2 217 rfl) rfl
theorem q576 : (Jvm.Cond.privateMethod ({ cls := "LosersBooks", name := "compare", desc := "(LLosersBooks$Sum;)LLosersBooks$Test;" } : Jvm.MethodName)) ∈ lw_tbl := lw_at lw_m2 218 rfl
theorem q577 : (Jvm.Cond.instanceMethod ({ cls := "LosersBooks", name := "compare", desc := "(LLosersBooks$Sum;)LLosersBooks$Test;" } : Jvm.MethodName)) ∈ lw_all := lw_g (lw_at lw_m2 219 rfl) rfl
theorem q578 : (Jvm.Cond.code ({ cls := "LosersBooks", name := "compare", desc := "(LLosersBooks$Sum;)LLosersBooks$Test;" } : Jvm.MethodName) prog_1_method_16_code (3 : Nat) (Option.some (Jvm.ClassFile.FieldType.object "LosersBooks$Test"))) ∈ lw_all := lw_g (lw_at lw_m2 220 rfl) rfl
theorem q579 : (Jvm.Cond.classLink "LosersBooks" (154 : Nat) "LosersBooks$Compare") ∈ lw_all := lw_g (lw_at lw_m2 221 rfl) rfl
theorem q581 : (Jvm.Cond.methodLink "LosersBooks" (156 : Nat) ({ cls := "LosersBooks$Compare", name := "<init>", desc := "(ILLosersBooks$Sum;LLosersBooks$Sum;)V" } : Jvm.MethodName)) ∈ lw_all := lw_g (lw_at lw_m2 223 rfl) rfl
theorem q596 : (Jvm.Cond.classLink "LosersBooks" (175 : Nat) "LosersBooks$Several") ∈ lw_all := lw_g (lw_at lw_m2 238 rfl) rfl
theorem q598 : (Jvm.Cond.methodLink "LosersBooks" (177 : Nat) ({ cls := "LosersBooks$Several", name := "<init>", desc := "(ZLLosersBooks$Test;)V" } : Jvm.MethodName)) ∈ lw_all := lw_g (lw_at lw_m3 0 rfl) rfl
theorem q613 : (Jvm.Cond.methodLink "LosersBooks" (180 : Nat) ({ cls := "LosersBooks$Several", name := "add", desc := "(LLosersBooks$Test;)V" } : Jvm.MethodName)) ∈ lw_all := lw_g (lw_at lw_m3 15 rfl) rfl
theorem q617 : (Jvm.Cond.methodLink "LosersBooks" (288 : Nat) ({ cls := "LosersBooks", name := "readAs", desc := "(I)V" } : Jvm.MethodName)) ∈ lw_all := lw_g (lw_at lw_m3 19 rfl) rfl
theorem q618 : (Jvm.Cond.privateMethod ({ cls := "LosersBooks", name := "readAs", desc := "(I)V" } : Jvm.MethodName)) ∈ lw_tbl := lw_at lw_m3 20 rfl
theorem q619 : (Jvm.Cond.instanceMethod ({ cls := "LosersBooks", name := "readAs", desc := "(I)V" } : Jvm.MethodName)) ∈ lw_all := lw_g (lw_at lw_m3 21 rfl) rfl
theorem q620 : (Jvm.Cond.code ({ cls := "LosersBooks", name := "readAs", desc := "(I)V" } : Jvm.MethodName) prog_1_method_35_code (2 : Nat) (Option.none : Option Jvm.ClassFile.FieldType)) ∈ lw_all := lw_g (lw_at lw_m3 22 rfl) rfl
theorem q621 : (Jvm.Cond.methodLink "LosersBooks" (279 : Nat) ({ cls := "LosersBooks", name := "wholeRealm", desc := "()V" } : Jvm.MethodName)) ∈ lw_all := lw_g (lw_at lw_m3 23 rfl) rfl
theorem q622 : (Jvm.Cond.privateMethod ({ cls := "LosersBooks", name := "wholeRealm", desc := "()V" } : Jvm.MethodName)) ∈ lw_tbl := lw_at lw_m3 24 rfl
theorem q623 : (Jvm.Cond.instanceMethod ({ cls := "LosersBooks", name := "wholeRealm", desc := "()V" } : Jvm.MethodName)) ∈ lw_all := lw_g (lw_at lw_m3 25 rfl) rfl
theorem q624 : (Jvm.Cond.code ({ cls := "LosersBooks", name := "wholeRealm", desc := "()V" } : Jvm.MethodName) prog_1_method_32_code (4 : Nat) (Option.none : Option Jvm.ClassFile.FieldType)) ∈ lw_all := lw_g (lw_at lw_m3 26 rfl) rfl
theorem q625 : (Jvm.Cond.methodLink "LosersBooks" (243 : Nat) ({ cls := "LosersBooks", name := "usual", desc := "(II)I" } : Jvm.MethodName)) ∈ lw_all := lw_g (lw_at lw_m3 27 rfl) rfl
theorem q626 : (Jvm.Cond.static ({ cls := "LosersBooks", name := "usual", desc := "(II)I" } : Jvm.MethodName)) ∈ lw_all := lw_g (lw_at lw_m3 28 rfl) rfl
theorem q627 : (Jvm.Cond.code ({ cls := "LosersBooks", name := "usual", desc := "(II)I" } : Jvm.MethodName) prog_1_method_29_code (2 : Nat) (Option.some Jvm.ClassFile.FieldType.int)) ∈ lw_all := lw_g (lw_at lw_m3 29 rfl) rfl
theorem q628 : (Jvm.Cond.methodLink "LosersBooks" (266 : Nat) ({ cls := "LosersBooks", name := "items", desc := "(I[III)V" } : Jvm.MethodName)) ∈ lw_all := lw_g (lw_at lw_m3 30 rfl) rfl
theorem q629 : (Jvm.Cond.privateMethod ({ cls := "LosersBooks", name := "items", desc := "(I[III)V" } : Jvm.MethodName)) ∈ lw_tbl := lw_at lw_m3 31 rfl
theorem q630 : (Jvm.Cond.instanceMethod ({ cls := "LosersBooks", name := "items", desc := "(I[III)V" } : Jvm.MethodName)) ∈ lw_all := lw_g (lw_at lw_m3 32 rfl) rfl
theorem q631 : (Jvm.Cond.code ({ cls := "LosersBooks", name := "items", desc := "(I[III)V" } : Jvm.MethodName) prog_1_method_30_code (7 : Nat) (Option.none : Option Jvm.ClassFile.FieldType)) ∈ lw_all := lw_g (lw_at lw_m3 33 rfl) rfl
theorem q632 : (Jvm.Cond.methodLink "LosersBooks" (230 : Nat) ({ cls := "LosersBooks", name := "byteHere", desc := "()I" } : Jvm.MethodName)) ∈ lw_all := lw_g (lw_at lw_m3 34 rfl) rfl
theorem q633 : (Jvm.Cond.privateMethod ({ cls := "LosersBooks", name := "byteHere", desc := "()I" } : Jvm.MethodName)) ∈ lw_tbl := lw_at lw_m3 35 rfl
theorem q634 : (Jvm.Cond.instanceMethod ({ cls := "LosersBooks", name := "byteHere", desc := "()I" } : Jvm.MethodName)) ∈ lw_all := lw_g (lw_at lw_m3 36 rfl) rfl
theorem q635 : (Jvm.Cond.code ({ cls := "LosersBooks", name := "byteHere", desc := "()I" } : Jvm.MethodName) prog_1_method_25_code (1 : Nat) (Option.some Jvm.ClassFile.FieldType.int)) ∈ lw_all := lw_g (lw_at lw_m3 37 rfl) rfl
theorem q636 : (Jvm.Cond.methodLink "LosersBooks" (247 : Nat) ({ cls := "LosersBooks", name := "item", desc := "(II)I" } : Jvm.MethodName)) ∈ lw_all := lw_g (lw_at lw_m3 38 rfl) rfl
theorem q637 : (Jvm.Cond.static ({ cls := "LosersBooks", name := "item", desc := "(II)I" } : Jvm.MethodName)) ∈ lw_all := lw_g (lw_at lw_m3 39 rfl) rfl
theorem q638 : (Jvm.Cond.code ({ cls := "LosersBooks", name := "item", desc := "(II)I" } : Jvm.MethodName) prog_1_method_27_code (2 : Nat) (Option.some Jvm.ClassFile.FieldType.int)) ∈ lw_all := lw_g (lw_at lw_m3 40 rfl) rfl
theorem q639 : (Jvm.Cond.stringRef "LosersBooks" (237 : Nat) "wc") ∈ lw_tbl := lw_at lw_m3 41 rfl
theorem q640 : (Jvm.Cond.stringRef "LosersBooks" (239 : Nat) "mbs") ∈ lw_tbl := lw_at lw_m3 42 rfl
theorem q641 : (Jvm.Cond.stringRef "LosersBooks" (241 : Nat) "abgn") ∈ lw_tbl := lw_at lw_m3 43 rfl
theorem q642 : (Jvm.Cond.methodLink "LosersBooks" (250 : Nat) ({ cls := "LosersBooks", name := "has", desc := "(II)Z" } : Jvm.MethodName)) ∈ lw_all := lw_g (lw_at lw_m3 44 rfl) rfl
theorem q643 : (Jvm.Cond.static ({ cls := "LosersBooks", name := "has", desc := "(II)Z" } : Jvm.MethodName)) ∈ lw_all := lw_g (lw_at lw_m3 45 rfl) rfl
theorem q644 : (Jvm.Cond.code ({ cls := "LosersBooks", name := "has", desc := "(II)Z" } : Jvm.MethodName) prog_1_method_2_code (2 : Nat) (Option.some Jvm.ClassFile.FieldType.boolean)) ∈ lw_all := lw_g (lw_at lw_m3 46 rfl) rfl
theorem q645 : (Jvm.Cond.methodLink "LosersBooks" (254 : Nat) ({ cls := "LosersBooks", name := "highest", desc := "(II)I" } : Jvm.MethodName)) ∈ lw_all := lw_g (lw_at lw_m3 47 rfl) rfl
theorem q646 : (Jvm.Cond.static ({ cls := "LosersBooks", name := "highest", desc := "(II)I" } : Jvm.MethodName)) ∈ lw_all := lw_g (lw_at lw_m3 48 rfl) rfl
theorem q647 : (Jvm.Cond.code ({ cls := "LosersBooks", name := "highest", desc := "(II)I" } : Jvm.MethodName) prog_1_method_28_code (2 : Nat) (Option.some Jvm.ClassFile.FieldType.int)) ∈ lw_all := lw_g (lw_at lw_m3 49 rfl) rfl
theorem q648 : (Jvm.Cond.methodLink "LosersBooks" (257 : Nat) ({ cls := "LosersBooks", name := "number", desc := "(II)I" } : Jvm.MethodName)) ∈ lw_all := lw_g (lw_at lw_m3 50 rfl) rfl
theorem q649 : (Jvm.Cond.privateMethod ({ cls := "LosersBooks", name := "number", desc := "(II)I" } : Jvm.MethodName)) ∈ lw_tbl := lw_at lw_m3 51 rfl
theorem q650 : (Jvm.Cond.instanceMethod ({ cls := "LosersBooks", name := "number", desc := "(II)I" } : Jvm.MethodName)) ∈ lw_all := lw_g (lw_at lw_m3 52 rfl) rfl
theorem q651 : (Jvm.Cond.code ({ cls := "LosersBooks", name := "number", desc := "(II)I" } : Jvm.MethodName) prog_1_method_26_code (4 : Nat) (Option.some Jvm.ClassFile.FieldType.int)) ∈ lw_all := lw_g (lw_at lw_m3 53 rfl) rfl
theorem q652 : (Jvm.Cond.methodLink "LosersBooks" (233 : Nat) ({ cls := "LosersBooks", name := "in", desc := "(III)Z" } : Jvm.MethodName)) ∈ lw_all := lw_g (lw_at lw_m3 54 rfl) rfl
theorem q653 : (Jvm.Cond.static ({ cls := "LosersBooks", name := "in", desc := "(III)Z" } : Jvm.MethodName)) ∈ lw_all := lw_g (lw_at lw_m3 55 rfl) rfl
theorem q654 : (Jvm.Cond.code ({ cls := "LosersBooks", name := "in", desc := "(III)Z" } : Jvm.MethodName) prog_1_method_1_code (3 : Nat) (Option.some Jvm.ClassFile.FieldType.boolean)) ∈ lw_all := lw_g (lw_at lw_m3 56 rfl) rfl
theorem q655 : (Jvm.Cond.methodLink "LosersBooks" (270 : Nat) ({ cls := "LosersBooks", name := "isWhole", desc := "()Z" } : Jvm.MethodName)) ∈ lw_all := lw_g (lw_at lw_m3 57 rfl) rfl
theorem q656 : (Jvm.Cond.privateMethod ({ cls := "LosersBooks", name := "isWhole", desc := "()Z" } : Jvm.MethodName)) ∈ lw_tbl := lw_at lw_m3 58 rfl
theorem q657 : (Jvm.Cond.instanceMethod ({ cls := "LosersBooks", name := "isWhole", desc := "()Z" } : Jvm.MethodName)) ∈ lw_all := lw_g (lw_at lw_m3 59 rfl) rfl
theorem q658 : (Jvm.Cond.code ({ cls := "LosersBooks", name := "isWhole", desc := "()Z" } : Jvm.MethodName) prog_1_method_31_code (5 : Nat) (Option.some Jvm.ClassFile.FieldType.boolean)) ∈ lw_all := lw_g (lw_at lw_m3 60 rfl) rfl
theorem q659 : (Jvm.Cond.methodLink "LosersBooks" (282 : Nat) ({ cls := "LosersBooks", name := "wholeCampaign", desc := "(I)V" } : Jvm.MethodName)) ∈ lw_all := lw_g (lw_at lw_m3 61 rfl) rfl
theorem q660 : (Jvm.Cond.privateMethod ({ cls := "LosersBooks", name := "wholeCampaign", desc := "(I)V" } : Jvm.MethodName)) ∈ lw_tbl := lw_at lw_m3 62 rfl
theorem q661 : (Jvm.Cond.instanceMethod ({ cls := "LosersBooks", name := "wholeCampaign", desc := "(I)V" } : Jvm.MethodName)) ∈ lw_all := lw_g (lw_at lw_m3 63 rfl) rfl
theorem q662 : (Jvm.Cond.code ({ cls := "LosersBooks", name := "wholeCampaign", desc := "(I)V" } : Jvm.MethodName) prog_1_method_34_code (3 : Nat) (Option.none : Option Jvm.ClassFile.FieldType)) ∈ lw_all := lw_g (lw_at lw_m3 64 rfl) rfl
theorem q663 : (Jvm.Cond.methodLink "LosersBooks" (276 : Nat) ({ cls := "LosersBooks", name := "stepRead", desc := "(I)V" } : Jvm.MethodName)) ∈ lw_all := lw_g (lw_at lw_m3 65 rfl) rfl
theorem q664 : (Jvm.Cond.privateMethod ({ cls := "LosersBooks", name := "stepRead", desc := "(I)V" } : Jvm.MethodName)) ∈ lw_tbl := lw_at lw_m3 66 rfl
theorem q665 : (Jvm.Cond.instanceMethod ({ cls := "LosersBooks", name := "stepRead", desc := "(I)V" } : Jvm.MethodName)) ∈ lw_all := lw_g (lw_at lw_m3 67 rfl) rfl
theorem q666 : (Jvm.Cond.code ({ cls := "LosersBooks", name := "stepRead", desc := "(I)V" } : Jvm.MethodName) prog_1_method_33_code (3 : Nat) (Option.none : Option Jvm.ClassFile.FieldType)) ∈ lw_all := lw_g (lw_at lw_m3 68 rfl) rfl
theorem q667 : (Jvm.Cond.stringRef "LosersBooks" (274 : Nat) "yhat") ∈ lw_tbl := lw_at lw_m3 69 rfl
theorem q669 : (Jvm.Cond.instanceMethod ({ cls := "LosersBooks", name := "text", desc := "(I)I" } : Jvm.MethodName)) ∈ lw_all := lw_g (lw_at lw_m3 71 rfl) rfl
theorem q670 : (Jvm.Cond.selects "LosersBooks" ({ cls := "LosersBooks", name := "text", desc := "(I)I" } : Jvm.MethodName) ({ cls := "LosersBooks", name := "text", desc := "(I)I" } : Jvm.MethodName)) ∈ lw_all := lw_g (lw_at lw_m3 72 rfl) rfl
theorem q671 : (Jvm.Cond.code ({ cls := "LosersBooks", name := "text", desc := "(I)I" } : Jvm.MethodName) prog_1_method_39_code (4 : Nat) (Option.some Jvm.ClassFile.FieldType.int)) ∈ lw_all := lw_g (lw_at lw_m3 73 rfl) rfl
theorem q672 : (Jvm.Cond.methodLink "LosersBooks" (297 : Nat) ({ cls := "LosersBooks", name := "lawRead", desc := "()I" } : Jvm.MethodName)) ∈ lw_all := lw_g (lw_at lw_m3 74 rfl) rfl
theorem q673 : (Jvm.Cond.privateMethod ({ cls := "LosersBooks", name := "lawRead", desc := "()I" } : Jvm.MethodName)) ∈ lw_tbl := lw_at lw_m3 75 rfl
theorem q674 : (Jvm.Cond.instanceMethod ({ cls := "LosersBooks", name := "lawRead", desc := "()I" } : Jvm.MethodName)) ∈ lw_all := lw_g (lw_at lw_m3 76 rfl) rfl
theorem q675 : (Jvm.Cond.codeWith ({ cls := "LosersBooks", name := "lawRead", desc := "()I" } : Jvm.MethodName) prog_1_method_37_code (2 : Nat) (Option.some Jvm.ClassFile.FieldType.int) [((10 : Nat), (23 : Nat), (26 : Nat), (9 : Nat))]) ∈ lw_all := lw_g (lw_at lw_m3 77 rfl) rfl
theorem q676 : (Jvm.Cond.methodLink "LosersBooks" (300 : Nat) ({ cls := "LosersBooks", name := "campaignRead", desc := "()I" } : Jvm.MethodName)) ∈ lw_all := lw_g (lw_at lw_m3 78 rfl) rfl
theorem q677 : (Jvm.Cond.privateMethod ({ cls := "LosersBooks", name := "campaignRead", desc := "()I" } : Jvm.MethodName)) ∈ lw_tbl := lw_at lw_m3 79 rfl
theorem q678 : (Jvm.Cond.instanceMethod ({ cls := "LosersBooks", name := "campaignRead", desc := "()I" } : Jvm.MethodName)) ∈ lw_all := lw_g (lw_at lw_m3 80 rfl) rfl
theorem q679 : (Jvm.Cond.codeWith ({ cls := "LosersBooks", name := "campaignRead", desc := "()I" } : Jvm.MethodName) prog_1_method_38_code (2 : Nat) (Option.some Jvm.ClassFile.FieldType.int) [((10 : Nat), (18 : Nat), (21 : Nat), (9 : Nat))]) ∈ lw_all := lw_g (lw_at lw_m3 81 rfl) rfl
theorem q680 : (Jvm.Cond.methodLink "LosersBooks" (303 : Nat) ({ cls := "LosersBooks", name := "fault", desc := "(I)I" } : Jvm.MethodName)) ∈ lw_all := lw_g (lw_at lw_m3 82 rfl) rfl
theorem q682 : (Jvm.Cond.instanceMethod ({ cls := "LosersBooks", name := "field", desc := "(II)I" } : Jvm.MethodName)) ∈ lw_all := lw_g (lw_at lw_m3 84 rfl) rfl
theorem q683 : (Jvm.Cond.selects "LosersBooks" ({ cls := "LosersBooks", name := "field", desc := "(II)I" } : Jvm.MethodName) ({ cls := "LosersBooks", name := "field", desc := "(II)I" } : Jvm.MethodName)) ∈ lw_all := lw_g (lw_at lw_m3 85 rfl) rfl
theorem q684 : (Jvm.Cond.code ({ cls := "LosersBooks", name := "field", desc := "(II)I" } : Jvm.MethodName) prog_1_method_48_code (3 : Nat) (Option.some Jvm.ClassFile.FieldType.int)) ∈ lw_all := lw_g (lw_at lw_m3 86 rfl) rfl
theorem q685 : (Jvm.Cond.methodLink "LosersBooks" (333 : Nat) ({ cls := "LosersBooks", name := "isField", desc := "(I)Z" } : Jvm.MethodName)) ∈ lw_all := lw_g (lw_at lw_m3 87 rfl) rfl
theorem q686 : (Jvm.Cond.privateMethod ({ cls := "LosersBooks", name := "isField", desc := "(I)Z" } : Jvm.MethodName)) ∈ lw_tbl := lw_at lw_m3 88 rfl
theorem q687 : (Jvm.Cond.instanceMethod ({ cls := "LosersBooks", name := "isField", desc := "(I)Z" } : Jvm.MethodName)) ∈ lw_all := lw_g (lw_at lw_m3 89 rfl) rfl
theorem q688 : (Jvm.Cond.code ({ cls := "LosersBooks", name := "isField", desc := "(I)Z" } : Jvm.MethodName) prog_1_method_42_code (2 : Nat) (Option.some Jvm.ClassFile.FieldType.boolean)) ∈ lw_all := lw_g (lw_at lw_m3 90 rfl) rfl
theorem q689 : (Jvm.Cond.methodLink "LosersBooks" (336 : Nat) ({ cls := "LosersBooks", name := "of", desc := "(II)I" } : Jvm.MethodName)) ∈ lw_all := lw_g (lw_at lw_m3 91 rfl) rfl
theorem q690 : (Jvm.Cond.privateMethod ({ cls := "LosersBooks", name := "of", desc := "(II)I" } : Jvm.MethodName)) ∈ lw_tbl := lw_at lw_m3 92 rfl
theorem q691 : (Jvm.Cond.instanceMethod ({ cls := "LosersBooks", name := "of", desc := "(II)I" } : Jvm.MethodName)) ∈ lw_all := lw_g (lw_at lw_m3 93 rfl) rfl
theorem q692 : (Jvm.Cond.code ({ cls := "LosersBooks", name := "of", desc := "(II)I" } : Jvm.MethodName) prog_1_method_44_code (3 : Nat) (Option.some Jvm.ClassFile.FieldType.int)) ∈ lw_all := lw_g (lw_at lw_m3 94 rfl) rfl
theorem q694 : (Jvm.Cond.instanceMethod ({ cls := "LosersBooks", name := "law", desc := "(I)Z" } : Jvm.MethodName)) ∈ lw_all := lw_g (lw_at lw_m3 96 rfl) rfl
theorem q695 : (Jvm.Cond.selects "LosersBooks" ({ cls := "LosersBooks", name := "law", desc := "(I)Z" } : Jvm.MethodName) ({ cls := "LosersBooks", name := "law", desc := "(I)Z" } : Jvm.MethodName)) ∈ lw_all := lw_g (lw_at lw_m3 97 rfl) rfl
theorem q696 : (Jvm.Cond.code ({ cls := "LosersBooks", name := "law", desc := "(I)Z" } : Jvm.MethodName) prog_1_method_49_code (2 : Nat) (Option.some Jvm.ClassFile.FieldType.boolean)) ∈ lw_all := lw_g (lw_at lw_m3 98 rfl) rfl
theorem q698 : (Jvm.Cond.instanceMethod ({ cls := "LosersBooks", name := "intrigue", desc := "(I)Z" } : Jvm.MethodName)) ∈ lw_all := lw_g (lw_at lw_m3 100 rfl) rfl
theorem q699 : (Jvm.Cond.selects "LosersBooks" ({ cls := "LosersBooks", name := "intrigue", desc := "(I)Z" } : Jvm.MethodName) ({ cls := "LosersBooks", name := "intrigue", desc := "(I)Z" } : Jvm.MethodName)) ∈ lw_all := lw_g (lw_at lw_m3 101 rfl) rfl
theorem q700 : (Jvm.Cond.code ({ cls := "LosersBooks", name := "intrigue", desc := "(I)Z" } : Jvm.MethodName) prog_1_method_50_code (2 : Nat) (Option.some Jvm.ClassFile.FieldType.boolean)) ∈ lw_all := lw_g (lw_at lw_m3 102 rfl) rfl
theorem q702 : (Jvm.Cond.instanceMethod ({ cls := "LosersBooks", name := "year", desc := "()I" } : Jvm.MethodName)) ∈ lw_all := lw_g (lw_at lw_m3 104 rfl) rfl
theorem q703 : (Jvm.Cond.selects "LosersBooks" ({ cls := "LosersBooks", name := "year", desc := "()I" } : Jvm.MethodName) ({ cls := "LosersBooks", name := "year", desc := "()I" } : Jvm.MethodName)) ∈ lw_all := lw_g (lw_at lw_m3 105 rfl) rfl
theorem q704 : (Jvm.Cond.code ({ cls := "LosersBooks", name := "year", desc := "()I" } : Jvm.MethodName) prog_1_method_60_code (1 : Nat) (Option.some Jvm.ClassFile.FieldType.int)) ∈ lw_all := lw_g (lw_at lw_m3 106 rfl) rfl
theorem q705 : (Jvm.Cond.methodLink "LosersBooks" (376 : Nat) ({ cls := "LosersBooks", name := "canPass", desc := "(I)Z" } : Jvm.MethodName)) ∈ lw_all := lw_g (lw_at lw_m3 107 rfl) rfl
theorem q706 : (Jvm.Cond.privateMethod ({ cls := "LosersBooks", name := "canPass", desc := "(I)Z" } : Jvm.MethodName)) ∈ lw_tbl := lw_at lw_m3 108 rfl
theorem q707 : (Jvm.Cond.instanceMethod ({ cls := "LosersBooks", name := "canPass", desc := "(I)Z" } : Jvm.MethodName)) ∈ lw_all := lw_g (lw_at lw_m3 109 rfl) rfl
theorem q708 : (Jvm.Cond.code ({ cls := "LosersBooks", name := "canPass", desc := "(I)Z" } : Jvm.MethodName) prog_1_method_59_code (2 : Nat) (Option.some Jvm.ClassFile.FieldType.boolean)) ∈ lw_all := lw_g (lw_at lw_m3 110 rfl) rfl
theorem q709 : (Jvm.Cond.methodLink "LosersBooks" (373 : Nat) ({ cls := "LosersBooks", name := "isRealm", desc := "()Z" } : Jvm.MethodName)) ∈ lw_all := lw_g (lw_at lw_m3 111 rfl) rfl
theorem q710 : (Jvm.Cond.privateMethod ({ cls := "LosersBooks", name := "isRealm", desc := "()Z" } : Jvm.MethodName)) ∈ lw_tbl := lw_at lw_m3 112 rfl
theorem q711 : (Jvm.Cond.instanceMethod ({ cls := "LosersBooks", name := "isRealm", desc := "()Z" } : Jvm.MethodName)) ∈ lw_all := lw_g (lw_at lw_m3 113 rfl) rfl
theorem q712 : (Jvm.Cond.code ({ cls := "LosersBooks", name := "isRealm", desc := "()Z" } : Jvm.MethodName) prog_1_method_40_code (1 : Nat) (Option.some Jvm.ClassFile.FieldType.boolean)) ∈ lw_all := lw_g (lw_at lw_m3 114 rfl) rfl
theorem q713 : (Jvm.Cond.methodLink "LosersBooks" (379 : Nat) ({ cls := "LosersBooks", name := "act", desc := "()V" } : Jvm.MethodName)) ∈ lw_all := lw_g (lw_at lw_m3 115 rfl) rfl
theorem q714 : (Jvm.Cond.privateMethod ({ cls := "LosersBooks", name := "act", desc := "()V" } : Jvm.MethodName)) ∈ lw_tbl := lw_at lw_m3 116 rfl
theorem q715 : (Jvm.Cond.instanceMethod ({ cls := "LosersBooks", name := "act", desc := "()V" } : Jvm.MethodName)) ∈ lw_all := lw_g (lw_at lw_m3 117 rfl) rfl
theorem q716 : (Jvm.Cond.code ({ cls := "LosersBooks", name := "act", desc := "()V" } : Jvm.MethodName) prog_1_method_58_code (2 : Nat) (Option.none : Option Jvm.ClassFile.FieldType)) ∈ lw_all := lw_g (lw_at lw_m3 118 rfl) rfl
theorem q717 : (Jvm.Cond.methodLink "LosersBooks" (382 : Nat) ({ cls := "LosersBooks", name := "passYear", desc := "()I" } : Jvm.MethodName)) ∈ lw_all := lw_g (lw_at lw_m3 119 rfl) rfl
theorem q718 : (Jvm.Cond.privateMethod ({ cls := "LosersBooks", name := "passYear", desc := "()I" } : Jvm.MethodName)) ∈ lw_tbl := lw_at lw_m3 120 rfl
theorem q719 : (Jvm.Cond.instanceMethod ({ cls := "LosersBooks", name := "passYear", desc := "()I" } : Jvm.MethodName)) ∈ lw_all := lw_g (lw_at lw_m3 121 rfl) rfl
theorem q720 : (Jvm.Cond.code ({ cls := "LosersBooks", name := "passYear", desc := "()I" } : Jvm.MethodName) prog_1_method_57_code (4 : Nat) (Option.some Jvm.ClassFile.FieldType.int)) ∈ lw_all := lw_g (lw_at lw_m3 122 rfl) rfl
theorem q721 : (Jvm.Cond.methodLink "LosersBooks" (370 : Nat) ({ cls := "LosersBooks", name := "liveYear", desc := "()I" } : Jvm.MethodName)) ∈ lw_all := lw_g (lw_at lw_m3 123 rfl) rfl
theorem q722 : (Jvm.Cond.privateMethod ({ cls := "LosersBooks", name := "liveYear", desc := "()I" } : Jvm.MethodName)) ∈ lw_tbl := lw_at lw_m3 124 rfl
theorem q723 : (Jvm.Cond.instanceMethod ({ cls := "LosersBooks", name := "liveYear", desc := "()I" } : Jvm.MethodName)) ∈ lw_all := lw_g (lw_at lw_m3 125 rfl) rfl
theorem q724 : (Jvm.Cond.code ({ cls := "LosersBooks", name := "liveYear", desc := "()I" } : Jvm.MethodName) prog_1_method_56_code (4 : Nat) (Option.some Jvm.ClassFile.FieldType.int)) ∈ lw_all := lw_g (lw_at lw_m3 126 rfl) rfl
theorem q725 : (Jvm.Cond.methodLink "LosersBooks" (357 : Nat) ({ cls := "LosersBooks", name := "winnerOf", desc := "(I)I" } : Jvm.MethodName)) ∈ lw_all := lw_g (lw_at lw_m3 127 rfl) rfl
theorem q726 : (Jvm.Cond.privateMethod ({ cls := "LosersBooks", name := "winnerOf", desc := "(I)I" } : Jvm.MethodName)) ∈ lw_tbl := lw_at lw_m3 128 rfl
theorem q727 : (Jvm.Cond.instanceMethod ({ cls := "LosersBooks", name := "winnerOf", desc := "(I)I" } : Jvm.MethodName)) ∈ lw_all := lw_g (lw_at lw_m3 129 rfl) rfl
theorem q728 : (Jvm.Cond.code ({ cls := "LosersBooks", name := "winnerOf", desc := "(I)I" } : Jvm.MethodName) prog_1_method_52_code (4 : Nat) (Option.some Jvm.ClassFile.FieldType.int)) ∈ lw_all := lw_g (lw_at lw_m3 130 rfl) rfl
theorem q729 : (Jvm.Cond.methodLink "LosersBooks" (354 : Nat) ({ cls := "LosersBooks", name := "forceOf", desc := "(II)I" } : Jvm.MethodName)) ∈ lw_all := lw_g (lw_at lw_m3 131 rfl) rfl
theorem q730 : (Jvm.Cond.privateMethod ({ cls := "LosersBooks", name := "forceOf", desc := "(II)I" } : Jvm.MethodName)) ∈ lw_tbl := lw_at lw_m3 132 rfl
theorem q731 : (Jvm.Cond.instanceMethod ({ cls := "LosersBooks", name := "forceOf", desc := "(II)I" } : Jvm.MethodName)) ∈ lw_all := lw_g (lw_at lw_m3 133 rfl) rfl
theorem q732 : (Jvm.Cond.code ({ cls := "LosersBooks", name := "forceOf", desc := "(II)I" } : Jvm.MethodName) prog_1_method_51_code (5 : Nat) (Option.some Jvm.ClassFile.FieldType.int)) ∈ lw_all := lw_g (lw_at lw_m3 134 rfl) rfl
theorem q733 : (Jvm.Cond.methodLink "LosersBooks" (339 : Nat) ({ cls := "LosersBooks", name := "forget", desc := "()V" } : Jvm.MethodName)) ∈ lw_all := lw_g (lw_at lw_m3 135 rfl) rfl
theorem q734 : (Jvm.Cond.privateMethod ({ cls := "LosersBooks", name := "forget", desc := "()V" } : Jvm.MethodName)) ∈ lw_tbl := lw_at lw_m3 136 rfl
theorem q735 : (Jvm.Cond.instanceMethod ({ cls := "LosersBooks", name := "forget", desc := "()V" } : Jvm.MethodName)) ∈ lw_all := lw_g (lw_at lw_m3 137 rfl) rfl
theorem q736 : (Jvm.Cond.code ({ cls := "LosersBooks", name := "forget", desc := "()V" } : Jvm.MethodName) prog_1_method_23_code (2 : Nat) (Option.none : Option Jvm.ClassFile.FieldType)) ∈ lw_all := lw_g (lw_at lw_m3 138 rfl) rfl
theorem q737 : (Jvm.Cond.methodLink "LosersBooks" (201 : Nat) ({ cls := "java/lang/String", name := "length", desc := "()I" } : Jvm.MethodName)) ∈ lw_all := lw_g (lw_at lw_m3 139 rfl) rfl
theorem q738 : (Jvm.Cond.methodLink "LosersBooks" (204 : Nat) ({ cls := "java/lang/String", name := "charAt", desc := "(I)C" } : Jvm.MethodName)) ∈ lw_all := lw_g (lw_at lw_m3 140 rfl) rfl
theorem q758 : (Jvm.Cond.methodLink "LosersBooks" (330 : Nat) ({ cls := "LosersBooks", name := "pagesOf", desc := "(I)I" } : Jvm.MethodName)) ∈ lw_all := lw_g (lw_at lw_m3 160 rfl) rfl
theorem q759 : (Jvm.Cond.privateMethod ({ cls := "LosersBooks", name := "pagesOf", desc := "(I)I" } : Jvm.MethodName)) ∈ lw_tbl := lw_at lw_m3 161 rfl
theorem q760 : (Jvm.Cond.instanceMethod ({ cls := "LosersBooks", name := "pagesOf", desc := "(I)I" } : Jvm.MethodName)) ∈ lw_all := lw_g (lw_at lw_m3 162 rfl) rfl
theorem q761 : (Jvm.Cond.code ({ cls := "LosersBooks", name := "pagesOf", desc := "(I)I" } : Jvm.MethodName) prog_1_method_46_code (4 : Nat) (Option.some Jvm.ClassFile.FieldType.int)) ∈ lw_all := lw_g (lw_at lw_m3 163 rfl) rfl
theorem q762 : (Jvm.Cond.methodLink "LosersBooks" (321 : Nat) ({ cls := "LosersBooks", name := "pageOf", desc := "(II)I" } : Jvm.MethodName)) ∈ lw_all := lw_g (lw_at lw_m3 164 rfl) rfl
theorem q763 : (Jvm.Cond.privateMethod ({ cls := "LosersBooks", name := "pageOf", desc := "(II)I" } : Jvm.MethodName)) ∈ lw_tbl := lw_at lw_m3 165 rfl
theorem q764 : (Jvm.Cond.instanceMethod ({ cls := "LosersBooks", name := "pageOf", desc := "(II)I" } : Jvm.MethodName)) ∈ lw_all := lw_g (lw_at lw_m3 166 rfl) rfl
theorem q765 : (Jvm.Cond.code ({ cls := "LosersBooks", name := "pageOf", desc := "(II)I" } : Jvm.MethodName) prog_1_method_45_code (3 : Nat) (Option.some Jvm.ClassFile.FieldType.int)) ∈ lw_all := lw_g (lw_at lw_m3 167 rfl) rfl
theorem q766 : (Jvm.Cond.methodLink "LosersBooks" (342 : Nat) ({ cls := "LosersBooks", name := "worth", desc := "(LLosersBooks$Clause;I[I)I" } : Jvm.MethodName)) ∈ lw_all := lw_g (lw_at lw_m3 168 rfl) rfl
theorem q767 : (Jvm.Cond.static ({ cls := "LosersBooks", name := "worth", desc := "(LLosersBooks$Clause;I[I)I" } : Jvm.MethodName)) ∈ lw_all := lw_g (lw_at lw_m3 169 rfl) rfl
theorem q768 : (Jvm.Cond.code ({ cls := "LosersBooks", name := "worth", desc := "(LLosersBooks$Clause;I[I)I" } : Jvm.MethodName) prog_1_method_24_code (4 : Nat) (Option.some Jvm.ClassFile.FieldType.int)) ∈ lw_all := lw_g (lw_at lw_m3 170 rfl) rfl
theorem q769 : (Jvm.Cond.methodLink "LosersBooks" (215 : Nat) ({ cls := "LosersBooks$Test", name := "holds", desc := "([I)Z" } : Jvm.MethodName)) ∈ lw_all := lw_g (lw_at lw_m3 171 rfl) rfl
theorem q809 : (Jvm.Cond.methodLink "LosersBooks" (224 : Nat) ({ cls := "LosersBooks$Sum", name := "value", desc := "([I)I" } : Jvm.MethodName)) ∈ lw_all := lw_g (lw_at lw_m3 211 rfl) rfl
theorem q810 : (Jvm.Cond.methodLink "LosersBooks" (346 : Nat) ({ cls := "java/lang/Math", name := "min", desc := "(II)I" } : Jvm.MethodName)) ∈ lw_all := lw_g (lw_at lw_m3 212 rfl) rfl
theorem q811 : (Jvm.Cond.methodLink "LosersBooks" (351 : Nat) ({ cls := "java/lang/Math", name := "max", desc := "(II)I" } : Jvm.MethodName)) ∈ lw_all := lw_g (lw_at lw_m3 213 rfl) rfl
theorem q812 : (Jvm.Cond.methodLink "LosersBooks" (363 : Nat) ({ cls := "LosersBooks", name := "beatenOf", desc := "(I)I" } : Jvm.MethodName)) ∈ lw_all := lw_g (lw_at lw_m3 214 rfl) rfl
theorem q813 : (Jvm.Cond.privateMethod ({ cls := "LosersBooks", name := "beatenOf", desc := "(I)I" } : Jvm.MethodName)) ∈ lw_tbl := lw_at lw_m3 215 rfl
theorem q814 : (Jvm.Cond.instanceMethod ({ cls := "LosersBooks", name := "beatenOf", desc := "(I)I" } : Jvm.MethodName)) ∈ lw_all := lw_g (lw_at lw_m3 216 rfl) rfl
theorem q815 : (Jvm.Cond.code ({ cls := "LosersBooks", name := "beatenOf", desc := "(I)I" } : Jvm.MethodName) prog_1_method_53_code (3 : Nat) (Option.some Jvm.ClassFile.FieldType.int)) ∈ lw_all := lw_g (lw_at lw_m3 217 rfl) rfl
theorem q816 : (Jvm.Cond.methodLink "LosersBooks" (366 : Nat) ({ cls := "LosersBooks", name := "writePage", desc := "(II)V" } : Jvm.MethodName)) ∈ lw_all := lw_g (lw_at lw_m3 218 rfl) rfl
theorem q817 : (Jvm.Cond.privateMethod ({ cls := "LosersBooks", name := "writePage", desc := "(II)V" } : Jvm.MethodName)) ∈ lw_tbl := lw_at lw_m3 219 rfl
theorem q818 : (Jvm.Cond.instanceMethod ({ cls := "LosersBooks", name := "writePage", desc := "(II)V" } : Jvm.MethodName)) ∈ lw_all := lw_g (lw_at lw_m3 220 rfl) rfl
theorem q819 : (Jvm.Cond.code ({ cls := "LosersBooks", name := "writePage", desc := "(II)V" } : Jvm.MethodName) prog_1_method_55_code (4 : Nat) (Option.none : Option Jvm.ClassFile.FieldType)) ∈ lw_all := lw_g (lw_at lw_m3 221 rfl) rfl
theorem q820 : (Jvm.Cond.methodLink "LosersBooks" (360 : Nat) ({ cls := "LosersBooks", name := "dropPage", desc := "(I)V" } : Jvm.MethodName)) ∈ lw_all := lw_g (lw_at lw_m3 222 rfl) rfl
theorem q821 : (Jvm.Cond.privateMethod ({ cls := "LosersBooks", name := "dropPage", desc := "(I)V" } : Jvm.MethodName)) ∈ lw_tbl := lw_at lw_m3 223 rfl
theorem q822 : (Jvm.Cond.instanceMethod ({ cls := "LosersBooks", name := "dropPage", desc := "(I)V" } : Jvm.MethodName)) ∈ lw_all := lw_g (lw_at lw_m3 224 rfl) rfl
theorem q823 : (Jvm.Cond.code ({ cls := "LosersBooks", name := "dropPage", desc := "(I)V" } : Jvm.MethodName) prog_1_method_54_code (3 : Nat) (Option.none : Option Jvm.ClassFile.FieldType)) ∈ lw_all := lw_g (lw_at lw_m3 225 rfl) rfl
theorem q825 : (Jvm.Cond.instanceMethod ({ cls := "LosersBooks", name := "hold", desc := "(I)I" } : Jvm.MethodName)) ∈ lw_all := lw_g (lw_at lw_m3 227 rfl) rfl
theorem q826 : (Jvm.Cond.selects "LosersBooks" ({ cls := "LosersBooks", name := "hold", desc := "(I)I" } : Jvm.MethodName) ({ cls := "LosersBooks", name := "hold", desc := "(I)I" } : Jvm.MethodName)) ∈ lw_all := lw_g (lw_at lw_m3 228 rfl) rfl
theorem q827 : (Jvm.Cond.code ({ cls := "LosersBooks", name := "hold", desc := "(I)I" } : Jvm.MethodName) prog_1_method_61_code (2 : Nat) (Option.some Jvm.ClassFile.FieldType.int)) ∈ lw_all := lw_g (lw_at lw_m3 229 rfl) rfl
theorem q828 : (Jvm.Cond.methodLink "LosersBooks" (324 : Nat) ({ cls := "LosersBooks", name := "isKingdom", desc := "(I)Z" } : Jvm.MethodName)) ∈ lw_all := lw_g (lw_at lw_m3 230 rfl) rfl
theorem q829 : (Jvm.Cond.privateMethod ({ cls := "LosersBooks", name := "isKingdom", desc := "(I)Z" } : Jvm.MethodName)) ∈ lw_tbl := lw_at lw_m3 231 rfl
theorem q830 : (Jvm.Cond.instanceMethod ({ cls := "LosersBooks", name := "isKingdom", desc := "(I)Z" } : Jvm.MethodName)) ∈ lw_all := lw_g (lw_at lw_m3 232 rfl) rfl
theorem q831 : (Jvm.Cond.code ({ cls := "LosersBooks", name := "isKingdom", desc := "(I)Z" } : Jvm.MethodName) prog_1_method_41_code (2 : Nat) (Option.some Jvm.ClassFile.FieldType.boolean)) ∈ lw_all := lw_g (lw_at lw_m3 233 rfl) rfl
theorem q833 : (Jvm.Cond.instanceMethod ({ cls := "LosersBooks", name := "arm", desc := "(I)I" } : Jvm.MethodName)) ∈ lw_all := lw_g (lw_at lw_m3 235 rfl) rfl
theorem q834 : (Jvm.Cond.selects "LosersBooks" ({ cls := "LosersBooks", name := "arm", desc := "(I)I" } : Jvm.MethodName) ({ cls := "LosersBooks", name := "arm", desc := "(I)I" } : Jvm.MethodName)) ∈ lw_all := lw_g (lw_at lw_m3 236 rfl) rfl
theorem q835 : (Jvm.Cond.code ({ cls := "LosersBooks", name := "arm", desc := "(I)I" } : Jvm.MethodName) prog_1_method_64_code (2 : Nat) (Option.some Jvm.ClassFile.FieldType.int)) ∈ lw_all := lw_g (lw_at lw_m3 237 rfl) rfl
theorem q836 : (Jvm.Cond.methodLink "LosersBooks" (385 : Nat) ({ cls := "LosersBooks", name := "canArm", desc := "(I)Z" } : Jvm.MethodName)) ∈ lw_all := lw_g (lw_at lw_m3 238 rfl) rfl
theorem q837 : (Jvm.Cond.privateMethod ({ cls := "LosersBooks", name := "canArm", desc := "(I)Z" } : Jvm.MethodName)) ∈ lw_tbl := lw_at lw_m3 239 rfl
theorem q838 : (Jvm.Cond.instanceMethod ({ cls := "LosersBooks", name := "canArm", desc := "(I)Z" } : Jvm.MethodName)) ∈ lw_all := lw_g (lw_at lw_m4 0 rfl) rfl
theorem q839 : (Jvm.Cond.code ({ cls := "LosersBooks", name := "canArm", desc := "(I)Z" } : Jvm.MethodName) prog_1_method_62_code (2 : Nat) (Option.some Jvm.ClassFile.FieldType.boolean)) ∈ lw_all := lw_g (lw_at lw_m4 1 rfl) rfl
theorem q840 : (Jvm.Cond.methodLink "LosersBooks" (388 : Nat) ({ cls := "LosersBooks", name := "armNow", desc := "(I)V" } : Jvm.MethodName)) ∈ lw_all := lw_g (lw_at lw_m4 2 rfl) rfl
theorem q841 : (Jvm.Cond.privateMethod ({ cls := "LosersBooks", name := "armNow", desc := "(I)V" } : Jvm.MethodName)) ∈ lw_tbl := lw_at lw_m4 3 rfl
theorem q842 : (Jvm.Cond.instanceMethod ({ cls := "LosersBooks", name := "armNow", desc := "(I)V" } : Jvm.MethodName)) ∈ lw_all := lw_g (lw_at lw_m4 4 rfl) rfl
theorem q843 : (Jvm.Cond.code ({ cls := "LosersBooks", name := "armNow", desc := "(I)V" } : Jvm.MethodName) prog_1_method_63_code (2 : Nat) (Option.none : Option Jvm.ClassFile.FieldType)) ∈ lw_all := lw_g (lw_at lw_m4 5 rfl) rfl
theorem q845 : (Jvm.Cond.instanceMethod ({ cls := "LosersBooks", name := "teach", desc := "(I)I" } : Jvm.MethodName)) ∈ lw_all := lw_g (lw_at lw_m4 7 rfl) rfl
theorem q846 : (Jvm.Cond.selects "LosersBooks" ({ cls := "LosersBooks", name := "teach", desc := "(I)I" } : Jvm.MethodName) ({ cls := "LosersBooks", name := "teach", desc := "(I)I" } : Jvm.MethodName)) ∈ lw_all := lw_g (lw_at lw_m4 8 rfl) rfl
theorem q847 : (Jvm.Cond.code ({ cls := "LosersBooks", name := "teach", desc := "(I)I" } : Jvm.MethodName) prog_1_method_67_code (2 : Nat) (Option.some Jvm.ClassFile.FieldType.int)) ∈ lw_all := lw_g (lw_at lw_m4 9 rfl) rfl
theorem q848 : (Jvm.Cond.methodLink "LosersBooks" (391 : Nat) ({ cls := "LosersBooks", name := "canTeach", desc := "(I)Z" } : Jvm.MethodName)) ∈ lw_all := lw_g (lw_at lw_m4 10 rfl) rfl
theorem q849 : (Jvm.Cond.privateMethod ({ cls := "LosersBooks", name := "canTeach", desc := "(I)Z" } : Jvm.MethodName)) ∈ lw_tbl := lw_at lw_m4 11 rfl
theorem q850 : (Jvm.Cond.instanceMethod ({ cls := "LosersBooks", name := "canTeach", desc := "(I)Z" } : Jvm.MethodName)) ∈ lw_all := lw_g (lw_at lw_m4 12 rfl) rfl
theorem q851 : (Jvm.Cond.code ({ cls := "LosersBooks", name := "canTeach", desc := "(I)Z" } : Jvm.MethodName) prog_1_method_65_code (2 : Nat) (Option.some Jvm.ClassFile.FieldType.boolean)) ∈ lw_all := lw_g (lw_at lw_m4 13 rfl) rfl
theorem q852 : (Jvm.Cond.methodLink "LosersBooks" (394 : Nat) ({ cls := "LosersBooks", name := "teachNow", desc := "(I)V" } : Jvm.MethodName)) ∈ lw_all := lw_g (lw_at lw_m4 14 rfl) rfl
theorem q853 : (Jvm.Cond.privateMethod ({ cls := "LosersBooks", name := "teachNow", desc := "(I)V" } : Jvm.MethodName)) ∈ lw_tbl := lw_at lw_m4 15 rfl
theorem q854 : (Jvm.Cond.instanceMethod ({ cls := "LosersBooks", name := "teachNow", desc := "(I)V" } : Jvm.MethodName)) ∈ lw_all := lw_g (lw_at lw_m4 16 rfl) rfl
theorem q855 : (Jvm.Cond.code ({ cls := "LosersBooks", name := "teachNow", desc := "(I)V" } : Jvm.MethodName) prog_1_method_66_code (2 : Nat) (Option.none : Option Jvm.ClassFile.FieldType)) ∈ lw_all := lw_g (lw_at lw_m4 17 rfl) rfl
theorem q857 : (Jvm.Cond.instanceMethod ({ cls := "LosersBooks", name := "swear", desc := "(I)I" } : Jvm.MethodName)) ∈ lw_all := lw_g (lw_at lw_m4 19 rfl) rfl
theorem q858 : (Jvm.Cond.selects "LosersBooks" ({ cls := "LosersBooks", name := "swear", desc := "(I)I" } : Jvm.MethodName) ({ cls := "LosersBooks", name := "swear", desc := "(I)I" } : Jvm.MethodName)) ∈ lw_all := lw_g (lw_at lw_m4 20 rfl) rfl
theorem q859 : (Jvm.Cond.code ({ cls := "LosersBooks", name := "swear", desc := "(I)I" } : Jvm.MethodName) prog_1_method_68_code (2 : Nat) (Option.some Jvm.ClassFile.FieldType.int)) ∈ lw_all := lw_g (lw_at lw_m4 21 rfl) rfl
theorem q861 : (Jvm.Cond.instanceMethod ({ cls := "LosersBooks", name := "burn", desc := "(I)I" } : Jvm.MethodName)) ∈ lw_all := lw_g (lw_at lw_m4 23 rfl) rfl
theorem q862 : (Jvm.Cond.selects "LosersBooks" ({ cls := "LosersBooks", name := "burn", desc := "(I)I" } : Jvm.MethodName) ({ cls := "LosersBooks", name := "burn", desc := "(I)I" } : Jvm.MethodName)) ∈ lw_all := lw_g (lw_at lw_m4 24 rfl) rfl
theorem q863 : (Jvm.Cond.code ({ cls := "LosersBooks", name := "burn", desc := "(I)I" } : Jvm.MethodName) prog_1_method_69_code (2 : Nat) (Option.some Jvm.ClassFile.FieldType.int)) ∈ lw_all := lw_g (lw_at lw_m4 25 rfl) rfl
theorem q865 : (Jvm.Cond.instanceMethod ({ cls := "LosersBooks", name := "give", desc := "(I)I" } : Jvm.MethodName)) ∈ lw_all := lw_g (lw_at lw_m4 27 rfl) rfl
theorem q866 : (Jvm.Cond.selects "LosersBooks" ({ cls := "LosersBooks", name := "give", desc := "(I)I" } : Jvm.MethodName) ({ cls := "LosersBooks", name := "give", desc := "(I)I" } : Jvm.MethodName)) ∈ lw_all := lw_g (lw_at lw_m4 28 rfl) rfl
theorem q867 : (Jvm.Cond.code ({ cls := "LosersBooks", name := "give", desc := "(I)I" } : Jvm.MethodName) prog_1_method_70_code (2 : Nat) (Option.some Jvm.ClassFile.FieldType.int)) ∈ lw_all := lw_g (lw_at lw_m4 29 rfl) rfl
theorem q869 : (Jvm.Cond.instanceMethod ({ cls := "LosersBooks", name := "years", desc := "(IJ)I" } : Jvm.MethodName)) ∈ lw_all := lw_g (lw_at lw_m4 31 rfl) rfl
theorem q870 : (Jvm.Cond.selects "LosersBooks" ({ cls := "LosersBooks", name := "years", desc := "(IJ)I" } : Jvm.MethodName) ({ cls := "LosersBooks", name := "years", desc := "(IJ)I" } : Jvm.MethodName)) ∈ lw_all := lw_g (lw_at lw_m4 32 rfl) rfl
theorem q871 : (Jvm.Cond.code ({ cls := "LosersBooks", name := "years", desc := "(IJ)I" } : Jvm.MethodName) prog_1_method_73_code (5 : Nat) (Option.some Jvm.ClassFile.FieldType.int)) ∈ lw_all := lw_g (lw_at lw_m4 33 rfl) rfl
theorem q872 : (Jvm.Cond.methodLink "LosersBooks" (408 : Nat) ({ cls := "LosersBooks", name := "drawYear", desc := "()V" } : Jvm.MethodName)) ∈ lw_all := lw_g (lw_at lw_m4 34 rfl) rfl
theorem q873 : (Jvm.Cond.privateMethod ({ cls := "LosersBooks", name := "drawYear", desc := "()V" } : Jvm.MethodName)) ∈ lw_tbl := lw_at lw_m4 35 rfl
theorem q874 : (Jvm.Cond.instanceMethod ({ cls := "LosersBooks", name := "drawYear", desc := "()V" } : Jvm.MethodName)) ∈ lw_all := lw_g (lw_at lw_m4 36 rfl) rfl
theorem q875 : (Jvm.Cond.code ({ cls := "LosersBooks", name := "drawYear", desc := "()V" } : Jvm.MethodName) prog_1_method_72_code (2 : Nat) (Option.none : Option Jvm.ClassFile.FieldType)) ∈ lw_all := lw_g (lw_at lw_m4 37 rfl) rfl
theorem q876 : (Jvm.Cond.methodLink "LosersBooks" (405 : Nat) ({ cls := "LosersBooks", name := "draw", desc := "(I)I" } : Jvm.MethodName)) ∈ lw_all := lw_g (lw_at lw_m4 38 rfl) rfl
theorem q877 : (Jvm.Cond.privateMethod ({ cls := "LosersBooks", name := "draw", desc := "(I)I" } : Jvm.MethodName)) ∈ lw_tbl := lw_at lw_m4 39 rfl
theorem q878 : (Jvm.Cond.instanceMethod ({ cls := "LosersBooks", name := "draw", desc := "(I)I" } : Jvm.MethodName)) ∈ lw_all := lw_g (lw_at lw_m4 40 rfl) rfl
theorem q879 : (Jvm.Cond.code ({ cls := "LosersBooks", name := "draw", desc := "(I)I" } : Jvm.MethodName) prog_1_method_71_code (2 : Nat) (Option.some Jvm.ClassFile.FieldType.int)) ∈ lw_all := lw_g (lw_at lw_m4 41 rfl) rfl
theorem q880 : (Jvm.Cond.constantLong "LosersBooks" (401 : Nat) (6364136223846793005 : Int64)) ∈ lw_all := lw_g (lw_at lw_m4 42 rfl) rfl
theorem q881 : (Jvm.Cond.constantLong "LosersBooks" (403 : Nat) (1442695040888963407 : Int64)) ∈ lw_all := lw_g (lw_at lw_m4 43 rfl) rfl
theorem q883 : (Jvm.Cond.instanceMethod ({ cls := "LosersBooks", name := "undo", desc := "()I" } : Jvm.MethodName)) ∈ lw_all := lw_g (lw_at lw_m4 45 rfl) rfl
theorem q884 : (Jvm.Cond.selects "LosersBooks" ({ cls := "LosersBooks", name := "undo", desc := "()I" } : Jvm.MethodName) ({ cls := "LosersBooks", name := "undo", desc := "()I" } : Jvm.MethodName)) ∈ lw_all := lw_g (lw_at lw_m4 46 rfl) rfl
theorem q885 : (Jvm.Cond.code ({ cls := "LosersBooks", name := "undo", desc := "()I" } : Jvm.MethodName) prog_1_method_74_code (2 : Nat) (Option.some Jvm.ClassFile.FieldType.int)) ∈ lw_all := lw_g (lw_at lw_m4 47 rfl) rfl
theorem q887 : (Jvm.Cond.instanceMethod ({ cls := "LosersBooks", name := "log", desc := "(II)I" } : Jvm.MethodName)) ∈ lw_all := lw_g (lw_at lw_m4 49 rfl) rfl
theorem q888 : (Jvm.Cond.selects "LosersBooks" ({ cls := "LosersBooks", name := "log", desc := "(II)I" } : Jvm.MethodName) ({ cls := "LosersBooks", name := "log", desc := "(II)I" } : Jvm.MethodName)) ∈ lw_all := lw_g (lw_at lw_m4 50 rfl) rfl
theorem q889 : (Jvm.Cond.code ({ cls := "LosersBooks", name := "log", desc := "(II)I" } : Jvm.MethodName) prog_1_method_75_code (3 : Nat) (Option.some Jvm.ClassFile.FieldType.int)) ∈ lw_all := lw_g (lw_at lw_m4 51 rfl) rfl
theorem q890 : (Jvm.Cond.constant "LosersBooks" (411 : Nat) (-1000000 : Int32)) ∈ lw_all := lw_g (lw_at lw_m4 52 rfl) rfl
theorem q892 : (Jvm.Cond.instanceMethod ({ cls := "LosersBooks", name := "step", desc := "(III)I" } : Jvm.MethodName)) ∈ lw_all := lw_g (lw_at lw_m4 54 rfl) rfl
theorem q893 : (Jvm.Cond.selects "LosersBooks" ({ cls := "LosersBooks", name := "step", desc := "(III)I" } : Jvm.MethodName) ({ cls := "LosersBooks", name := "step", desc := "(III)I" } : Jvm.MethodName)) ∈ lw_all := lw_g (lw_at lw_m4 55 rfl) rfl
theorem q894 : (Jvm.Cond.code ({ cls := "LosersBooks", name := "step", desc := "(III)I" } : Jvm.MethodName) prog_1_method_76_code (4 : Nat) (Option.some Jvm.ClassFile.FieldType.int)) ∈ lw_all := lw_g (lw_at lw_m4 56 rfl) rfl
theorem q895 : (Jvm.Cond.methodLink "LosersBooks" (412 : Nat) ({ cls := "LosersBooks", name := "isCampaign", desc := "(I)Z" } : Jvm.MethodName)) ∈ lw_all := lw_g (lw_at lw_m4 57 rfl) rfl
theorem q896 : (Jvm.Cond.privateMethod ({ cls := "LosersBooks", name := "isCampaign", desc := "(I)Z" } : Jvm.MethodName)) ∈ lw_tbl := lw_at lw_m4 58 rfl
theorem q897 : (Jvm.Cond.instanceMethod ({ cls := "LosersBooks", name := "isCampaign", desc := "(I)Z" } : Jvm.MethodName)) ∈ lw_all := lw_g (lw_at lw_m4 59 rfl) rfl
theorem q898 : (Jvm.Cond.code ({ cls := "LosersBooks", name := "isCampaign", desc := "(I)Z" } : Jvm.MethodName) prog_1_method_43_code (2 : Nat) (Option.some Jvm.ClassFile.FieldType.boolean)) ∈ lw_all := lw_g (lw_at lw_m4 60 rfl) rfl
theorem q900 : (Jvm.Cond.instanceMethod ({ cls := "LosersBooks", name := "run", desc := "(II)I" } : Jvm.MethodName)) ∈ lw_all := lw_g (lw_at lw_m4 62 rfl) rfl
theorem q901 : (Jvm.Cond.selects "LosersBooks" ({ cls := "LosersBooks", name := "run", desc := "(II)I" } : Jvm.MethodName) ({ cls := "LosersBooks", name := "run", desc := "(II)I" } : Jvm.MethodName)) ∈ lw_all := lw_g (lw_at lw_m4 63 rfl) rfl
theorem q902 : (Jvm.Cond.code ({ cls := "LosersBooks", name := "run", desc := "(II)I" } : Jvm.MethodName) prog_1_method_81_code (5 : Nat) (Option.some Jvm.ClassFile.FieldType.int)) ∈ lw_all := lw_g (lw_at lw_m4 64 rfl) rfl
theorem q903 : (Jvm.Cond.methodLink "LosersBooks" (415 : Nat) ({ cls := "LosersBooks", name := "putAside", desc := "()V" } : Jvm.MethodName)) ∈ lw_all := lw_g (lw_at lw_m4 65 rfl) rfl
theorem q904 : (Jvm.Cond.privateMethod ({ cls := "LosersBooks", name := "putAside", desc := "()V" } : Jvm.MethodName)) ∈ lw_tbl := lw_at lw_m4 66 rfl
theorem q905 : (Jvm.Cond.instanceMethod ({ cls := "LosersBooks", name := "putAside", desc := "()V" } : Jvm.MethodName)) ∈ lw_all := lw_g (lw_at lw_m4 67 rfl) rfl
theorem q906 : (Jvm.Cond.code ({ cls := "LosersBooks", name := "putAside", desc := "()V" } : Jvm.MethodName) prog_1_method_79_code (2 : Nat) (Option.none : Option Jvm.ClassFile.FieldType)) ∈ lw_all := lw_g (lw_at lw_m4 68 rfl) rfl
theorem q907 : (Jvm.Cond.methodLink "LosersBooks" (418 : Nat) ({ cls := "LosersBooks", name := "canStep", desc := "(I)Z" } : Jvm.MethodName)) ∈ lw_all := lw_g (lw_at lw_m4 69 rfl) rfl
theorem q908 : (Jvm.Cond.privateMethod ({ cls := "LosersBooks", name := "canStep", desc := "(I)Z" } : Jvm.MethodName)) ∈ lw_tbl := lw_at lw_m4 70 rfl
theorem q909 : (Jvm.Cond.instanceMethod ({ cls := "LosersBooks", name := "canStep", desc := "(I)Z" } : Jvm.MethodName)) ∈ lw_all := lw_g (lw_at lw_m4 71 rfl) rfl
theorem q910 : (Jvm.Cond.code ({ cls := "LosersBooks", name := "canStep", desc := "(I)Z" } : Jvm.MethodName) prog_1_method_77_code (3 : Nat) (Option.some Jvm.ClassFile.FieldType.boolean)) ∈ lw_all := lw_g (lw_at lw_m4 72 rfl) rfl
theorem q911 : (Jvm.Cond.methodLink "LosersBooks" (421 : Nat) ({ cls := "LosersBooks", name := "doStep", desc := "(IZ)I" } : Jvm.MethodName)) ∈ lw_all := lw_g (lw_at lw_m4 73 rfl) rfl
theorem q912 : (Jvm.Cond.privateMethod ({ cls := "LosersBooks", name := "doStep", desc := "(IZ)I" } : Jvm.MethodName)) ∈ lw_tbl := lw_at lw_m4 74 rfl
theorem q913 : (Jvm.Cond.instanceMethod ({ cls := "LosersBooks", name := "doStep", desc := "(IZ)I" } : Jvm.MethodName)) ∈ lw_all := lw_g (lw_at lw_m4 75 rfl) rfl
theorem q914 : (Jvm.Cond.code ({ cls := "LosersBooks", name := "doStep", desc := "(IZ)I" } : Jvm.MethodName) prog_1_method_78_code (4 : Nat) (Option.some Jvm.ClassFile.FieldType.int)) ∈ lw_all := lw_g (lw_at lw_m4 76 rfl) rfl
theorem q915 : (Jvm.Cond.methodLink "LosersBooks" (425 : Nat) ({ cls := "LosersBooks", name := "takeBack", desc := "()V" } : Jvm.MethodName)) ∈ lw_all := lw_g (lw_at lw_m4 77 rfl) rfl
theorem q916 : (Jvm.Cond.privateMethod ({ cls := "LosersBooks", name := "takeBack", desc := "()V" } : Jvm.MethodName)) ∈ lw_tbl := lw_at lw_m4 78 rfl
theorem q917 : (Jvm.Cond.instanceMethod ({ cls := "LosersBooks", name := "takeBack", desc := "()V" } : Jvm.MethodName)) ∈ lw_all := lw_g (lw_at lw_m4 79 rfl) rfl
theorem q918 : (Jvm.Cond.code ({ cls := "LosersBooks", name := "takeBack", desc := "()V" } : Jvm.MethodName) prog_1_method_80_code (2 : Nat) (Option.none : Option Jvm.ClassFile.FieldType)) ∈ lw_all := lw_g (lw_at lw_m4 80 rfl) rfl
theorem q920 : (Jvm.Cond.instanceMethod ({ cls := "LosersBooks", name := "perform", desc := "(I)I" } : Jvm.MethodName)) ∈ lw_all := lw_g (lw_at lw_m4 82 rfl) rfl
theorem q921 : (Jvm.Cond.selects "LosersBooks" ({ cls := "LosersBooks", name := "perform", desc := "(I)I" } : Jvm.MethodName) ({ cls := "LosersBooks", name := "perform", desc := "(I)I" } : Jvm.MethodName)) ∈ lw_all := lw_g (lw_at lw_m4 83 rfl) rfl
theorem q922 : (Jvm.Cond.code ({ cls := "LosersBooks", name := "perform", desc := "(I)I" } : Jvm.MethodName) prog_1_method_82_code (3 : Nat) (Option.some Jvm.ClassFile.FieldType.int)) ∈ lw_all := lw_g (lw_at lw_m4 84 rfl) rfl
theorem q924 : (Jvm.Cond.instanceMethod ({ cls := "LosersBooks", name := "force", desc := "(II)I" } : Jvm.MethodName)) ∈ lw_all := lw_g (lw_at lw_m4 86 rfl) rfl
theorem q925 : (Jvm.Cond.selects "LosersBooks" ({ cls := "LosersBooks", name := "force", desc := "(II)I" } : Jvm.MethodName) ({ cls := "LosersBooks", name := "force", desc := "(II)I" } : Jvm.MethodName)) ∈ lw_all := lw_g (lw_at lw_m4 87 rfl) rfl
theorem q926 : (Jvm.Cond.code ({ cls := "LosersBooks", name := "force", desc := "(II)I" } : Jvm.MethodName) prog_1_method_84_code (3 : Nat) (Option.some Jvm.ClassFile.FieldType.int)) ∈ lw_all := lw_g (lw_at lw_m4 88 rfl) rfl
theorem q927 : (Jvm.Cond.methodLink "LosersBooks" (428 : Nat) ({ cls := "LosersBooks", name := "meetsAt", desc := "(II)Z" } : Jvm.MethodName)) ∈ lw_all := lw_g (lw_at lw_m4 89 rfl) rfl
theorem q928 : (Jvm.Cond.privateMethod ({ cls := "LosersBooks", name := "meetsAt", desc := "(II)Z" } : Jvm.MethodName)) ∈ lw_tbl := lw_at lw_m4 90 rfl
theorem q929 : (Jvm.Cond.instanceMethod ({ cls := "LosersBooks", name := "meetsAt", desc := "(II)Z" } : Jvm.MethodName)) ∈ lw_all := lw_g (lw_at lw_m4 91 rfl) rfl
theorem q930 : (Jvm.Cond.code ({ cls := "LosersBooks", name := "meetsAt", desc := "(II)Z" } : Jvm.MethodName) prog_1_method_83_code (3 : Nat) (Option.some Jvm.ClassFile.FieldType.boolean)) ∈ lw_all := lw_g (lw_at lw_m4 92 rfl) rfl
theorem q932 : (Jvm.Cond.instanceMethod ({ cls := "LosersBooks", name := "wins", desc := "(I)I" } : Jvm.MethodName)) ∈ lw_all := lw_g (lw_at lw_m4 94 rfl) rfl
theorem q933 : (Jvm.Cond.selects "LosersBooks" ({ cls := "LosersBooks", name := "wins", desc := "(I)I" } : Jvm.MethodName) ({ cls := "LosersBooks", name := "wins", desc := "(I)I" } : Jvm.MethodName)) ∈ lw_all := lw_g (lw_at lw_m4 95 rfl) rfl
theorem q934 : (Jvm.Cond.code ({ cls := "LosersBooks", name := "wins", desc := "(I)I" } : Jvm.MethodName) prog_1_method_85_code (2 : Nat) (Option.some Jvm.ClassFile.FieldType.int)) ∈ lw_all := lw_g (lw_at lw_m4 96 rfl) rfl
theorem q936 : (Jvm.Cond.instanceMethod ({ cls := "LosersBooks", name := "shelf", desc := "(II)I" } : Jvm.MethodName)) ∈ lw_all := lw_g (lw_at lw_m4 98 rfl) rfl
theorem q937 : (Jvm.Cond.selects "LosersBooks" ({ cls := "LosersBooks", name := "shelf", desc := "(II)I" } : Jvm.MethodName) ({ cls := "LosersBooks", name := "shelf", desc := "(II)I" } : Jvm.MethodName)) ∈ lw_all := lw_g (lw_at lw_m4 99 rfl) rfl
theorem q938 : (Jvm.Cond.code ({ cls := "LosersBooks", name := "shelf", desc := "(II)I" } : Jvm.MethodName) prog_1_method_86_code (5 : Nat) (Option.some Jvm.ClassFile.FieldType.int)) ∈ lw_all := lw_g (lw_at lw_m4 100 rfl) rfl
theorem q940 : (Jvm.Cond.instanceMethod ({ cls := "LosersBooks", name := "scheme", desc := "(III)I" } : Jvm.MethodName)) ∈ lw_all := lw_g (lw_at lw_m4 102 rfl) rfl
theorem q941 : (Jvm.Cond.selects "LosersBooks" ({ cls := "LosersBooks", name := "scheme", desc := "(III)I" } : Jvm.MethodName) ({ cls := "LosersBooks", name := "scheme", desc := "(III)I" } : Jvm.MethodName)) ∈ lw_all := lw_g (lw_at lw_m4 103 rfl) rfl
theorem q942 : (Jvm.Cond.code ({ cls := "LosersBooks", name := "scheme", desc := "(III)I" } : Jvm.MethodName) prog_1_method_88_code (8 : Nat) (Option.some Jvm.ClassFile.FieldType.int)) ∈ lw_all := lw_g (lw_at lw_m4 104 rfl) rfl
theorem q943 : (Jvm.Cond.methodLink "LosersBooks" (431 : Nat) ({ cls := "LosersBooks", name := "pagesBy", desc := "(III)I" } : Jvm.MethodName)) ∈ lw_all := lw_g (lw_at lw_m4 105 rfl) rfl
theorem q944 : (Jvm.Cond.privateMethod ({ cls := "LosersBooks", name := "pagesBy", desc := "(III)I" } : Jvm.MethodName)) ∈ lw_tbl := lw_at lw_m4 106 rfl
theorem q945 : (Jvm.Cond.instanceMethod ({ cls := "LosersBooks", name := "pagesBy", desc := "(III)I" } : Jvm.MethodName)) ∈ lw_all := lw_g (lw_at lw_m4 107 rfl) rfl
theorem q946 : (Jvm.Cond.code ({ cls := "LosersBooks", name := "pagesBy", desc := "(III)I" } : Jvm.MethodName) prog_1_method_87_code (5 : Nat) (Option.some Jvm.ClassFile.FieldType.int)) ∈ lw_all := lw_g (lw_at lw_m4 108 rfl) rfl
theorem q947 : (Jvm.Cond.methodLink "LosersBooks" (435 : Nat) ({ cls := "java/lang/Integer", name := "bitCount", desc := "(I)I" } : Jvm.MethodName)) ∈ lw_all := lw_g (lw_at lw_m4 109 rfl) rfl
theorem q954 : (Jvm.Cond.instanceMethod ({ cls := "LosersBooks", name := "peace", desc := "()I" } : Jvm.MethodName)) ∈ lw_all := lw_g (lw_at lw_m4 116 rfl) rfl
theorem q955 : (Jvm.Cond.selects "LosersBooks" ({ cls := "LosersBooks", name := "peace", desc := "()I" } : Jvm.MethodName) ({ cls := "LosersBooks", name := "peace", desc := "()I" } : Jvm.MethodName)) ∈ lw_all := lw_g (lw_at lw_m4 117 rfl) rfl
theorem q956 : (Jvm.Cond.code ({ cls := "LosersBooks", name := "peace", desc := "()I" } : Jvm.MethodName) prog_1_method_89_code (3 : Nat) (Option.some Jvm.ClassFile.FieldType.int)) ∈ lw_all := lw_g (lw_at lw_m4 118 rfl) rfl
theorem q958 : (Jvm.Cond.instanceMethod ({ cls := "LosersBooks", name := "last", desc := "(I)I" } : Jvm.MethodName)) ∈ lw_all := lw_g (lw_at lw_m4 120 rfl) rfl
theorem q959 : (Jvm.Cond.selects "LosersBooks" ({ cls := "LosersBooks", name := "last", desc := "(I)I" } : Jvm.MethodName) ({ cls := "LosersBooks", name := "last", desc := "(I)I" } : Jvm.MethodName)) ∈ lw_all := lw_g (lw_at lw_m4 121 rfl) rfl
theorem q960 : (Jvm.Cond.code ({ cls := "LosersBooks", name := "last", desc := "(I)I" } : Jvm.MethodName) prog_1_method_90_code (2 : Nat) (Option.some Jvm.ClassFile.FieldType.int)) ∈ lw_all := lw_g (lw_at lw_m4 122 rfl) rfl
theorem q962 : (Jvm.Cond.instanceMethod ({ cls := "LosersBooks", name := "told", desc := "(III)I" } : Jvm.MethodName)) ∈ lw_all := lw_g (lw_at lw_m4 124 rfl) rfl
theorem q963 : (Jvm.Cond.selects "LosersBooks" ({ cls := "LosersBooks", name := "told", desc := "(III)I" } : Jvm.MethodName) ({ cls := "LosersBooks", name := "told", desc := "(III)I" } : Jvm.MethodName)) ∈ lw_all := lw_g (lw_at lw_m4 125 rfl) rfl
theorem q964 : (Jvm.Cond.code ({ cls := "LosersBooks", name := "told", desc := "(III)I" } : Jvm.MethodName) prog_1_method_91_code (4 : Nat) (Option.some Jvm.ClassFile.FieldType.int)) ∈ lw_all := lw_g (lw_at lw_m4 126 rfl) rfl
theorem q966 : (Jvm.Cond.instanceMethod ({ cls := "LosersBooks", name := "biases", desc := "(II)I" } : Jvm.MethodName)) ∈ lw_all := lw_g (lw_at lw_m4 128 rfl) rfl
theorem q967 : (Jvm.Cond.selects "LosersBooks" ({ cls := "LosersBooks", name := "biases", desc := "(II)I" } : Jvm.MethodName) ({ cls := "LosersBooks", name := "biases", desc := "(II)I" } : Jvm.MethodName)) ∈ lw_all := lw_g (lw_at lw_m4 129 rfl) rfl
theorem q968 : (Jvm.Cond.code ({ cls := "LosersBooks", name := "biases", desc := "(II)I" } : Jvm.MethodName) prog_1_method_97_code (5 : Nat) (Option.some Jvm.ClassFile.FieldType.int)) ∈ lw_all := lw_g (lw_at lw_m4 130 rfl) rfl
theorem q969 : (Jvm.Cond.methodLink "LosersBooks" (443 : Nat) ({ cls := "LosersBooks", name := "codes", desc := "()I" } : Jvm.MethodName)) ∈ lw_all := lw_g (lw_at lw_m4 131 rfl) rfl
theorem q970 : (Jvm.Cond.privateMethod ({ cls := "LosersBooks", name := "codes", desc := "()I" } : Jvm.MethodName)) ∈ lw_tbl := lw_at lw_m4 132 rfl
theorem q971 : (Jvm.Cond.instanceMethod ({ cls := "LosersBooks", name := "codes", desc := "()I" } : Jvm.MethodName)) ∈ lw_all := lw_g (lw_at lw_m4 133 rfl) rfl
theorem q972 : (Jvm.Cond.code ({ cls := "LosersBooks", name := "codes", desc := "()I" } : Jvm.MethodName) prog_1_method_95_code (3 : Nat) (Option.some Jvm.ClassFile.FieldType.int)) ∈ lw_all := lw_g (lw_at lw_m4 134 rfl) rfl
theorem q973 : (Jvm.Cond.methodLink "LosersBooks" (446 : Nat) ({ cls := "LosersBooks", name := "layBiases", desc := "(I)V" } : Jvm.MethodName)) ∈ lw_all := lw_g (lw_at lw_m4 135 rfl) rfl
theorem q974 : (Jvm.Cond.privateMethod ({ cls := "LosersBooks", name := "layBiases", desc := "(I)V" } : Jvm.MethodName)) ∈ lw_tbl := lw_at lw_m4 136 rfl
theorem q975 : (Jvm.Cond.instanceMethod ({ cls := "LosersBooks", name := "layBiases", desc := "(I)V" } : Jvm.MethodName)) ∈ lw_all := lw_g (lw_at lw_m4 137 rfl) rfl
theorem q976 : (Jvm.Cond.code ({ cls := "LosersBooks", name := "layBiases", desc := "(I)V" } : Jvm.MethodName) prog_1_method_92_code (4 : Nat) (Option.none : Option Jvm.ClassFile.FieldType)) ∈ lw_all := lw_g (lw_at lw_m4 138 rfl) rfl
theorem q977 : (Jvm.Cond.methodLink "LosersBooks" (449 : Nat) ({ cls := "LosersBooks", name := "areBiases", desc := "()Z" } : Jvm.MethodName)) ∈ lw_all := lw_g (lw_at lw_m4 139 rfl) rfl
theorem q978 : (Jvm.Cond.privateMethod ({ cls := "LosersBooks", name := "areBiases", desc := "()Z" } : Jvm.MethodName)) ∈ lw_tbl := lw_at lw_m4 140 rfl
theorem q979 : (Jvm.Cond.instanceMethod ({ cls := "LosersBooks", name := "areBiases", desc := "()Z" } : Jvm.MethodName)) ∈ lw_all := lw_g (lw_at lw_m4 141 rfl) rfl
theorem q980 : (Jvm.Cond.code ({ cls := "LosersBooks", name := "areBiases", desc := "()Z" } : Jvm.MethodName) prog_1_method_94_code (3 : Nat) (Option.some Jvm.ClassFile.FieldType.boolean)) ∈ lw_all := lw_g (lw_at lw_m4 142 rfl) rfl
theorem q981 : (Jvm.Cond.methodLink "LosersBooks" (440 : Nat) ({ cls := "LosersBooks", name := "isTruth", desc := "(II)Z" } : Jvm.MethodName)) ∈ lw_all := lw_g (lw_at lw_m4 143 rfl) rfl
theorem q982 : (Jvm.Cond.privateMethod ({ cls := "LosersBooks", name := "isTruth", desc := "(II)Z" } : Jvm.MethodName)) ∈ lw_tbl := lw_at lw_m4 144 rfl
theorem q983 : (Jvm.Cond.instanceMethod ({ cls := "LosersBooks", name := "isTruth", desc := "(II)Z" } : Jvm.MethodName)) ∈ lw_all := lw_g (lw_at lw_m4 145 rfl) rfl
theorem q984 : (Jvm.Cond.code ({ cls := "LosersBooks", name := "isTruth", desc := "(II)Z" } : Jvm.MethodName) prog_1_method_93_code (4 : Nat) (Option.some Jvm.ClassFile.FieldType.boolean)) ∈ lw_all := lw_g (lw_at lw_m4 146 rfl) rfl
theorem q985 : (Jvm.Cond.methodLink "LosersBooks" (452 : Nat) ({ cls := "LosersBooks", name := "ithOf", desc := "(II)I" } : Jvm.MethodName)) ∈ lw_all := lw_g (lw_at lw_m4 147 rfl) rfl
theorem q986 : (Jvm.Cond.static ({ cls := "LosersBooks", name := "ithOf", desc := "(II)I" } : Jvm.MethodName)) ∈ lw_all := lw_g (lw_at lw_m4 148 rfl) rfl
theorem q987 : (Jvm.Cond.code ({ cls := "LosersBooks", name := "ithOf", desc := "(II)I" } : Jvm.MethodName) prog_1_method_96_code (4 : Nat) (Option.some Jvm.ClassFile.FieldType.int)) ∈ lw_all := lw_g (lw_at lw_m4 149 rfl) rfl
theorem q989 : (Jvm.Cond.instanceMethod ({ cls := "LosersBooks", name := "truths", desc := "(II)I" } : Jvm.MethodName)) ∈ lw_all := lw_g (lw_at lw_m4 151 rfl) rfl
theorem q990 : (Jvm.Cond.selects "LosersBooks" ({ cls := "LosersBooks", name := "truths", desc := "(II)I" } : Jvm.MethodName) ({ cls := "LosersBooks", name := "truths", desc := "(II)I" } : Jvm.MethodName)) ∈ lw_all := lw_g (lw_at lw_m4 152 rfl) rfl
theorem q991 : (Jvm.Cond.code ({ cls := "LosersBooks", name := "truths", desc := "(II)I" } : Jvm.MethodName) prog_1_method_98_code (6 : Nat) (Option.some Jvm.ClassFile.FieldType.int)) ∈ lw_all := lw_g (lw_at lw_m4 153 rfl) rfl
theorem q993 : (Jvm.Cond.instanceMethod ({ cls := "LosersBooks", name := "read", desc := "(I)I" } : Jvm.MethodName)) ∈ lw_all := lw_g (lw_at lw_m4 155 rfl) rfl
theorem q994 : (Jvm.Cond.selects "LosersBooks" ({ cls := "LosersBooks", name := "read", desc := "(I)I" } : Jvm.MethodName) ({ cls := "LosersBooks", name := "read", desc := "(I)I" } : Jvm.MethodName)) ∈ lw_all := lw_g (lw_at lw_m4 156 rfl) rfl
theorem q995 : (Jvm.Cond.code ({ cls := "LosersBooks", name := "read", desc := "(I)I" } : Jvm.MethodName) prog_1_method_100_code (7 : Nat) (Option.some Jvm.ClassFile.FieldType.int)) ∈ lw_all := lw_g (lw_at lw_m4 157 rfl) rfl
theorem q996 : (Jvm.Cond.methodLink "LosersBooks" (455 : Nat) ({ cls := "LosersBooks", name := "layTells", desc := "(I)V" } : Jvm.MethodName)) ∈ lw_all := lw_g (lw_at lw_m4 158 rfl) rfl
theorem q997 : (Jvm.Cond.privateMethod ({ cls := "LosersBooks", name := "layTells", desc := "(I)V" } : Jvm.MethodName)) ∈ lw_tbl := lw_at lw_m4 159 rfl
theorem q998 : (Jvm.Cond.instanceMethod ({ cls := "LosersBooks", name := "layTells", desc := "(I)V" } : Jvm.MethodName)) ∈ lw_all := lw_g (lw_at lw_m4 160 rfl) rfl
theorem q999 : (Jvm.Cond.code ({ cls := "LosersBooks", name := "layTells", desc := "(I)V" } : Jvm.MethodName) prog_1_method_99_code (5 : Nat) (Option.none : Option Jvm.ClassFile.FieldType)) ∈ lw_all := lw_g (lw_at lw_m4 161 rfl) rfl
theorem q1001 : (Jvm.Cond.instanceMethod ({ cls := "LosersBooks", name := "game", desc := "(IIII)I" } : Jvm.MethodName)) ∈ lw_all := lw_g (lw_at lw_m4 163 rfl) rfl
theorem q1002 : (Jvm.Cond.selects "LosersBooks" ({ cls := "LosersBooks", name := "game", desc := "(IIII)I" } : Jvm.MethodName) ({ cls := "LosersBooks", name := "game", desc := "(IIII)I" } : Jvm.MethodName)) ∈ lw_all := lw_g (lw_at lw_m4 164 rfl) rfl
theorem q1003 : (Jvm.Cond.code ({ cls := "LosersBooks", name := "game", desc := "(IIII)I" } : Jvm.MethodName) prog_1_method_103_code (5 : Nat) (Option.some Jvm.ClassFile.FieldType.int)) ∈ lw_all := lw_g (lw_at lw_m4 165 rfl) rfl
theorem q1004 : (Jvm.Cond.methodLink "LosersBooks" (461 : Nat) ({ cls := "LosersBooks", name := "gameOf", desc := "(IIII)I" } : Jvm.MethodName)) ∈ lw_all := lw_g (lw_at lw_m4 166 rfl) rfl
theorem q1005 : (Jvm.Cond.privateMethod ({ cls := "LosersBooks", name := "gameOf", desc := "(IIII)I" } : Jvm.MethodName)) ∈ lw_tbl := lw_at lw_m4 167 rfl
theorem q1006 : (Jvm.Cond.instanceMethod ({ cls := "LosersBooks", name := "gameOf", desc := "(IIII)I" } : Jvm.MethodName)) ∈ lw_all := lw_g (lw_at lw_m4 168 rfl) rfl
theorem q1007 : (Jvm.Cond.code ({ cls := "LosersBooks", name := "gameOf", desc := "(IIII)I" } : Jvm.MethodName) prog_1_method_102_code (8 : Nat) (Option.some Jvm.ClassFile.FieldType.int)) ∈ lw_all := lw_g (lw_at lw_m4 169 rfl) rfl
theorem q1008 : (Jvm.Cond.methodLink "LosersBooks" (458 : Nat) ({ cls := "LosersBooks", name := "beatenIf", desc := "(III)I" } : Jvm.MethodName)) ∈ lw_all := lw_g (lw_at lw_m4 170 rfl) rfl
theorem q1009 : (Jvm.Cond.privateMethod ({ cls := "LosersBooks", name := "beatenIf", desc := "(III)I" } : Jvm.MethodName)) ∈ lw_tbl := lw_at lw_m4 171 rfl
theorem q1010 : (Jvm.Cond.instanceMethod ({ cls := "LosersBooks", name := "beatenIf", desc := "(III)I" } : Jvm.MethodName)) ∈ lw_all := lw_g (lw_at lw_m4 172 rfl) rfl
theorem q1011 : (Jvm.Cond.code ({ cls := "LosersBooks", name := "beatenIf", desc := "(III)I" } : Jvm.MethodName) prog_1_method_101_code (6 : Nat) (Option.some Jvm.ClassFile.FieldType.int)) ∈ lw_all := lw_g (lw_at lw_m4 173 rfl) rfl
theorem q1013 : (Jvm.Cond.instanceMethod ({ cls := "LosersBooks", name := "rests", desc := "(II)I" } : Jvm.MethodName)) ∈ lw_all := lw_g (lw_at lw_m4 175 rfl) rfl
theorem q1014 : (Jvm.Cond.selects "LosersBooks" ({ cls := "LosersBooks", name := "rests", desc := "(II)I" } : Jvm.MethodName) ({ cls := "LosersBooks", name := "rests", desc := "(II)I" } : Jvm.MethodName)) ∈ lw_all := lw_g (lw_at lw_m4 176 rfl) rfl
theorem q1015 : (Jvm.Cond.code ({ cls := "LosersBooks", name := "rests", desc := "(II)I" } : Jvm.MethodName) prog_1_method_104_code (6 : Nat) (Option.some Jvm.ClassFile.FieldType.int)) ∈ lw_all := lw_g (lw_at lw_m4 177 rfl) rfl
theorem q1017 : (Jvm.Cond.instanceMethod ({ cls := "LosersBooks", name := "odds", desc := "(III)I" } : Jvm.MethodName)) ∈ lw_all := lw_g (lw_at lw_m4 179 rfl) rfl
theorem q1018 : (Jvm.Cond.selects "LosersBooks" ({ cls := "LosersBooks", name := "odds", desc := "(III)I" } : Jvm.MethodName) ({ cls := "LosersBooks", name := "odds", desc := "(III)I" } : Jvm.MethodName)) ∈ lw_all := lw_g (lw_at lw_m4 180 rfl) rfl
theorem q1019 : (Jvm.Cond.code ({ cls := "LosersBooks", name := "odds", desc := "(III)I" } : Jvm.MethodName) prog_1_method_106_code (8 : Nat) (Option.some Jvm.ClassFile.FieldType.int)) ∈ lw_all := lw_g (lw_at lw_m4 181 rfl) rfl
theorem q1020 : (Jvm.Cond.constant "LosersBooks" (467 : Nat) (1000000000 : Int32)) ∈ lw_all := lw_g (lw_at lw_m4 182 rfl) rfl
theorem q1021 : (Jvm.Cond.methodLink "LosersBooks" (468 : Nat) ({ cls := "LosersBooks", name := "share", desc := "(II)I" } : Jvm.MethodName)) ∈ lw_all := lw_g (lw_at lw_m4 183 rfl) rfl
theorem q1022 : (Jvm.Cond.static ({ cls := "LosersBooks", name := "share", desc := "(II)I" } : Jvm.MethodName)) ∈ lw_all := lw_g (lw_at lw_m4 184 rfl) rfl
theorem q1023 : (Jvm.Cond.code ({ cls := "LosersBooks", name := "share", desc := "(II)I" } : Jvm.MethodName) prog_1_method_105_code (2 : Nat) (Option.some Jvm.ClassFile.FieldType.int)) ∈ lw_all := lw_g (lw_at lw_m4 185 rfl) rfl
theorem q1024 : (Jvm.Cond.constantLong "LosersBooks" (465 : Nat) (100 : Int64)) ∈ lw_all := lw_g (lw_at lw_m4 186 rfl) rfl
theorem q1026 : (Jvm.Cond.instanceMethod ({ cls := "LosersBooks", name := "shares", desc := "(II)I" } : Jvm.MethodName)) ∈ lw_all := lw_g (lw_at lw_m4 188 rfl) rfl
theorem q1027 : (Jvm.Cond.selects "LosersBooks" ({ cls := "LosersBooks", name := "shares", desc := "(II)I" } : Jvm.MethodName) ({ cls := "LosersBooks", name := "shares", desc := "(II)I" } : Jvm.MethodName)) ∈ lw_all := lw_g (lw_at lw_m4 189 rfl) rfl
theorem q1028 : (Jvm.Cond.code ({ cls := "LosersBooks", name := "shares", desc := "(II)I" } : Jvm.MethodName) prog_1_method_107_code (3 : Nat) (Option.some Jvm.ClassFile.FieldType.int)) ∈ lw_all := lw_g (lw_at lw_m4 190 rfl) rfl
theorem q1030 : (Jvm.Cond.instanceMethod ({ cls := "LosersBooks", name := "all", desc := "(I)I" } : Jvm.MethodName)) ∈ lw_all := lw_g (lw_at lw_m4 192 rfl) rfl
theorem q1031 : (Jvm.Cond.selects "LosersBooks" ({ cls := "LosersBooks", name := "all", desc := "(I)I" } : Jvm.MethodName) ({ cls := "LosersBooks", name := "all", desc := "(I)I" } : Jvm.MethodName)) ∈ lw_all := lw_g (lw_at lw_m4 193 rfl) rfl
theorem q1032 : (Jvm.Cond.code ({ cls := "LosersBooks", name := "all", desc := "(I)I" } : Jvm.MethodName) prog_1_method_116_code (2 : Nat) (Option.some Jvm.ClassFile.FieldType.int)) ∈ lw_all := lw_g (lw_at lw_m4 194 rfl) rfl
theorem q1033 : (Jvm.Cond.methodLink "LosersBooks" (474 : Nat) ({ cls := "LosersBooks", name := "believers", desc := "(Z)I" } : Jvm.MethodName)) ∈ lw_all := lw_g (lw_at lw_m4 195 rfl) rfl
theorem q1034 : (Jvm.Cond.privateMethod ({ cls := "LosersBooks", name := "believers", desc := "(Z)I" } : Jvm.MethodName)) ∈ lw_tbl := lw_at lw_m4 196 rfl
theorem q1035 : (Jvm.Cond.instanceMethod ({ cls := "LosersBooks", name := "believers", desc := "(Z)I" } : Jvm.MethodName)) ∈ lw_all := lw_g (lw_at lw_m4 197 rfl) rfl
theorem q1036 : (Jvm.Cond.code ({ cls := "LosersBooks", name := "believers", desc := "(Z)I" } : Jvm.MethodName) prog_1_method_110_code (4 : Nat) (Option.some Jvm.ClassFile.FieldType.int)) ∈ lw_all := lw_g (lw_at lw_m4 198 rfl) rfl
theorem q1037 : (Jvm.Cond.methodLink "LosersBooks" (478 : Nat) ({ cls := "LosersBooks", name := "winsOfAll", desc := "()I" } : Jvm.MethodName)) ∈ lw_all := lw_g (lw_at lw_m4 199 rfl) rfl
theorem q1038 : (Jvm.Cond.privateMethod ({ cls := "LosersBooks", name := "winsOfAll", desc := "()I" } : Jvm.MethodName)) ∈ lw_tbl := lw_at lw_m4 200 rfl
theorem q1039 : (Jvm.Cond.instanceMethod ({ cls := "LosersBooks", name := "winsOfAll", desc := "()I" } : Jvm.MethodName)) ∈ lw_all := lw_g (lw_at lw_m4 201 rfl) rfl
theorem q1040 : (Jvm.Cond.code ({ cls := "LosersBooks", name := "winsOfAll", desc := "()I" } : Jvm.MethodName) prog_1_method_111_code (3 : Nat) (Option.some Jvm.ClassFile.FieldType.int)) ∈ lw_all := lw_g (lw_at lw_m4 202 rfl) rfl
theorem q1041 : (Jvm.Cond.methodLink "LosersBooks" (481 : Nat) ({ cls := "LosersBooks", name := "bloodiest", desc := "()I" } : Jvm.MethodName)) ∈ lw_all := lw_g (lw_at lw_m4 203 rfl) rfl
theorem q1042 : (Jvm.Cond.privateMethod ({ cls := "LosersBooks", name := "bloodiest", desc := "()I" } : Jvm.MethodName)) ∈ lw_tbl := lw_at lw_m4 204 rfl
theorem q1043 : (Jvm.Cond.instanceMethod ({ cls := "LosersBooks", name := "bloodiest", desc := "()I" } : Jvm.MethodName)) ∈ lw_all := lw_g (lw_at lw_m4 205 rfl) rfl
theorem q1044 : (Jvm.Cond.code ({ cls := "LosersBooks", name := "bloodiest", desc := "()I" } : Jvm.MethodName) prog_1_method_112_code (3 : Nat) (Option.some Jvm.ClassFile.FieldType.int)) ∈ lw_all := lw_g (lw_at lw_m4 206 rfl) rfl
theorem q1045 : (Jvm.Cond.methodLink "LosersBooks" (484 : Nat) ({ cls := "LosersBooks", name := "lieOfAll", desc := "()I" } : Jvm.MethodName)) ∈ lw_all := lw_g (lw_at lw_m4 207 rfl) rfl
theorem q1046 : (Jvm.Cond.privateMethod ({ cls := "LosersBooks", name := "lieOfAll", desc := "()I" } : Jvm.MethodName)) ∈ lw_tbl := lw_at lw_m4 208 rfl
theorem q1047 : (Jvm.Cond.instanceMethod ({ cls := "LosersBooks", name := "lieOfAll", desc := "()I" } : Jvm.MethodName)) ∈ lw_all := lw_g (lw_at lw_m4 209 rfl) rfl
theorem q1048 : (Jvm.Cond.code ({ cls := "LosersBooks", name := "lieOfAll", desc := "()I" } : Jvm.MethodName) prog_1_method_113_code (3 : Nat) (Option.some Jvm.ClassFile.FieldType.int)) ∈ lw_all := lw_g (lw_at lw_m4 210 rfl) rfl
theorem q1049 : (Jvm.Cond.methodLink "LosersBooks" (487 : Nat) ({ cls := "LosersBooks", name := "sameOnes", desc := "()I" } : Jvm.MethodName)) ∈ lw_all := lw_g (lw_at lw_m4 211 rfl) rfl
theorem q1050 : (Jvm.Cond.privateMethod ({ cls := "LosersBooks", name := "sameOnes", desc := "()I" } : Jvm.MethodName)) ∈ lw_tbl := lw_at lw_m4 212 rfl
theorem q1051 : (Jvm.Cond.instanceMethod ({ cls := "LosersBooks", name := "sameOnes", desc := "()I" } : Jvm.MethodName)) ∈ lw_all := lw_g (lw_at lw_m4 213 rfl) rfl
theorem q1052 : (Jvm.Cond.code ({ cls := "LosersBooks", name := "sameOnes", desc := "()I" } : Jvm.MethodName) prog_1_method_114_code (4 : Nat) (Option.some Jvm.ClassFile.FieldType.int)) ∈ lw_all := lw_g (lw_at lw_m4 214 rfl) rfl
theorem q1053 : (Jvm.Cond.methodLink "LosersBooks" (490 : Nat) ({ cls := "LosersBooks", name := "silentOnes", desc := "()I" } : Jvm.MethodName)) ∈ lw_all := lw_g (lw_at lw_m4 215 rfl) rfl
theorem q1054 : (Jvm.Cond.privateMethod ({ cls := "LosersBooks", name := "silentOnes", desc := "()I" } : Jvm.MethodName)) ∈ lw_tbl := lw_at lw_m4 216 rfl
theorem q1055 : (Jvm.Cond.instanceMethod ({ cls := "LosersBooks", name := "silentOnes", desc := "()I" } : Jvm.MethodName)) ∈ lw_all := lw_g (lw_at lw_m4 217 rfl) rfl
theorem q1056 : (Jvm.Cond.code ({ cls := "LosersBooks", name := "silentOnes", desc := "()I" } : Jvm.MethodName) prog_1_method_115_code (3 : Nat) (Option.some Jvm.ClassFile.FieldType.int)) ∈ lw_all := lw_g (lw_at lw_m4 218 rfl) rfl
theorem q1057 : (Jvm.Cond.methodLink "LosersBooks" (493 : Nat) ({ cls := "LosersBooks", name := "topBy", desc := "(I)I" } : Jvm.MethodName)) ∈ lw_all := lw_g (lw_at lw_m4 219 rfl) rfl
theorem q1058 : (Jvm.Cond.privateMethod ({ cls := "LosersBooks", name := "topBy", desc := "(I)I" } : Jvm.MethodName)) ∈ lw_tbl := lw_at lw_m4 220 rfl
theorem q1059 : (Jvm.Cond.instanceMethod ({ cls := "LosersBooks", name := "topBy", desc := "(I)I" } : Jvm.MethodName)) ∈ lw_all := lw_g (lw_at lw_m4 221 rfl) rfl
theorem q1060 : (Jvm.Cond.code ({ cls := "LosersBooks", name := "topBy", desc := "(I)I" } : Jvm.MethodName) prog_1_method_109_code (4 : Nat) (Option.some Jvm.ClassFile.FieldType.int)) ∈ lw_all := lw_g (lw_at lw_m4 222 rfl) rfl
theorem q1061 : (Jvm.Cond.methodLink "LosersBooks" (471 : Nat) ({ cls := "LosersBooks", name := "valueOf", desc := "(II)I" } : Jvm.MethodName)) ∈ lw_all := lw_g (lw_at lw_m4 223 rfl) rfl
theorem q1062 : (Jvm.Cond.privateMethod ({ cls := "LosersBooks", name := "valueOf", desc := "(II)I" } : Jvm.MethodName)) ∈ lw_tbl := lw_at lw_m4 224 rfl
theorem q1063 : (Jvm.Cond.instanceMethod ({ cls := "LosersBooks", name := "valueOf", desc := "(II)I" } : Jvm.MethodName)) ∈ lw_all := lw_g (lw_at lw_m4 225 rfl) rfl
theorem q1064 : (Jvm.Cond.code ({ cls := "LosersBooks", name := "valueOf", desc := "(II)I" } : Jvm.MethodName) prog_1_method_108_code (3 : Nat) (Option.some Jvm.ClassFile.FieldType.int)) ∈ lw_all := lw_g (lw_at lw_m4 226 rfl) rfl
theorem q1066 : (Jvm.Cond.instanceMethod ({ cls := "LosersBooks", name := "page", desc := "(II)I" } : Jvm.MethodName)) ∈ lw_all := lw_g (lw_at lw_m4 228 rfl) rfl
theorem q1067 : (Jvm.Cond.selects "LosersBooks" ({ cls := "LosersBooks", name := "page", desc := "(II)I" } : Jvm.MethodName) ({ cls := "LosersBooks", name := "page", desc := "(II)I" } : Jvm.MethodName)) ∈ lw_all := lw_g (lw_at lw_m4 229 rfl) rfl
theorem q1068 : (Jvm.Cond.code ({ cls := "LosersBooks", name := "page", desc := "(II)I" } : Jvm.MethodName) prog_1_method_117_code (3 : Nat) (Option.some Jvm.ClassFile.FieldType.int)) ∈ lw_all := lw_g (lw_at lw_m4 230 rfl) rfl
theorem q1070 : (Jvm.Cond.instanceMethod ({ cls := "LosersBooks", name := "wars", desc := "(II)I" } : Jvm.MethodName)) ∈ lw_all := lw_g (lw_at lw_m4 232 rfl) rfl
theorem q1071 : (Jvm.Cond.selects "LosersBooks" ({ cls := "LosersBooks", name := "wars", desc := "(II)I" } : Jvm.MethodName) ({ cls := "LosersBooks", name := "wars", desc := "(II)I" } : Jvm.MethodName)) ∈ lw_all := lw_g (lw_at lw_m4 233 rfl) rfl
theorem q1072 : (Jvm.Cond.code ({ cls := "LosersBooks", name := "wars", desc := "(II)I" } : Jvm.MethodName) prog_1_method_118_code (5 : Nat) (Option.some Jvm.ClassFile.FieldType.int)) ∈ lw_all := lw_g (lw_at lw_m4 234 rfl) rfl
theorem q1074 : (Jvm.Cond.instanceMethod ({ cls := "LosersBooks", name := "image", desc := "()I" } : Jvm.MethodName)) ∈ lw_all := lw_g (lw_at lw_m4 236 rfl) rfl
theorem q1075 : (Jvm.Cond.selects "LosersBooks" ({ cls := "LosersBooks", name := "image", desc := "()I" } : Jvm.MethodName) ({ cls := "LosersBooks", name := "image", desc := "()I" } : Jvm.MethodName)) ∈ lw_all := lw_g (lw_at lw_m4 237 rfl) rfl
theorem q1076 : (Jvm.Cond.code ({ cls := "LosersBooks", name := "image", desc := "()I" } : Jvm.MethodName) prog_1_method_119_code (2 : Nat) (Option.some Jvm.ClassFile.FieldType.int)) ∈ lw_all := lw_g (lw_at lw_m4 238 rfl) rfl
theorem q1078 : (Jvm.Cond.instanceMethod ({ cls := "LosersBooks", name := "back", desc := "()I" } : Jvm.MethodName)) ∈ lw_all := lw_g (lw_at lw_m5 0 rfl) rfl
theorem q1079 : (Jvm.Cond.selects "LosersBooks" ({ cls := "LosersBooks", name := "back", desc := "()I" } : Jvm.MethodName) ({ cls := "LosersBooks", name := "back", desc := "()I" } : Jvm.MethodName)) ∈ lw_all := lw_g (lw_at lw_m5 1 rfl) rfl
theorem q1080 : (Jvm.Cond.code ({ cls := "LosersBooks", name := "back", desc := "()I" } : Jvm.MethodName) prog_1_method_120_code (2 : Nat) (Option.some Jvm.ClassFile.FieldType.int)) ∈ lw_all := lw_g (lw_at lw_m5 2 rfl) rfl
theorem q1082 : (Jvm.Cond.instanceMethod ({ cls := "LosersBooks", name := "count", desc := "(I)I" } : Jvm.MethodName)) ∈ lw_all := lw_g (lw_at lw_m5 4 rfl) rfl
theorem q1083 : (Jvm.Cond.selects "LosersBooks" ({ cls := "LosersBooks", name := "count", desc := "(I)I" } : Jvm.MethodName) ({ cls := "LosersBooks", name := "count", desc := "(I)I" } : Jvm.MethodName)) ∈ lw_all := lw_g (lw_at lw_m5 5 rfl) rfl
theorem q1084 : (Jvm.Cond.code ({ cls := "LosersBooks", name := "count", desc := "(I)I" } : Jvm.MethodName) prog_1_method_121_code (2 : Nat) (Option.some Jvm.ClassFile.FieldType.int)) ∈ lw_all := lw_g (lw_at lw_m5 6 rfl) rfl
theorem q1090 : (Jvm.Cond.instanceMethod ({ cls := "LosersBooks", name := "kingdom", desc := "(II)I" } : Jvm.MethodName)) ∈ lw_all := lw_g (lw_at lw_m5 12 rfl) rfl
theorem q1091 : (Jvm.Cond.selects "LosersBooks" ({ cls := "LosersBooks", name := "kingdom", desc := "(II)I" } : Jvm.MethodName) ({ cls := "LosersBooks", name := "kingdom", desc := "(II)I" } : Jvm.MethodName)) ∈ lw_all := lw_g (lw_at lw_m5 13 rfl) rfl
theorem q1092 : (Jvm.Cond.code ({ cls := "LosersBooks", name := "kingdom", desc := "(II)I" } : Jvm.MethodName) prog_1_method_47_code (3 : Nat) (Option.some Jvm.ClassFile.FieldType.int)) ∈ lw_all := lw_g (lw_at lw_m5 14 rfl) rfl
theorem q1093 : (Jvm.Cond.classLink "LosersBooks" (327 : Nat) "java/util/NoSuchElementException") ∈ lw_all := lw_g (lw_at lw_m5 15 rfl) rfl
theorem q1104 : (Jvm.Cond.methodLink "LosersBooks" (329 : Nat) ({ cls := "java/util/NoSuchElementException", name := "<init>", desc := "()V" } : Jvm.MethodName)) ∈ lw_all := lw_g (lw_at lw_m5 26 rfl) rfl
theorem q1710 : (Jvm.Cond.castable "LosersBooks" "java/lang/Object") ∈ lw_tbl := lw_at lw_m7 152 rfl
theorem in_X1 : ∀ w ∈ wsX10, w ∈ lw_all := lw_in wsX10 [245, 247, 249, 251, 253, 255, 257, 259, 261, 263, 265, 267, 269, 271, 273, 275, 277, 279, 281, 283, 285, 287, 289, 291, 293, 295, 297, 299, 301, 303, 305, 307, 309, 311, 313] (by decide +kernel) (by decide +kernel)
