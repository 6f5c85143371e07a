/-! LosersBooksModel -/
set_option maxRecDepth 100000
def RX3 : String := "LosersBooksModel"
def TX3 : u_T := fun k => match k with
  | 0 => ("LosersBooksModel", "thrown", "I", false)
  | 1 => ("LosersBooksModel", "tape", "[B", true)
  | 2 => ("LosersBooksModel", "texts", "[B", true)
  | 3 => ("LosersBooksModel", "textLong", "[I", true)
  | 4 => ("LosersBooksModel", "letters", "[I", true)
  | 5 => ("LosersBooksModel", "text", "[B", false)
  | 6 => ("LosersBooksModel", "length", "I", false)
  | 7 => ("LosersBooksModel", "lawMany", "I", false)
  | 8 => ("LosersBooksModel", "begins", "I", false)
  | 9 => ("LosersBooksModel", "ends", "I", false)
  | 10 => ("LosersBooksModel", "at", "I", false)
  | 11 => ("LosersBooksModel", "fault", "I", false)
  | 12 => ("LosersBooksModel", "deep", "I", false)
  | 13 => ("LosersBooksModel", "label", "I", false)
  | 14 => ("LosersBooksModel", "found", "I", false)
  | 15 => ("LosersBooksModel", "labels", "Ljava/lang/String;", true)
  | 16 => ("LosersBooksModel", "allowed", "Ljava/lang/String;", true)
  | 17 => ("LosersBooksModel", "hasFound", "Z", false)
  | 18 => ("LosersBooksModel", "rule", "[I", true)
  | 19 => ("LosersBooksModel", "ruleRead", "[I", true)
  | 20 => ("LosersBooksModel", "realm", "[I", true)
  | 21 => ("LosersBooksModel", "realmRead", "[I", true)
  | 22 => ("LosersBooksModel", "ground", "[I", true)
  | 23 => ("LosersBooksModel", "groundRead", "[I", true)
  | 24 => ("LosersBooksModel", "plan", "[I", true)
  | 25 => ("LosersBooksModel", "planLong", "[I", true)
  | 26 => ("LosersBooksModel", "kingdoms", "I", false)
  | 27 => ("LosersBooksModel", "fields", "I", false)
  | 28 => ("LosersBooksModel", "kingdomsRead", "I", false)
  | 29 => ("LosersBooksModel", "fieldsRead", "I", false)
  | 30 => ("LosersBooksModel", "plans", "I", false)
  | 31 => ("LosersBooksModel", "hasRules", "Z", false)
  | 32 => ("LosersBooksModel", "now", "[I", true)
  | 33 => ("LosersBooksModel", "trial", "[I", true)
  | 34 => ("LosersBooksModel", "law", "I", false)
  | 35 => ("LosersBooksModel", "intriguing", "I", false)
  | 36 => ("LosersBooksModel", "memoKey", "[J", true)
  | 37 => ("LosersBooksModel", "memoWorth", "[I", true)
  | 38 => ("LosersBooksModel", "undoRow", "[I", true)
  | 39 => ("LosersBooksModel", "acts", "I", false)
  | 40 => ("LosersBooksModel", "x", "J", false)
  | 41 => ("LosersBooksModel", "note", "[I", true)
  | 42 => ("LosersBooksModel", "truth", "[I", true)
  | 43 => ("LosersBooksModel", "bias", "[I", true)
  | 44 => ("LosersBooksModel", "notes", "I", false)
  | 45 => ("LosersBooksModel", "tally", "[I", true)
  | 46 => ("LosersBooksModel", "imageRow", "[I", true)
  | _ => ("LosersBooksModel", "hasImage", "Z", false)
def tyX3 : Nat → FieldType := fun k => match k with
  | 0 => .int
  | 1 => .array .byte
  | 2 => .array .byte
  | 3 => .array .int
  | 4 => .array .int
  | 5 => .array .byte
  | 6 => .int
  | 7 => .int
  | 8 => .int
  | 9 => .int
  | 10 => .int
  | 11 => .int
  | 12 => .int
  | 13 => .int
  | 14 => .int
  | 15 => .object "java/lang/String"
  | 16 => .object "java/lang/String"
  | 17 => .boolean
  | 18 => .array .int
  | 19 => .array .int
  | 20 => .array .int
  | 21 => .array .int
  | 22 => .array .int
  | 23 => .array .int
  | 24 => .array .int
  | 25 => .array .int
  | 26 => .int
  | 27 => .int
  | 28 => .int
  | 29 => .int
  | 30 => .int
  | 31 => .boolean
  | 32 => .array .int
  | 33 => .array .int
  | 34 => .int
  | 35 => .int
  | 36 => .array .long
  | 37 => .array .int
  | 38 => .array .int
  | 39 => .int
  | 40 => .long
  | 41 => .array .int
  | 42 => .array .int
  | 43 => .array .int
  | 44 => .int
  | 45 => .array .int
  | 46 => .array .int
  | _ => .boolean
abbrev wsX30 : List Cond := u_ws RX3 TX3 48
set_option maxRecDepth 100000 in
theorem nmX3 : ∀ a, a < 48 → ∀ b, b < 48 → a ≠ b → (TX3 a).2.1 ≠ (TX3 b).2.1 := by decide +kernel
set_option maxRecDepth 100000 in
theorem tyX3_ok : ∀ k, k < 48 → parseFieldDescriptor (TX3 k).2.2.1 = some (tyX3 k) := by decide +kernel
abbrev cX3_init : ByteArray := prog_14_method_1_code
def yX3_init : MethodName := ⟨RX3, "<init>", "()V"⟩
def dkwX3_init_9 : List UInt8 := [188, 10, 181, 0, 96, 177]
abbrev dktX3_init_9 : List UInt8 := dkwX3_init_9 ++ []
def dkwX3_init_8 : List UInt8 := [188, 10, 181, 0, 87, 42, 7, 188, 10, 181, 0, 90, 42, 16, 120, 188, 10, 181, 0, 93, 42, 17, 1, 35]
abbrev dktX3_init_8 : List UInt8 := dkwX3_init_8 ++ dktX3_init_9
def dkwX3_init_7 : List UInt8 := [181, 0, 78, 42, 17, 45, 120, 188, 10, 181, 0, 81, 42, 16, 30, 188, 10, 181, 0, 84, 42, 16, 8]
abbrev dktX3_init_7 : List UInt8 := dkwX3_init_7 ++ dktX3_init_8
def dkwX3_init_6 : List UInt8 := [181, 0, 67, 42, 5, 181, 0, 71, 42, 17, 31, 255, 188, 11, 181, 0, 74, 42, 17, 31, 255, 188, 10]
abbrev dktX3_init_6 : List UInt8 := dkwX3_init_6 ++ dktX3_init_7
def dkwX3_init_5 : List UInt8 := [181, 0, 58, 42, 17, 1, 35, 188, 10, 181, 0, 61, 42, 17, 1, 35, 188, 10, 181, 0, 64, 42, 2]
abbrev dktX3_init_5 : List UInt8 := dkwX3_init_5 ++ dktX3_init_6
def dkwX3_init_4 : List UInt8 := [181, 0, 49, 42, 16, 32, 188, 10, 181, 0, 52, 42, 17, 0, 160, 188, 10, 181, 0, 55, 42, 8, 188, 10]
abbrev dktX3_init_4 : List UInt8 := dkwX3_init_4 ++ dktX3_init_5
def dkwX3_init_3 : List UInt8 := [181, 0, 40, 42, 16, 12, 188, 10, 181, 0, 43, 42, 16, 12, 188, 10, 181, 0, 46, 42, 16, 32, 188, 10]
abbrev dktX3_init_3 : List UInt8 := dkwX3_init_3 ++ dktX3_init_4
def dkwX3_init_2 : List UInt8 := [18, 26, 181, 0, 28, 42, 18, 32, 181, 0, 34, 42, 5, 188, 10, 181, 0, 37, 42, 5, 188, 10]
abbrev dktX3_init_2 : List UInt8 := dkwX3_init_2 ++ dktX3_init_3
def dkwX3_init_1 : List UInt8 := [188, 10, 181, 0, 16, 42, 17, 0, 128, 188, 10, 181, 0, 20, 42, 42, 180, 0, 9, 181, 0, 23, 42]
abbrev dktX3_init_1 : List UInt8 := dkwX3_init_1 ++ dktX3_init_2
def dkwX3_init_0 : List UInt8 := [42, 183, 0, 3, 42, 17, 0, 240, 188, 8, 181, 0, 9, 42, 17, 3, 192, 188, 8, 181, 0, 13, 42, 7]
abbrev dktX3_init_0 : List UInt8 := dkwX3_init_0 ++ dktX3_init_1
theorem dksX3_init_0 : cX3_init.data.toList.drop 0 = dktX3_init_0 := by decide +kernel
theorem dksX3_init_1 : cX3_init.data.toList.drop 24 = dktX3_init_1 := dk_seg dksX3_init_0 24 rfl rfl
theorem dksX3_init_2 : cX3_init.data.toList.drop 47 = dktX3_init_2 := dk_seg dksX3_init_1 23 rfl rfl
theorem dksX3_init_3 : cX3_init.data.toList.drop 69 = dktX3_init_3 := dk_seg dksX3_init_2 22 rfl rfl
theorem dksX3_init_4 : cX3_init.data.toList.drop 93 = dktX3_init_4 := dk_seg dksX3_init_3 24 rfl rfl
theorem dksX3_init_5 : cX3_init.data.toList.drop 117 = dktX3_init_5 := dk_seg dksX3_init_4 24 rfl rfl
theorem dksX3_init_6 : cX3_init.data.toList.drop 140 = dktX3_init_6 := dk_seg dksX3_init_5 23 rfl rfl
theorem dksX3_init_7 : cX3_init.data.toList.drop 163 = dktX3_init_7 := dk_seg dksX3_init_6 23 rfl rfl
theorem dksX3_init_8 : cX3_init.data.toList.drop 186 = dktX3_init_8 := dk_seg dksX3_init_7 23 rfl rfl
theorem dksX3_init_9 : cX3_init.data.toList.drop 210 = dktX3_init_9 := dk_seg dksX3_init_8 24 rfl rfl
theorem dX3_init_0 : decode cX3_init 0 = .ok (.aload_n 0, 1) := dk_42 (dk_at dksX3_init_0 0 rfl rfl)
theorem dX3_init_1 : decode cX3_init 1 = .ok (.invokespecial 3, 3) := dk_183 0 3 (dk_at dksX3_init_0 1 rfl rfl)
theorem dX3_init_4 : decode cX3_init 4 = .ok (.aload_n 0, 1) := dk_42 (dk_at dksX3_init_0 4 rfl rfl)
theorem dX3_init_5 : decode cX3_init 5 = .ok (.sipush 240, 3) := dk_17 0 240 (dk_at dksX3_init_0 5 rfl rfl)
theorem dX3_init_8 : decode cX3_init 8 = .ok (.newarray .byte, 2) := dk_188_8 (dk_at dksX3_init_0 8 rfl rfl)
theorem dX3_init_10 : decode cX3_init 10 = .ok (.putfield 9, 3) := dk_181 0 9 (dk_at dksX3_init_0 10 rfl rfl)
theorem dX3_init_13 : decode cX3_init 13 = .ok (.aload_n 0, 1) := dk_42 (dk_at dksX3_init_0 13 rfl rfl)
theorem dX3_init_14 : decode cX3_init 14 = .ok (.sipush 960, 3) := dk_17 3 192 (dk_at dksX3_init_0 14 rfl rfl)
theorem dX3_init_17 : decode cX3_init 17 = .ok (.newarray .byte, 2) := dk_188_8 (dk_at dksX3_init_0 17 rfl rfl)
theorem dX3_init_19 : decode cX3_init 19 = .ok (.putfield 13, 3) := dk_181 0 13 (dk_at dksX3_init_0 19 rfl rfl)
theorem dX3_init_22 : decode cX3_init 22 = .ok (.aload_n 0, 1) := dk_42 (dk_at dksX3_init_0 22 rfl rfl)
theorem dX3_init_23 : decode cX3_init 23 = .ok (.iconst 4, 1) := dk_7 (dk_at dksX3_init_0 23 rfl rfl)
theorem dX3_init_24 : decode cX3_init 24 = .ok (.newarray .int, 2) := dk_188_10 (dk_at dksX3_init_1 0 rfl rfl)
theorem dX3_init_26 : decode cX3_init 26 = .ok (.putfield 16, 3) := dk_181 0 16 (dk_at dksX3_init_1 2 rfl rfl)
theorem dX3_init_29 : decode cX3_init 29 = .ok (.aload_n 0, 1) := dk_42 (dk_at dksX3_init_1 5 rfl rfl)
theorem dX3_init_30 : decode cX3_init 30 = .ok (.sipush 128, 3) := dk_17 0 128 (dk_at dksX3_init_1 6 rfl rfl)
theorem dX3_init_33 : decode cX3_init 33 = .ok (.newarray .int, 2) := dk_188_10 (dk_at dksX3_init_1 9 rfl rfl)
theorem dX3_init_35 : decode cX3_init 35 = .ok (.putfield 20, 3) := dk_181 0 20 (dk_at dksX3_init_1 11 rfl rfl)
theorem dX3_init_38 : decode cX3_init 38 = .ok (.aload_n 0, 1) := dk_42 (dk_at dksX3_init_1 14 rfl rfl)
theorem dX3_init_39 : decode cX3_init 39 = .ok (.aload_n 0, 1) := dk_42 (dk_at dksX3_init_1 15 rfl rfl)
theorem dX3_init_40 : decode cX3_init 40 = .ok (.getfield 9, 3) := dk_180 0 9 (dk_at dksX3_init_1 16 rfl rfl)
theorem dX3_init_43 : decode cX3_init 43 = .ok (.putfield 23, 3) := dk_181 0 23 (dk_at dksX3_init_1 19 rfl rfl)
theorem dX3_init_46 : decode cX3_init 46 = .ok (.aload_n 0, 1) := dk_42 (dk_at dksX3_init_1 22 rfl rfl)
theorem dX3_init_47 : decode cX3_init 47 = .ok (.ldc 26, 2) := dk_18 26 (dk_at dksX3_init_2 0 rfl rfl)
theorem dX3_init_49 : decode cX3_init 49 = .ok (.putfield 28, 3) := dk_181 0 28 (dk_at dksX3_init_2 2 rfl rfl)
theorem dX3_init_52 : decode cX3_init 52 = .ok (.aload_n 0, 1) := dk_42 (dk_at dksX3_init_2 5 rfl rfl)
theorem dX3_init_53 : decode cX3_init 53 = .ok (.ldc 32, 2) := dk_18 32 (dk_at dksX3_init_2 6 rfl rfl)
theorem dX3_init_55 : decode cX3_init 55 = .ok (.putfield 34, 3) := dk_181 0 34 (dk_at dksX3_init_2 8 rfl rfl)
theorem dX3_init_58 : decode cX3_init 58 = .ok (.aload_n 0, 1) := dk_42 (dk_at dksX3_init_2 11 rfl rfl)
theorem dX3_init_59 : decode cX3_init 59 = .ok (.iconst 2, 1) := dk_5 (dk_at dksX3_init_2 12 rfl rfl)
theorem dX3_init_60 : decode cX3_init 60 = .ok (.newarray .int, 2) := dk_188_10 (dk_at dksX3_init_2 13 rfl rfl)
theorem dX3_init_62 : decode cX3_init 62 = .ok (.putfield 37, 3) := dk_181 0 37 (dk_at dksX3_init_2 15 rfl rfl)
theorem dX3_init_65 : decode cX3_init 65 = .ok (.aload_n 0, 1) := dk_42 (dk_at dksX3_init_2 18 rfl rfl)
theorem dX3_init_66 : decode cX3_init 66 = .ok (.iconst 2, 1) := dk_5 (dk_at dksX3_init_2 19 rfl rfl)
theorem dX3_init_67 : decode cX3_init 67 = .ok (.newarray .int, 2) := dk_188_10 (dk_at dksX3_init_2 20 rfl rfl)
theorem dX3_init_69 : decode cX3_init 69 = .ok (.putfield 40, 3) := dk_181 0 40 (dk_at dksX3_init_3 0 rfl rfl)
theorem dX3_init_72 : decode cX3_init 72 = .ok (.aload_n 0, 1) := dk_42 (dk_at dksX3_init_3 3 rfl rfl)
theorem dX3_init_73 : decode cX3_init 73 = .ok (.bipush 12, 2) := dk_16 12 (dk_at dksX3_init_3 4 rfl rfl)
theorem dX3_init_75 : decode cX3_init 75 = .ok (.newarray .int, 2) := dk_188_10 (dk_at dksX3_init_3 6 rfl rfl)
theorem dX3_init_77 : decode cX3_init 77 = .ok (.putfield 43, 3) := dk_181 0 43 (dk_at dksX3_init_3 8 rfl rfl)
theorem dX3_init_80 : decode cX3_init 80 = .ok (.aload_n 0, 1) := dk_42 (dk_at dksX3_init_3 11 rfl rfl)
theorem dX3_init_81 : decode cX3_init 81 = .ok (.bipush 12, 2) := dk_16 12 (dk_at dksX3_init_3 12 rfl rfl)
theorem dX3_init_83 : decode cX3_init 83 = .ok (.newarray .int, 2) := dk_188_10 (dk_at dksX3_init_3 14 rfl rfl)
theorem dX3_init_85 : decode cX3_init 85 = .ok (.putfield 46, 3) := dk_181 0 46 (dk_at dksX3_init_3 16 rfl rfl)
theorem dX3_init_88 : decode cX3_init 88 = .ok (.aload_n 0, 1) := dk_42 (dk_at dksX3_init_3 19 rfl rfl)
theorem dX3_init_89 : decode cX3_init 89 = .ok (.bipush 32, 2) := dk_16 32 (dk_at dksX3_init_3 20 rfl rfl)
theorem dX3_init_91 : decode cX3_init 91 = .ok (.newarray .int, 2) := dk_188_10 (dk_at dksX3_init_3 22 rfl rfl)
theorem dX3_init_93 : decode cX3_init 93 = .ok (.putfield 49, 3) := dk_181 0 49 (dk_at dksX3_init_4 0 rfl rfl)
theorem dX3_init_96 : decode cX3_init 96 = .ok (.aload_n 0, 1) := dk_42 (dk_at dksX3_init_4 3 rfl rfl)
theorem dX3_init_97 : decode cX3_init 97 = .ok (.bipush 32, 2) := dk_16 32 (dk_at dksX3_init_4 4 rfl rfl)
theorem dX3_init_99 : decode cX3_init 99 = .ok (.newarray .int, 2) := dk_188_10 (dk_at dksX3_init_4 6 rfl rfl)
theorem dX3_init_101 : decode cX3_init 101 = .ok (.putfield 52, 3) := dk_181 0 52 (dk_at dksX3_init_4 8 rfl rfl)
theorem dX3_init_104 : decode cX3_init 104 = .ok (.aload_n 0, 1) := dk_42 (dk_at dksX3_init_4 11 rfl rfl)
theorem dX3_init_105 : decode cX3_init 105 = .ok (.sipush 160, 3) := dk_17 0 160 (dk_at dksX3_init_4 12 rfl rfl)
theorem dX3_init_108 : decode cX3_init 108 = .ok (.newarray .int, 2) := dk_188_10 (dk_at dksX3_init_4 15 rfl rfl)
theorem dX3_init_110 : decode cX3_init 110 = .ok (.putfield 55, 3) := dk_181 0 55 (dk_at dksX3_init_4 17 rfl rfl)
theorem dX3_init_113 : decode cX3_init 113 = .ok (.aload_n 0, 1) := dk_42 (dk_at dksX3_init_4 20 rfl rfl)
theorem dX3_init_114 : decode cX3_init 114 = .ok (.iconst 5, 1) := dk_8 (dk_at dksX3_init_4 21 rfl rfl)
theorem dX3_init_115 : decode cX3_init 115 = .ok (.newarray .int, 2) := dk_188_10 (dk_at dksX3_init_4 22 rfl rfl)
theorem dX3_init_117 : decode cX3_init 117 = .ok (.putfield 58, 3) := dk_181 0 58 (dk_at dksX3_init_5 0 rfl rfl)
theorem dX3_init_120 : decode cX3_init 120 = .ok (.aload_n 0, 1) := dk_42 (dk_at dksX3_init_5 3 rfl rfl)
theorem dX3_init_121 : decode cX3_init 121 = .ok (.sipush 291, 3) := dk_17 1 35 (dk_at dksX3_init_5 4 rfl rfl)
theorem dX3_init_124 : decode cX3_init 124 = .ok (.newarray .int, 2) := dk_188_10 (dk_at dksX3_init_5 7 rfl rfl)
theorem dX3_init_126 : decode cX3_init 126 = .ok (.putfield 61, 3) := dk_181 0 61 (dk_at dksX3_init_5 9 rfl rfl)
theorem dX3_init_129 : decode cX3_init 129 = .ok (.aload_n 0, 1) := dk_42 (dk_at dksX3_init_5 12 rfl rfl)
theorem dX3_init_130 : decode cX3_init 130 = .ok (.sipush 291, 3) := dk_17 1 35 (dk_at dksX3_init_5 13 rfl rfl)
theorem dX3_init_133 : decode cX3_init 133 = .ok (.newarray .int, 2) := dk_188_10 (dk_at dksX3_init_5 16 rfl rfl)
theorem dX3_init_135 : decode cX3_init 135 = .ok (.putfield 64, 3) := dk_181 0 64 (dk_at dksX3_init_5 18 rfl rfl)
theorem dX3_init_138 : decode cX3_init 138 = .ok (.aload_n 0, 1) := dk_42 (dk_at dksX3_init_5 21 rfl rfl)
theorem dX3_init_139 : decode cX3_init 139 = .ok (.iconst (-1), 1) := dk_2 (dk_at dksX3_init_5 22 rfl rfl)
theorem dX3_init_140 : decode cX3_init 140 = .ok (.putfield 67, 3) := dk_181 0 67 (dk_at dksX3_init_6 0 rfl rfl)
theorem dX3_init_143 : decode cX3_init 143 = .ok (.aload_n 0, 1) := dk_42 (dk_at dksX3_init_6 3 rfl rfl)
theorem dX3_init_144 : decode cX3_init 144 = .ok (.iconst 2, 1) := dk_5 (dk_at dksX3_init_6 4 rfl rfl)
theorem dX3_init_145 : decode cX3_init 145 = .ok (.putfield 71, 3) := dk_181 0 71 (dk_at dksX3_init_6 5 rfl rfl)
theorem dX3_init_148 : decode cX3_init 148 = .ok (.aload_n 0, 1) := dk_42 (dk_at dksX3_init_6 8 rfl rfl)
theorem dX3_init_149 : decode cX3_init 149 = .ok (.sipush 8191, 3) := dk_17 31 255 (dk_at dksX3_init_6 9 rfl rfl)
theorem dX3_init_152 : decode cX3_init 152 = .ok (.newarray .long, 2) := dk_188_11 (dk_at dksX3_init_6 12 rfl rfl)
theorem dX3_init_154 : decode cX3_init 154 = .ok (.putfield 74, 3) := dk_181 0 74 (dk_at dksX3_init_6 14 rfl rfl)
theorem dX3_init_157 : decode cX3_init 157 = .ok (.aload_n 0, 1) := dk_42 (dk_at dksX3_init_6 17 rfl rfl)
theorem dX3_init_158 : decode cX3_init 158 = .ok (.sipush 8191, 3) := dk_17 31 255 (dk_at dksX3_init_6 18 rfl rfl)
theorem dX3_init_161 : decode cX3_init 161 = .ok (.newarray .int, 2) := dk_188_10 (dk_at dksX3_init_6 21 rfl rfl)
theorem dX3_init_163 : decode cX3_init 163 = .ok (.putfield 78, 3) := dk_181 0 78 (dk_at dksX3_init_7 0 rfl rfl)
theorem dX3_init_166 : decode cX3_init 166 = .ok (.aload_n 0, 1) := dk_42 (dk_at dksX3_init_7 3 rfl rfl)
theorem dX3_init_167 : decode cX3_init 167 = .ok (.sipush 11640, 3) := dk_17 45 120 (dk_at dksX3_init_7 4 rfl rfl)
theorem dX3_init_170 : decode cX3_init 170 = .ok (.newarray .int, 2) := dk_188_10 (dk_at dksX3_init_7 7 rfl rfl)
theorem dX3_init_172 : decode cX3_init 172 = .ok (.putfield 81, 3) := dk_181 0 81 (dk_at dksX3_init_7 9 rfl rfl)
theorem dX3_init_175 : decode cX3_init 175 = .ok (.aload_n 0, 1) := dk_42 (dk_at dksX3_init_7 12 rfl rfl)
theorem dX3_init_176 : decode cX3_init 176 = .ok (.bipush 30, 2) := dk_16 30 (dk_at dksX3_init_7 13 rfl rfl)
theorem dX3_init_178 : decode cX3_init 178 = .ok (.newarray .int, 2) := dk_188_10 (dk_at dksX3_init_7 15 rfl rfl)
theorem dX3_init_180 : decode cX3_init 180 = .ok (.putfield 84, 3) := dk_181 0 84 (dk_at dksX3_init_7 17 rfl rfl)
theorem dX3_init_183 : decode cX3_init 183 = .ok (.aload_n 0, 1) := dk_42 (dk_at dksX3_init_7 20 rfl rfl)
theorem dX3_init_184 : decode cX3_init 184 = .ok (.bipush 8, 2) := dk_16 8 (dk_at dksX3_init_7 21 rfl rfl)
theorem dX3_init_186 : decode cX3_init 186 = .ok (.newarray .int, 2) := dk_188_10 (dk_at dksX3_init_8 0 rfl rfl)
theorem dX3_init_188 : decode cX3_init 188 = .ok (.putfield 87, 3) := dk_181 0 87 (dk_at dksX3_init_8 2 rfl rfl)
theorem dX3_init_191 : decode cX3_init 191 = .ok (.aload_n 0, 1) := dk_42 (dk_at dksX3_init_8 5 rfl rfl)
theorem dX3_init_192 : decode cX3_init 192 = .ok (.iconst 4, 1) := dk_7 (dk_at dksX3_init_8 6 rfl rfl)
theorem dX3_init_193 : decode cX3_init 193 = .ok (.newarray .int, 2) := dk_188_10 (dk_at dksX3_init_8 7 rfl rfl)
theorem dX3_init_195 : decode cX3_init 195 = .ok (.putfield 90, 3) := dk_181 0 90 (dk_at dksX3_init_8 9 rfl rfl)
theorem dX3_init_198 : decode cX3_init 198 = .ok (.aload_n 0, 1) := dk_42 (dk_at dksX3_init_8 12 rfl rfl)
theorem dX3_init_199 : decode cX3_init 199 = .ok (.bipush 120, 2) := dk_16 120 (dk_at dksX3_init_8 13 rfl rfl)
theorem dX3_init_201 : decode cX3_init 201 = .ok (.newarray .int, 2) := dk_188_10 (dk_at dksX3_init_8 15 rfl rfl)
theorem dX3_init_203 : decode cX3_init 203 = .ok (.putfield 93, 3) := dk_181 0 93 (dk_at dksX3_init_8 17 rfl rfl)
theorem dX3_init_206 : decode cX3_init 206 = .ok (.aload_n 0, 1) := dk_42 (dk_at dksX3_init_8 20 rfl rfl)
theorem dX3_init_207 : decode cX3_init 207 = .ok (.sipush 291, 3) := dk_17 1 35 (dk_at dksX3_init_8 21 rfl rfl)
theorem dX3_init_210 : decode cX3_init 210 = .ok (.newarray .int, 2) := dk_188_10 (dk_at dksX3_init_9 0 rfl rfl)
theorem dX3_init_212 : decode cX3_init 212 = .ok (.putfield 96, 3) := dk_181 0 96 (dk_at dksX3_init_9 2 rfl rfl)
theorem dX3_init_215 : decode cX3_init 215 = .ok (.return_, 1) := dk_177 (dk_at dksX3_init_9 5 rfl rfl)
abbrev cX3_thrown : ByteArray := prog_14_method_2_code
def yX3_thrown : MethodName := ⟨RX3, "thrown", "()I"⟩
theorem dX3_thrown_0 : decode cX3_thrown 0 = .ok (.aload_n 0, 1) := by decide +kernel
theorem dX3_thrown_1 : decode cX3_thrown 1 = .ok (.getfield 99, 3) := by decide +kernel
theorem dX3_thrown_4 : decode cX3_thrown 4 = .ok (.ireturn, 1) := by decide +kernel
abbrev cX3_feed : ByteArray := prog_14_method_8_code
def yX3_feed : MethodName := ⟨RX3, "feed", "(IIIII)I"⟩
def dkwX3_feed_3 : List UInt8 := [182, 0, 118, 42, 180, 0, 112, 172]
abbrev dktX3_feed_3 : List UInt8 := dkwX3_feed_3 ++ []
def dkwX3_feed_2 : List UInt8 := [182, 0, 118, 42, 28, 182, 0, 118, 42, 29, 182, 0, 118, 42, 21, 4, 182, 0, 118, 42, 21, 5]
abbrev dktX3_feed_2 : List UInt8 := dkwX3_feed_2 ++ dktX3_feed_3
def dkwX3_feed_1 : List UInt8 := [21, 4, 184, 0, 114, 96, 21, 5, 184, 0, 114, 96, 17, 0, 240, 164, 0, 5, 2, 172, 42, 27]
abbrev dktX3_feed_1 : List UInt8 := dkwX3_feed_1 ++ dktX3_feed_2
def dkwX3_feed_0 : List UInt8 := [42, 3, 181, 0, 99, 42, 180, 0, 112, 27, 184, 0, 114, 96, 28, 184, 0, 114, 96, 29, 184, 0, 114, 96]
abbrev dktX3_feed_0 : List UInt8 := dkwX3_feed_0 ++ dktX3_feed_1
theorem dksX3_feed_0 : cX3_feed.data.toList.drop 0 = dktX3_feed_0 := by decide +kernel
theorem dksX3_feed_1 : cX3_feed.data.toList.drop 24 = dktX3_feed_1 := dk_seg dksX3_feed_0 24 rfl rfl
theorem dksX3_feed_2 : cX3_feed.data.toList.drop 46 = dktX3_feed_2 := dk_seg dksX3_feed_1 22 rfl rfl
theorem dksX3_feed_3 : cX3_feed.data.toList.drop 68 = dktX3_feed_3 := dk_seg dksX3_feed_2 22 rfl rfl
theorem dX3_feed_0 : decode cX3_feed 0 = .ok (.aload_n 0, 1) := dk_42 (dk_at dksX3_feed_0 0 rfl rfl)
theorem dX3_feed_1 : decode cX3_feed 1 = .ok (.iconst 0, 1) := dk_3 (dk_at dksX3_feed_0 1 rfl rfl)
theorem dX3_feed_2 : decode cX3_feed 2 = .ok (.putfield 99, 3) := dk_181 0 99 (dk_at dksX3_feed_0 2 rfl rfl)
theorem dX3_feed_5 : decode cX3_feed 5 = .ok (.aload_n 0, 1) := dk_42 (dk_at dksX3_feed_0 5 rfl rfl)
theorem dX3_feed_6 : decode cX3_feed 6 = .ok (.getfield 112, 3) := dk_180 0 112 (dk_at dksX3_feed_0 6 rfl rfl)
theorem dX3_feed_9 : decode cX3_feed 9 = .ok (.iload_n 1, 1) := dk_27 (dk_at dksX3_feed_0 9 rfl rfl)
theorem dX3_feed_10 : decode cX3_feed 10 = .ok (.invokestatic 114, 3) := dk_184 0 114 (dk_at dksX3_feed_0 10 rfl rfl)
theorem dX3_feed_13 : decode cX3_feed 13 = .ok (.iadd, 1) := dk_96 (dk_at dksX3_feed_0 13 rfl rfl)
theorem dX3_feed_14 : decode cX3_feed 14 = .ok (.iload_n 2, 1) := dk_28 (dk_at dksX3_feed_0 14 rfl rfl)
theorem dX3_feed_15 : decode cX3_feed 15 = .ok (.invokestatic 114, 3) := dk_184 0 114 (dk_at dksX3_feed_0 15 rfl rfl)
theorem dX3_feed_18 : decode cX3_feed 18 = .ok (.iadd, 1) := dk_96 (dk_at dksX3_feed_0 18 rfl rfl)
theorem dX3_feed_19 : decode cX3_feed 19 = .ok (.iload_n 3, 1) := dk_29 (dk_at dksX3_feed_0 19 rfl rfl)
theorem dX3_feed_20 : decode cX3_feed 20 = .ok (.invokestatic 114, 3) := dk_184 0 114 (dk_at dksX3_feed_0 20 rfl rfl)
theorem dX3_feed_23 : decode cX3_feed 23 = .ok (.iadd, 1) := dk_96 (dk_at dksX3_feed_0 23 rfl rfl)
theorem dX3_feed_24 : decode cX3_feed 24 = .ok (.iload 4, 2) := dk_21 4 (dk_at dksX3_feed_1 0 rfl rfl)
theorem dX3_feed_26 : decode cX3_feed 26 = .ok (.invokestatic 114, 3) := dk_184 0 114 (dk_at dksX3_feed_1 2 rfl rfl)
theorem dX3_feed_29 : decode cX3_feed 29 = .ok (.iadd, 1) := dk_96 (dk_at dksX3_feed_1 5 rfl rfl)
theorem dX3_feed_30 : decode cX3_feed 30 = .ok (.iload 5, 2) := dk_21 5 (dk_at dksX3_feed_1 6 rfl rfl)
theorem dX3_feed_32 : decode cX3_feed 32 = .ok (.invokestatic 114, 3) := dk_184 0 114 (dk_at dksX3_feed_1 8 rfl rfl)
theorem dX3_feed_35 : decode cX3_feed 35 = .ok (.iadd, 1) := dk_96 (dk_at dksX3_feed_1 11 rfl rfl)
theorem dX3_feed_36 : decode cX3_feed 36 = .ok (.sipush 240, 3) := dk_17 0 240 (dk_at dksX3_feed_1 12 rfl rfl)
theorem dX3_feed_39 : decode cX3_feed 39 = .ok (.if_icmp .le 5, 3) := dk_164 0 5 (dk_at dksX3_feed_1 15 rfl rfl)
theorem dX3_feed_42 : decode cX3_feed 42 = .ok (.iconst (-1), 1) := dk_2 (dk_at dksX3_feed_1 18 rfl rfl)
theorem dX3_feed_43 : decode cX3_feed 43 = .ok (.ireturn, 1) := dk_172 (dk_at dksX3_feed_1 19 rfl rfl)
theorem dX3_feed_44 : decode cX3_feed 44 = .ok (.aload_n 0, 1) := dk_42 (dk_at dksX3_feed_1 20 rfl rfl)
theorem dX3_feed_45 : decode cX3_feed 45 = .ok (.iload_n 1, 1) := dk_27 (dk_at dksX3_feed_1 21 rfl rfl)
theorem dX3_feed_46 : decode cX3_feed 46 = .ok (.invokevirtual 118, 3) := dk_182 0 118 (dk_at dksX3_feed_2 0 rfl rfl)
theorem dX3_feed_49 : decode cX3_feed 49 = .ok (.aload_n 0, 1) := dk_42 (dk_at dksX3_feed_2 3 rfl rfl)
theorem dX3_feed_50 : decode cX3_feed 50 = .ok (.iload_n 2, 1) := dk_28 (dk_at dksX3_feed_2 4 rfl rfl)
theorem dX3_feed_51 : decode cX3_feed 51 = .ok (.invokevirtual 118, 3) := dk_182 0 118 (dk_at dksX3_feed_2 5 rfl rfl)
theorem dX3_feed_54 : decode cX3_feed 54 = .ok (.aload_n 0, 1) := dk_42 (dk_at dksX3_feed_2 8 rfl rfl)
theorem dX3_feed_55 : decode cX3_feed 55 = .ok (.iload_n 3, 1) := dk_29 (dk_at dksX3_feed_2 9 rfl rfl)
theorem dX3_feed_56 : decode cX3_feed 56 = .ok (.invokevirtual 118, 3) := dk_182 0 118 (dk_at dksX3_feed_2 10 rfl rfl)
theorem dX3_feed_59 : decode cX3_feed 59 = .ok (.aload_n 0, 1) := dk_42 (dk_at dksX3_feed_2 13 rfl rfl)
theorem dX3_feed_60 : decode cX3_feed 60 = .ok (.iload 4, 2) := dk_21 4 (dk_at dksX3_feed_2 14 rfl rfl)
theorem dX3_feed_62 : decode cX3_feed 62 = .ok (.invokevirtual 118, 3) := dk_182 0 118 (dk_at dksX3_feed_2 16 rfl rfl)
theorem dX3_feed_65 : decode cX3_feed 65 = .ok (.aload_n 0, 1) := dk_42 (dk_at dksX3_feed_2 19 rfl rfl)
theorem dX3_feed_66 : decode cX3_feed 66 = .ok (.iload 5, 2) := dk_21 5 (dk_at dksX3_feed_2 20 rfl rfl)
theorem dX3_feed_68 : decode cX3_feed 68 = .ok (.invokevirtual 118, 3) := dk_182 0 118 (dk_at dksX3_feed_3 0 rfl rfl)
theorem dX3_feed_71 : decode cX3_feed 71 = .ok (.aload_n 0, 1) := dk_42 (dk_at dksX3_feed_3 3 rfl rfl)
theorem dX3_feed_72 : decode cX3_feed 72 = .ok (.getfield 112, 3) := dk_180 0 112 (dk_at dksX3_feed_3 4 rfl rfl)
theorem dX3_feed_75 : decode cX3_feed 75 = .ok (.ireturn, 1) := dk_172 (dk_at dksX3_feed_3 7 rfl rfl)
abbrev cX3_bytesIn : ByteArray := prog_14_method_6_code
def yX3_bytesIn : MethodName := ⟨RX3, "bytesIn", "(I)I"⟩
def dkwX3_bytesIn_1 : List UInt8 := [3, 96, 60, 132, 2, 248, 167, 255, 231, 27, 172]
abbrev dktX3_bytesIn_1 : List UInt8 := dkwX3_bytesIn_1 ++ []
def dkwX3_bytesIn_0 : List UInt8 := [3, 60, 16, 24, 61, 28, 155, 0, 27, 27, 26, 28, 122, 17, 0, 255, 126, 153, 0, 7, 4, 167, 0, 4]
abbrev dktX3_bytesIn_0 : List UInt8 := dkwX3_bytesIn_0 ++ dktX3_bytesIn_1
theorem dksX3_bytesIn_0 : cX3_bytesIn.data.toList.drop 0 = dktX3_bytesIn_0 := by decide +kernel
theorem dksX3_bytesIn_1 : cX3_bytesIn.data.toList.drop 24 = dktX3_bytesIn_1 := dk_seg dksX3_bytesIn_0 24 rfl rfl
theorem dX3_bytesIn_0 : decode cX3_bytesIn 0 = .ok (.iconst 0, 1) := dk_3 (dk_at dksX3_bytesIn_0 0 rfl rfl)
theorem dX3_bytesIn_1 : decode cX3_bytesIn 1 = .ok (.istore_n 1, 1) := dk_60 (dk_at dksX3_bytesIn_0 1 rfl rfl)
theorem dX3_bytesIn_2 : decode cX3_bytesIn 2 = .ok (.bipush 24, 2) := dk_16 24 (dk_at dksX3_bytesIn_0 2 rfl rfl)
theorem dX3_bytesIn_4 : decode cX3_bytesIn 4 = .ok (.istore_n 2, 1) := dk_61 (dk_at dksX3_bytesIn_0 4 rfl rfl)
theorem dX3_bytesIn_5 : decode cX3_bytesIn 5 = .ok (.iload_n 2, 1) := dk_28 (dk_at dksX3_bytesIn_0 5 rfl rfl)
theorem dX3_bytesIn_6 : decode cX3_bytesIn 6 = .ok (.ifCond .lt 27, 3) := dk_155 0 27 (dk_at dksX3_bytesIn_0 6 rfl rfl)
theorem dX3_bytesIn_9 : decode cX3_bytesIn 9 = .ok (.iload_n 1, 1) := dk_27 (dk_at dksX3_bytesIn_0 9 rfl rfl)
theorem dX3_bytesIn_10 : decode cX3_bytesIn 10 = .ok (.iload_n 0, 1) := dk_26 (dk_at dksX3_bytesIn_0 10 rfl rfl)
theorem dX3_bytesIn_11 : decode cX3_bytesIn 11 = .ok (.iload_n 2, 1) := dk_28 (dk_at dksX3_bytesIn_0 11 rfl rfl)
theorem dX3_bytesIn_12 : decode cX3_bytesIn 12 = .ok (.ishr, 1) := dk_122 (dk_at dksX3_bytesIn_0 12 rfl rfl)
theorem dX3_bytesIn_13 : decode cX3_bytesIn 13 = .ok (.sipush 255, 3) := dk_17 0 255 (dk_at dksX3_bytesIn_0 13 rfl rfl)
theorem dX3_bytesIn_16 : decode cX3_bytesIn 16 = .ok (.iand, 1) := dk_126 (dk_at dksX3_bytesIn_0 16 rfl rfl)
theorem dX3_bytesIn_17 : decode cX3_bytesIn 17 = .ok (.ifCond .eq 7, 3) := dk_153 0 7 (dk_at dksX3_bytesIn_0 17 rfl rfl)
theorem dX3_bytesIn_20 : decode cX3_bytesIn 20 = .ok (.iconst 1, 1) := dk_4 (dk_at dksX3_bytesIn_0 20 rfl rfl)
theorem dX3_bytesIn_21 : decode cX3_bytesIn 21 = .ok (.goto 4, 3) := dk_167 0 4 (dk_at dksX3_bytesIn_0 21 rfl rfl)
theorem dX3_bytesIn_24 : decode cX3_bytesIn 24 = .ok (.iconst 0, 1) := dk_3 (dk_at dksX3_bytesIn_1 0 rfl rfl)
theorem dX3_bytesIn_25 : decode cX3_bytesIn 25 = .ok (.iadd, 1) := dk_96 (dk_at dksX3_bytesIn_1 1 rfl rfl)
theorem dX3_bytesIn_26 : decode cX3_bytesIn 26 = .ok (.istore_n 1, 1) := dk_60 (dk_at dksX3_bytesIn_1 2 rfl rfl)
theorem dX3_bytesIn_27 : decode cX3_bytesIn 27 = .ok (.iinc 2 (-8), 3) := dk_132 2 248 (dk_at dksX3_bytesIn_1 3 rfl rfl)
theorem dX3_bytesIn_30 : decode cX3_bytesIn 30 = .ok (.goto (-25), 3) := dk_167 255 231 (dk_at dksX3_bytesIn_1 6 rfl rfl)
theorem dX3_bytesIn_33 : decode cX3_bytesIn 33 = .ok (.iload_n 1, 1) := dk_27 (dk_at dksX3_bytesIn_1 9 rfl rfl)
theorem dX3_bytesIn_34 : decode cX3_bytesIn 34 = .ok (.ireturn, 1) := dk_172 (dk_at dksX3_bytesIn_1 10 rfl rfl)
abbrev cX3_put : ByteArray := prog_14_method_7_code
def yX3_put : MethodName := ⟨RX3, "put", "(I)V"⟩
def dkwX3_put_2 : List UInt8 := [167, 255, 213, 177]
abbrev dktX3_put_2 : List UInt8 := dkwX3_put_2 ++ []
def dkwX3_put_1 : List UInt8 := [42, 180, 0, 112, 27, 28, 122, 145, 84, 42, 89, 180, 0, 112, 4, 96, 181, 0, 112, 132, 2, 248]
abbrev dktX3_put_1 : List UInt8 := dkwX3_put_1 ++ dktX3_put_2
def dkwX3_put_0 : List UInt8 := [16, 24, 61, 28, 155, 0, 45, 27, 28, 122, 17, 0, 255, 126, 154, 0, 6, 167, 0, 26, 42, 180, 0, 9]
abbrev dktX3_put_0 : List UInt8 := dkwX3_put_0 ++ dktX3_put_1
theorem dksX3_put_0 : cX3_put.data.toList.drop 0 = dktX3_put_0 := by decide +kernel
theorem dksX3_put_1 : cX3_put.data.toList.drop 24 = dktX3_put_1 := dk_seg dksX3_put_0 24 rfl rfl
theorem dksX3_put_2 : cX3_put.data.toList.drop 46 = dktX3_put_2 := dk_seg dksX3_put_1 22 rfl rfl
theorem dX3_put_0 : decode cX3_put 0 = .ok (.bipush 24, 2) := dk_16 24 (dk_at dksX3_put_0 0 rfl rfl)
theorem dX3_put_2 : decode cX3_put 2 = .ok (.istore_n 2, 1) := dk_61 (dk_at dksX3_put_0 2 rfl rfl)
theorem dX3_put_3 : decode cX3_put 3 = .ok (.iload_n 2, 1) := dk_28 (dk_at dksX3_put_0 3 rfl rfl)
theorem dX3_put_4 : decode cX3_put 4 = .ok (.ifCond .lt 45, 3) := dk_155 0 45 (dk_at dksX3_put_0 4 rfl rfl)
theorem dX3_put_7 : decode cX3_put 7 = .ok (.iload_n 1, 1) := dk_27 (dk_at dksX3_put_0 7 rfl rfl)
theorem dX3_put_8 : decode cX3_put 8 = .ok (.iload_n 2, 1) := dk_28 (dk_at dksX3_put_0 8 rfl rfl)
theorem dX3_put_9 : decode cX3_put 9 = .ok (.ishr, 1) := dk_122 (dk_at dksX3_put_0 9 rfl rfl)
theorem dX3_put_10 : decode cX3_put 10 = .ok (.sipush 255, 3) := dk_17 0 255 (dk_at dksX3_put_0 10 rfl rfl)
theorem dX3_put_13 : decode cX3_put 13 = .ok (.iand, 1) := dk_126 (dk_at dksX3_put_0 13 rfl rfl)
theorem dX3_put_14 : decode cX3_put 14 = .ok (.ifCond .ne 6, 3) := dk_154 0 6 (dk_at dksX3_put_0 14 rfl rfl)
theorem dX3_put_17 : decode cX3_put 17 = .ok (.goto 26, 3) := dk_167 0 26 (dk_at dksX3_put_0 17 rfl rfl)
theorem dX3_put_20 : decode cX3_put 20 = .ok (.aload_n 0, 1) := dk_42 (dk_at dksX3_put_0 20 rfl rfl)
theorem dX3_put_21 : decode cX3_put 21 = .ok (.getfield 9, 3) := dk_180 0 9 (dk_at dksX3_put_0 21 rfl rfl)
theorem dX3_put_24 : decode cX3_put 24 = .ok (.aload_n 0, 1) := dk_42 (dk_at dksX3_put_1 0 rfl rfl)
theorem dX3_put_25 : decode cX3_put 25 = .ok (.getfield 112, 3) := dk_180 0 112 (dk_at dksX3_put_1 1 rfl rfl)
theorem dX3_put_28 : decode cX3_put 28 = .ok (.iload_n 1, 1) := dk_27 (dk_at dksX3_put_1 4 rfl rfl)
theorem dX3_put_29 : decode cX3_put 29 = .ok (.iload_n 2, 1) := dk_28 (dk_at dksX3_put_1 5 rfl rfl)
theorem dX3_put_30 : decode cX3_put 30 = .ok (.ishr, 1) := dk_122 (dk_at dksX3_put_1 6 rfl rfl)
theorem dX3_put_31 : decode cX3_put 31 = .ok (.i2b, 1) := dk_145 (dk_at dksX3_put_1 7 rfl rfl)
theorem dX3_put_32 : decode cX3_put 32 = .ok (.bastore, 1) := dk_84 (dk_at dksX3_put_1 8 rfl rfl)
theorem dX3_put_33 : decode cX3_put 33 = .ok (.aload_n 0, 1) := dk_42 (dk_at dksX3_put_1 9 rfl rfl)
theorem dX3_put_34 : decode cX3_put 34 = .ok (.dup, 1) := dk_89 (dk_at dksX3_put_1 10 rfl rfl)
theorem dX3_put_35 : decode cX3_put 35 = .ok (.getfield 112, 3) := dk_180 0 112 (dk_at dksX3_put_1 11 rfl rfl)
theorem dX3_put_38 : decode cX3_put 38 = .ok (.iconst 1, 1) := dk_4 (dk_at dksX3_put_1 14 rfl rfl)
theorem dX3_put_39 : decode cX3_put 39 = .ok (.iadd, 1) := dk_96 (dk_at dksX3_put_1 15 rfl rfl)
theorem dX3_put_40 : decode cX3_put 40 = .ok (.putfield 112, 3) := dk_181 0 112 (dk_at dksX3_put_1 16 rfl rfl)
theorem dX3_put_43 : decode cX3_put 43 = .ok (.iinc 2 (-8), 3) := dk_132 2 248 (dk_at dksX3_put_1 19 rfl rfl)
theorem dX3_put_46 : decode cX3_put 46 = .ok (.goto (-43), 3) := dk_167 255 213 (dk_at dksX3_put_2 0 rfl rfl)
theorem dX3_put_49 : decode cX3_put 49 = .ok (.return_, 1) := dk_177 (dk_at dksX3_put_2 3 rfl rfl)
abbrev cX3_end : ByteArray := prog_14_method_9_code
def yX3_end : MethodName := ⟨RX3, "end", "(I)Z"⟩
def dkwX3_end_1 : List UInt8 := [4, 172]
abbrev dktX3_end_1 : List UInt8 := dkwX3_end_1 ++ []
def dkwX3_end_0 : List UInt8 := [42, 3, 181, 0, 99, 27, 155, 0, 11, 27, 42, 180, 0, 112, 164, 0, 5, 3, 172, 42, 27, 181, 0, 112]
abbrev dktX3_end_0 : List UInt8 := dkwX3_end_0 ++ dktX3_end_1
theorem dksX3_end_0 : cX3_end.data.toList.drop 0 = dktX3_end_0 := by decide +kernel
theorem dksX3_end_1 : cX3_end.data.toList.drop 24 = dktX3_end_1 := dk_seg dksX3_end_0 24 rfl rfl
theorem dX3_end_0 : decode cX3_end 0 = .ok (.aload_n 0, 1) := dk_42 (dk_at dksX3_end_0 0 rfl rfl)
theorem dX3_end_1 : decode cX3_end 1 = .ok (.iconst 0, 1) := dk_3 (dk_at dksX3_end_0 1 rfl rfl)
theorem dX3_end_2 : decode cX3_end 2 = .ok (.putfield 99, 3) := dk_181 0 99 (dk_at dksX3_end_0 2 rfl rfl)
theorem dX3_end_5 : decode cX3_end 5 = .ok (.iload_n 1, 1) := dk_27 (dk_at dksX3_end_0 5 rfl rfl)
theorem dX3_end_6 : decode cX3_end 6 = .ok (.ifCond .lt 11, 3) := dk_155 0 11 (dk_at dksX3_end_0 6 rfl rfl)
theorem dX3_end_9 : decode cX3_end 9 = .ok (.iload_n 1, 1) := dk_27 (dk_at dksX3_end_0 9 rfl rfl)
theorem dX3_end_10 : decode cX3_end 10 = .ok (.aload_n 0, 1) := dk_42 (dk_at dksX3_end_0 10 rfl rfl)
theorem dX3_end_11 : decode cX3_end 11 = .ok (.getfield 112, 3) := dk_180 0 112 (dk_at dksX3_end_0 11 rfl rfl)
theorem dX3_end_14 : decode cX3_end 14 = .ok (.if_icmp .le 5, 3) := dk_164 0 5 (dk_at dksX3_end_0 14 rfl rfl)
theorem dX3_end_17 : decode cX3_end 17 = .ok (.iconst 0, 1) := dk_3 (dk_at dksX3_end_0 17 rfl rfl)
theorem dX3_end_18 : decode cX3_end 18 = .ok (.ireturn, 1) := dk_172 (dk_at dksX3_end_0 18 rfl rfl)
theorem dX3_end_19 : decode cX3_end 19 = .ok (.aload_n 0, 1) := dk_42 (dk_at dksX3_end_0 19 rfl rfl)
theorem dX3_end_20 : decode cX3_end 20 = .ok (.iload_n 1, 1) := dk_27 (dk_at dksX3_end_0 20 rfl rfl)
theorem dX3_end_21 : decode cX3_end 21 = .ok (.putfield 112, 3) := dk_181 0 112 (dk_at dksX3_end_0 21 rfl rfl)
theorem dX3_end_24 : decode cX3_end 24 = .ok (.iconst 1, 1) := dk_4 (dk_at dksX3_end_1 0 rfl rfl)
theorem dX3_end_25 : decode cX3_end 25 = .ok (.ireturn, 1) := dk_172 (dk_at dksX3_end_1 1 rfl rfl)
abbrev cX3_fault : ByteArray := prog_14_method_38_code
def yX3_fault : MethodName := ⟨RX3, "fault", "(I)I"⟩
def dkwX3_fault_2 : List UInt8 := [160, 0, 7, 42, 182, 1, 24, 42, 180, 0, 131, 172]
abbrev dktX3_fault_2 : List UInt8 := dkwX3_fault_2 ++ []
def dkwX3_fault_1 : List UInt8 := [42, 182, 1, 18, 27, 4, 160, 0, 16, 42, 42, 180, 0, 9, 3, 42, 180, 0, 112, 182, 1, 21, 27, 5]
abbrev dktX3_fault_1 : List UInt8 := dkwX3_fault_1 ++ dktX3_fault_2
def dkwX3_fault_0 : List UInt8 := [42, 3, 181, 0, 99, 27, 133, 9, 20, 1, 12, 184, 1, 14, 154, 0, 6, 16, 254, 172, 27, 154, 0, 7]
abbrev dktX3_fault_0 : List UInt8 := dkwX3_fault_0 ++ dktX3_fault_1
theorem dksX3_fault_0 : cX3_fault.data.toList.drop 0 = dktX3_fault_0 := by decide +kernel
theorem dksX3_fault_1 : cX3_fault.data.toList.drop 24 = dktX3_fault_1 := dk_seg dksX3_fault_0 24 rfl rfl
theorem dksX3_fault_2 : cX3_fault.data.toList.drop 48 = dktX3_fault_2 := dk_seg dksX3_fault_1 24 rfl rfl
theorem dX3_fault_0 : decode cX3_fault 0 = .ok (.aload_n 0, 1) := dk_42 (dk_at dksX3_fault_0 0 rfl rfl)
theorem dX3_fault_1 : decode cX3_fault 1 = .ok (.iconst 0, 1) := dk_3 (dk_at dksX3_fault_0 1 rfl rfl)
theorem dX3_fault_2 : decode cX3_fault 2 = .ok (.putfield 99, 3) := dk_181 0 99 (dk_at dksX3_fault_0 2 rfl rfl)
theorem dX3_fault_5 : decode cX3_fault 5 = .ok (.iload_n 1, 1) := dk_27 (dk_at dksX3_fault_0 5 rfl rfl)
theorem dX3_fault_6 : decode cX3_fault 6 = .ok (.i2l, 1) := dk_133 (dk_at dksX3_fault_0 6 rfl rfl)
theorem dX3_fault_7 : decode cX3_fault 7 = .ok (.lconst 0, 1) := dk_9 (dk_at dksX3_fault_0 7 rfl rfl)
theorem dX3_fault_8 : decode cX3_fault 8 = .ok (.ldc2_w 268, 3) := dk_20 1 12 (dk_at dksX3_fault_0 8 rfl rfl)
theorem dX3_fault_11 : decode cX3_fault 11 = .ok (.invokestatic 270, 3) := dk_184 1 14 (dk_at dksX3_fault_0 11 rfl rfl)
theorem dX3_fault_14 : decode cX3_fault 14 = .ok (.ifCond .ne 6, 3) := dk_154 0 6 (dk_at dksX3_fault_0 14 rfl rfl)
theorem dX3_fault_17 : decode cX3_fault 17 = .ok (.bipush (-2), 2) := dk_16 254 (dk_at dksX3_fault_0 17 rfl rfl)
theorem dX3_fault_19 : decode cX3_fault 19 = .ok (.ireturn, 1) := dk_172 (dk_at dksX3_fault_0 19 rfl rfl)
theorem dX3_fault_20 : decode cX3_fault 20 = .ok (.iload_n 1, 1) := dk_27 (dk_at dksX3_fault_0 20 rfl rfl)
theorem dX3_fault_21 : decode cX3_fault 21 = .ok (.ifCond .ne 7, 3) := dk_154 0 7 (dk_at dksX3_fault_0 21 rfl rfl)
theorem dX3_fault_24 : decode cX3_fault 24 = .ok (.aload_n 0, 1) := dk_42 (dk_at dksX3_fault_1 0 rfl rfl)
theorem dX3_fault_25 : decode cX3_fault 25 = .ok (.invokevirtual 274, 3) := dk_182 1 18 (dk_at dksX3_fault_1 1 rfl rfl)
theorem dX3_fault_28 : decode cX3_fault 28 = .ok (.iload_n 1, 1) := dk_27 (dk_at dksX3_fault_1 4 rfl rfl)
theorem dX3_fault_29 : decode cX3_fault 29 = .ok (.iconst 1, 1) := dk_4 (dk_at dksX3_fault_1 5 rfl rfl)
theorem dX3_fault_30 : decode cX3_fault 30 = .ok (.if_icmp .ne 16, 3) := dk_160 0 16 (dk_at dksX3_fault_1 6 rfl rfl)
theorem dX3_fault_33 : decode cX3_fault 33 = .ok (.aload_n 0, 1) := dk_42 (dk_at dksX3_fault_1 9 rfl rfl)
theorem dX3_fault_34 : decode cX3_fault 34 = .ok (.aload_n 0, 1) := dk_42 (dk_at dksX3_fault_1 10 rfl rfl)
theorem dX3_fault_35 : decode cX3_fault 35 = .ok (.getfield 9, 3) := dk_180 0 9 (dk_at dksX3_fault_1 11 rfl rfl)
theorem dX3_fault_38 : decode cX3_fault 38 = .ok (.iconst 0, 1) := dk_3 (dk_at dksX3_fault_1 14 rfl rfl)
theorem dX3_fault_39 : decode cX3_fault 39 = .ok (.aload_n 0, 1) := dk_42 (dk_at dksX3_fault_1 15 rfl rfl)
theorem dX3_fault_40 : decode cX3_fault 40 = .ok (.getfield 112, 3) := dk_180 0 112 (dk_at dksX3_fault_1 16 rfl rfl)
theorem dX3_fault_43 : decode cX3_fault 43 = .ok (.invokevirtual 277, 3) := dk_182 1 21 (dk_at dksX3_fault_1 19 rfl rfl)
theorem dX3_fault_46 : decode cX3_fault 46 = .ok (.iload_n 1, 1) := dk_27 (dk_at dksX3_fault_1 22 rfl rfl)
theorem dX3_fault_47 : decode cX3_fault 47 = .ok (.iconst 2, 1) := dk_5 (dk_at dksX3_fault_1 23 rfl rfl)
theorem dX3_fault_48 : decode cX3_fault 48 = .ok (.if_icmp .ne 7, 3) := dk_160 0 7 (dk_at dksX3_fault_2 0 rfl rfl)
theorem dX3_fault_51 : decode cX3_fault 51 = .ok (.aload_n 0, 1) := dk_42 (dk_at dksX3_fault_2 3 rfl rfl)
theorem dX3_fault_52 : decode cX3_fault 52 = .ok (.invokevirtual 280, 3) := dk_182 1 24 (dk_at dksX3_fault_2 4 rfl rfl)
theorem dX3_fault_55 : decode cX3_fault 55 = .ok (.aload_n 0, 1) := dk_42 (dk_at dksX3_fault_2 7 rfl rfl)
theorem dX3_fault_56 : decode cX3_fault 56 = .ok (.getfield 131, 3) := dk_180 0 131 (dk_at dksX3_fault_2 8 rfl rfl)
theorem dX3_fault_59 : decode cX3_fault 59 = .ok (.ireturn, 1) := dk_172 (dk_at dksX3_fault_2 11 rfl rfl)
abbrev cX3_isIn : ByteArray := prog_14_method_3_code
def yX3_isIn : MethodName := ⟨RX3, "isIn", "(JJJ)Z"⟩
def dkwX3_isIn_0 : List UInt8 := [30, 32, 148, 155, 0, 14, 30, 22, 4, 148, 157, 0, 7, 4, 167, 0, 4, 3, 172]
abbrev dktX3_isIn_0 : List UInt8 := dkwX3_isIn_0 ++ []
theorem dksX3_isIn_0 : cX3_isIn.data.toList.drop 0 = dktX3_isIn_0 := by decide +kernel
theorem dX3_isIn_0 : decode cX3_isIn 0 = .ok (.lload_n 0, 1) := dk_30 (dk_at dksX3_isIn_0 0 rfl rfl)
theorem dX3_isIn_1 : decode cX3_isIn 1 = .ok (.lload_n 2, 1) := dk_32 (dk_at dksX3_isIn_0 1 rfl rfl)
theorem dX3_isIn_2 : decode cX3_isIn 2 = .ok (.lcmp, 1) := dk_148 (dk_at dksX3_isIn_0 2 rfl rfl)
theorem dX3_isIn_3 : decode cX3_isIn 3 = .ok (.ifCond .lt 14, 3) := dk_155 0 14 (dk_at dksX3_isIn_0 3 rfl rfl)
theorem dX3_isIn_6 : decode cX3_isIn 6 = .ok (.lload_n 0, 1) := dk_30 (dk_at dksX3_isIn_0 6 rfl rfl)
theorem dX3_isIn_7 : decode cX3_isIn 7 = .ok (.lload 4, 2) := dk_22 4 (dk_at dksX3_isIn_0 7 rfl rfl)
theorem dX3_isIn_9 : decode cX3_isIn 9 = .ok (.lcmp, 1) := dk_148 (dk_at dksX3_isIn_0 9 rfl rfl)
theorem dX3_isIn_10 : decode cX3_isIn 10 = .ok (.ifCond .gt 7, 3) := dk_157 0 7 (dk_at dksX3_isIn_0 10 rfl rfl)
theorem dX3_isIn_13 : decode cX3_isIn 13 = .ok (.iconst 1, 1) := dk_4 (dk_at dksX3_isIn_0 13 rfl rfl)
theorem dX3_isIn_14 : decode cX3_isIn 14 = .ok (.goto 4, 3) := dk_167 0 4 (dk_at dksX3_isIn_0 14 rfl rfl)
theorem dX3_isIn_17 : decode cX3_isIn 17 = .ok (.iconst 0, 1) := dk_3 (dk_at dksX3_isIn_0 17 rfl rfl)
theorem dX3_isIn_18 : decode cX3_isIn 18 = .ok (.ireturn, 1) := dk_172 (dk_at dksX3_isIn_0 18 rfl rfl)
abbrev cX3_readRealm : ByteArray := prog_14_method_35_code
def yX3_readRealm : MethodName := ⟨RX3, "readRealm", "()V"⟩
def dkwX3_readRealm_5 : List UInt8 := [42, 182, 0, 141, 2, 160, 0, 10, 42, 182, 1, 4, 154, 0, 8, 42, 182, 0, 137, 87, 177]
abbrev dktX3_readRealm_5 : List UInt8 := dkwX3_readRealm_5 ++ []
def dkwX3_readRealm_4 : List UInt8 := [153, 255, 216, 42, 89, 180, 0, 122, 4, 96, 181, 0, 122, 167, 255, 203, 42, 180, 0, 131, 2, 160, 0, 23]
abbrev dktX3_readRealm_4 : List UInt8 := dkwX3_readRealm_4 ++ dktX3_readRealm_5
def dkwX3_readRealm_3 : List UInt8 := [42, 180, 0, 131, 2, 160, 0, 16, 42, 182, 0, 141, 16, 59, 160, 0, 7, 4, 167, 0, 4, 3, 60, 27]
abbrev dktX3_readRealm_3 : List UInt8 := dkwX3_readRealm_3 ++ dktX3_readRealm_4
def dkwX3_readRealm_2 : List UInt8 := [132, 1, 1, 167, 255, 236, 4, 60, 27, 153, 0, 55, 42, 180, 0, 131, 2, 160, 0, 47, 42, 182, 1, 1]
abbrev dktX3_readRealm_2 : List UInt8 := dkwX3_readRealm_2 ++ dktX3_readRealm_3
def dkwX3_readRealm_1 : List UInt8 := [3, 181, 0, 238, 3, 60, 27, 5, 162, 0, 21, 42, 180, 0, 40, 27, 16, 115, 27, 184, 0, 220, 79]
abbrev dktX3_readRealm_1 : List UInt8 := dkwX3_readRealm_1 ++ dktX3_readRealm_2
def dkwX3_readRealm_0 : List UInt8 := [42, 42, 180, 0, 9, 3, 42, 180, 0, 112, 182, 0, 210, 42, 3, 181, 0, 241, 42, 3, 181, 0, 244, 42]
abbrev dktX3_readRealm_0 : List UInt8 := dkwX3_readRealm_0 ++ dktX3_readRealm_1
theorem dksX3_readRealm_0 : cX3_readRealm.data.toList.drop 0 = dktX3_readRealm_0 := by decide +kernel
theorem dksX3_readRealm_1 : cX3_readRealm.data.toList.drop 24 = dktX3_readRealm_1 := dk_seg dksX3_readRealm_0 24 rfl rfl
theorem dksX3_readRealm_2 : cX3_readRealm.data.toList.drop 47 = dktX3_readRealm_2 := dk_seg dksX3_readRealm_1 23 rfl rfl
theorem dksX3_readRealm_3 : cX3_readRealm.data.toList.drop 71 = dktX3_readRealm_3 := dk_seg dksX3_readRealm_2 24 rfl rfl
theorem dksX3_readRealm_4 : cX3_readRealm.data.toList.drop 95 = dktX3_readRealm_4 := dk_seg dksX3_readRealm_3 24 rfl rfl
theorem dksX3_readRealm_5 : cX3_readRealm.data.toList.drop 119 = dktX3_readRealm_5 := dk_seg dksX3_readRealm_4 24 rfl rfl
theorem dX3_readRealm_0 : decode cX3_readRealm 0 = .ok (.aload_n 0, 1) := dk_42 (dk_at dksX3_readRealm_0 0 rfl rfl)
theorem dX3_readRealm_1 : decode cX3_readRealm 1 = .ok (.aload_n 0, 1) := dk_42 (dk_at dksX3_readRealm_0 1 rfl rfl)
theorem dX3_readRealm_2 : decode cX3_readRealm 2 = .ok (.getfield 9, 3) := dk_180 0 9 (dk_at dksX3_readRealm_0 2 rfl rfl)
theorem dX3_readRealm_5 : decode cX3_readRealm 5 = .ok (.iconst 0, 1) := dk_3 (dk_at dksX3_readRealm_0 5 rfl rfl)
theorem dX3_readRealm_6 : decode cX3_readRealm 6 = .ok (.aload_n 0, 1) := dk_42 (dk_at dksX3_readRealm_0 6 rfl rfl)
theorem dX3_readRealm_7 : decode cX3_readRealm 7 = .ok (.getfield 112, 3) := dk_180 0 112 (dk_at dksX3_readRealm_0 7 rfl rfl)
theorem dX3_readRealm_10 : decode cX3_readRealm 10 = .ok (.invokevirtual 210, 3) := dk_182 0 210 (dk_at dksX3_readRealm_0 10 rfl rfl)
theorem dX3_readRealm_13 : decode cX3_readRealm 13 = .ok (.aload_n 0, 1) := dk_42 (dk_at dksX3_readRealm_0 13 rfl rfl)
theorem dX3_readRealm_14 : decode cX3_readRealm 14 = .ok (.iconst 0, 1) := dk_3 (dk_at dksX3_readRealm_0 14 rfl rfl)
theorem dX3_readRealm_15 : decode cX3_readRealm 15 = .ok (.putfield 241, 3) := dk_181 0 241 (dk_at dksX3_readRealm_0 15 rfl rfl)
theorem dX3_readRealm_18 : decode cX3_readRealm 18 = .ok (.aload_n 0, 1) := dk_42 (dk_at dksX3_readRealm_0 18 rfl rfl)
theorem dX3_readRealm_19 : decode cX3_readRealm 19 = .ok (.iconst 0, 1) := dk_3 (dk_at dksX3_readRealm_0 19 rfl rfl)
theorem dX3_readRealm_20 : decode cX3_readRealm 20 = .ok (.putfield 244, 3) := dk_181 0 244 (dk_at dksX3_readRealm_0 20 rfl rfl)
theorem dX3_readRealm_23 : decode cX3_readRealm 23 = .ok (.aload_n 0, 1) := dk_42 (dk_at dksX3_readRealm_0 23 rfl rfl)
theorem dX3_readRealm_24 : decode cX3_readRealm 24 = .ok (.iconst 0, 1) := dk_3 (dk_at dksX3_readRealm_1 0 rfl rfl)
theorem dX3_readRealm_25 : decode cX3_readRealm 25 = .ok (.putfield 238, 3) := dk_181 0 238 (dk_at dksX3_readRealm_1 1 rfl rfl)
theorem dX3_readRealm_28 : decode cX3_readRealm 28 = .ok (.iconst 0, 1) := dk_3 (dk_at dksX3_readRealm_1 4 rfl rfl)
theorem dX3_readRealm_29 : decode cX3_readRealm 29 = .ok (.istore_n 1, 1) := dk_60 (dk_at dksX3_readRealm_1 5 rfl rfl)
theorem dX3_readRealm_30 : decode cX3_readRealm 30 = .ok (.iload_n 1, 1) := dk_27 (dk_at dksX3_readRealm_1 6 rfl rfl)
theorem dX3_readRealm_31 : decode cX3_readRealm 31 = .ok (.iconst 2, 1) := dk_5 (dk_at dksX3_readRealm_1 7 rfl rfl)
theorem dX3_readRealm_32 : decode cX3_readRealm 32 = .ok (.if_icmp .ge 21, 3) := dk_162 0 21 (dk_at dksX3_readRealm_1 8 rfl rfl)
theorem dX3_readRealm_35 : decode cX3_readRealm 35 = .ok (.aload_n 0, 1) := dk_42 (dk_at dksX3_readRealm_1 11 rfl rfl)
theorem dX3_readRealm_36 : decode cX3_readRealm 36 = .ok (.getfield 40, 3) := dk_180 0 40 (dk_at dksX3_readRealm_1 12 rfl rfl)
theorem dX3_readRealm_39 : decode cX3_readRealm 39 = .ok (.iload_n 1, 1) := dk_27 (dk_at dksX3_readRealm_1 15 rfl rfl)
theorem dX3_readRealm_40 : decode cX3_readRealm 40 = .ok (.bipush 115, 2) := dk_16 115 (dk_at dksX3_readRealm_1 16 rfl rfl)
theorem dX3_readRealm_42 : decode cX3_readRealm 42 = .ok (.iload_n 1, 1) := dk_27 (dk_at dksX3_readRealm_1 18 rfl rfl)
theorem dX3_readRealm_43 : decode cX3_readRealm 43 = .ok (.invokestatic 220, 3) := dk_184 0 220 (dk_at dksX3_readRealm_1 19 rfl rfl)
theorem dX3_readRealm_46 : decode cX3_readRealm 46 = .ok (.iastore, 1) := dk_79 (dk_at dksX3_readRealm_1 22 rfl rfl)
theorem dX3_readRealm_47 : decode cX3_readRealm 47 = .ok (.iinc 1 1, 3) := dk_132 1 1 (dk_at dksX3_readRealm_2 0 rfl rfl)
theorem dX3_readRealm_50 : decode cX3_readRealm 50 = .ok (.goto (-20), 3) := dk_167 255 236 (dk_at dksX3_readRealm_2 3 rfl rfl)
theorem dX3_readRealm_53 : decode cX3_readRealm 53 = .ok (.iconst 1, 1) := dk_4 (dk_at dksX3_readRealm_2 6 rfl rfl)
theorem dX3_readRealm_54 : decode cX3_readRealm 54 = .ok (.istore_n 1, 1) := dk_60 (dk_at dksX3_readRealm_2 7 rfl rfl)
theorem dX3_readRealm_55 : decode cX3_readRealm 55 = .ok (.iload_n 1, 1) := dk_27 (dk_at dksX3_readRealm_2 8 rfl rfl)
theorem dX3_readRealm_56 : decode cX3_readRealm 56 = .ok (.ifCond .eq 55, 3) := dk_153 0 55 (dk_at dksX3_readRealm_2 9 rfl rfl)
theorem dX3_readRealm_59 : decode cX3_readRealm 59 = .ok (.aload_n 0, 1) := dk_42 (dk_at dksX3_readRealm_2 12 rfl rfl)
theorem dX3_readRealm_60 : decode cX3_readRealm 60 = .ok (.getfield 131, 3) := dk_180 0 131 (dk_at dksX3_readRealm_2 13 rfl rfl)
theorem dX3_readRealm_63 : decode cX3_readRealm 63 = .ok (.iconst (-1), 1) := dk_2 (dk_at dksX3_readRealm_2 16 rfl rfl)
theorem dX3_readRealm_64 : decode cX3_readRealm 64 = .ok (.if_icmp .ne 47, 3) := dk_160 0 47 (dk_at dksX3_readRealm_2 17 rfl rfl)
theorem dX3_readRealm_67 : decode cX3_readRealm 67 = .ok (.aload_n 0, 1) := dk_42 (dk_at dksX3_readRealm_2 20 rfl rfl)
theorem dX3_readRealm_68 : decode cX3_readRealm 68 = .ok (.invokevirtual 257, 3) := dk_182 1 1 (dk_at dksX3_readRealm_2 21 rfl rfl)
theorem dX3_readRealm_71 : decode cX3_readRealm 71 = .ok (.aload_n 0, 1) := dk_42 (dk_at dksX3_readRealm_3 0 rfl rfl)
theorem dX3_readRealm_72 : decode cX3_readRealm 72 = .ok (.getfield 131, 3) := dk_180 0 131 (dk_at dksX3_readRealm_3 1 rfl rfl)
theorem dX3_readRealm_75 : decode cX3_readRealm 75 = .ok (.iconst (-1), 1) := dk_2 (dk_at dksX3_readRealm_3 4 rfl rfl)
theorem dX3_readRealm_76 : decode cX3_readRealm 76 = .ok (.if_icmp .ne 16, 3) := dk_160 0 16 (dk_at dksX3_readRealm_3 5 rfl rfl)
theorem dX3_readRealm_79 : decode cX3_readRealm 79 = .ok (.aload_n 0, 1) := dk_42 (dk_at dksX3_readRealm_3 8 rfl rfl)
theorem dX3_readRealm_80 : decode cX3_readRealm 80 = .ok (.invokevirtual 141, 3) := dk_182 0 141 (dk_at dksX3_readRealm_3 9 rfl rfl)
theorem dX3_readRealm_83 : decode cX3_readRealm 83 = .ok (.bipush 59, 2) := dk_16 59 (dk_at dksX3_readRealm_3 12 rfl rfl)
theorem dX3_readRealm_85 : decode cX3_readRealm 85 = .ok (.if_icmp .ne 7, 3) := dk_160 0 7 (dk_at dksX3_readRealm_3 14 rfl rfl)
theorem dX3_readRealm_88 : decode cX3_readRealm 88 = .ok (.iconst 1, 1) := dk_4 (dk_at dksX3_readRealm_3 17 rfl rfl)
theorem dX3_readRealm_89 : decode cX3_readRealm 89 = .ok (.goto 4, 3) := dk_167 0 4 (dk_at dksX3_readRealm_3 18 rfl rfl)
theorem dX3_readRealm_92 : decode cX3_readRealm 92 = .ok (.iconst 0, 1) := dk_3 (dk_at dksX3_readRealm_3 21 rfl rfl)
theorem dX3_readRealm_93 : decode cX3_readRealm 93 = .ok (.istore_n 1, 1) := dk_60 (dk_at dksX3_readRealm_3 22 rfl rfl)
theorem dX3_readRealm_94 : decode cX3_readRealm 94 = .ok (.iload_n 1, 1) := dk_27 (dk_at dksX3_readRealm_3 23 rfl rfl)
theorem dX3_readRealm_95 : decode cX3_readRealm 95 = .ok (.ifCond .eq (-40), 3) := dk_153 255 216 (dk_at dksX3_readRealm_4 0 rfl rfl)
theorem dX3_readRealm_98 : decode cX3_readRealm 98 = .ok (.aload_n 0, 1) := dk_42 (dk_at dksX3_readRealm_4 3 rfl rfl)
theorem dX3_readRealm_99 : decode cX3_readRealm 99 = .ok (.dup, 1) := dk_89 (dk_at dksX3_readRealm_4 4 rfl rfl)
theorem dX3_readRealm_100 : decode cX3_readRealm 100 = .ok (.getfield 122, 3) := dk_180 0 122 (dk_at dksX3_readRealm_4 5 rfl rfl)
theorem dX3_readRealm_103 : decode cX3_readRealm 103 = .ok (.iconst 1, 1) := dk_4 (dk_at dksX3_readRealm_4 8 rfl rfl)
theorem dX3_readRealm_104 : decode cX3_readRealm 104 = .ok (.iadd, 1) := dk_96 (dk_at dksX3_readRealm_4 9 rfl rfl)
theorem dX3_readRealm_105 : decode cX3_readRealm 105 = .ok (.putfield 122, 3) := dk_181 0 122 (dk_at dksX3_readRealm_4 10 rfl rfl)
theorem dX3_readRealm_108 : decode cX3_readRealm 108 = .ok (.goto (-53), 3) := dk_167 255 203 (dk_at dksX3_readRealm_4 13 rfl rfl)
theorem dX3_readRealm_111 : decode cX3_readRealm 111 = .ok (.aload_n 0, 1) := dk_42 (dk_at dksX3_readRealm_4 16 rfl rfl)
theorem dX3_readRealm_112 : decode cX3_readRealm 112 = .ok (.getfield 131, 3) := dk_180 0 131 (dk_at dksX3_readRealm_4 17 rfl rfl)
theorem dX3_readRealm_115 : decode cX3_readRealm 115 = .ok (.iconst (-1), 1) := dk_2 (dk_at dksX3_readRealm_4 20 rfl rfl)
theorem dX3_readRealm_116 : decode cX3_readRealm 116 = .ok (.if_icmp .ne 23, 3) := dk_160 0 23 (dk_at dksX3_readRealm_4 21 rfl rfl)
theorem dX3_readRealm_119 : decode cX3_readRealm 119 = .ok (.aload_n 0, 1) := dk_42 (dk_at dksX3_readRealm_5 0 rfl rfl)
theorem dX3_readRealm_120 : decode cX3_readRealm 120 = .ok (.invokevirtual 141, 3) := dk_182 0 141 (dk_at dksX3_readRealm_5 1 rfl rfl)
theorem dX3_readRealm_123 : decode cX3_readRealm 123 = .ok (.iconst (-1), 1) := dk_2 (dk_at dksX3_readRealm_5 4 rfl rfl)
theorem dX3_readRealm_124 : decode cX3_readRealm 124 = .ok (.if_icmp .ne 10, 3) := dk_160 0 10 (dk_at dksX3_readRealm_5 5 rfl rfl)
theorem dX3_readRealm_127 : decode cX3_readRealm 127 = .ok (.aload_n 0, 1) := dk_42 (dk_at dksX3_readRealm_5 8 rfl rfl)
theorem dX3_readRealm_128 : decode cX3_readRealm 128 = .ok (.invokevirtual 260, 3) := dk_182 1 4 (dk_at dksX3_readRealm_5 9 rfl rfl)
theorem dX3_readRealm_131 : decode cX3_readRealm 131 = .ok (.ifCond .ne 8, 3) := dk_154 0 8 (dk_at dksX3_readRealm_5 12 rfl rfl)
theorem dX3_readRealm_134 : decode cX3_readRealm 134 = .ok (.aload_n 0, 1) := dk_42 (dk_at dksX3_readRealm_5 15 rfl rfl)
theorem dX3_readRealm_135 : decode cX3_readRealm 135 = .ok (.invokevirtual 137, 3) := dk_182 0 137 (dk_at dksX3_readRealm_5 16 rfl rfl)
theorem dX3_readRealm_138 : decode cX3_readRealm 138 = .ok (.pop, 1) := dk_87 (dk_at dksX3_readRealm_5 19 rfl rfl)
theorem dX3_readRealm_139 : decode cX3_readRealm 139 = .ok (.return_, 1) := dk_177 (dk_at dksX3_readRealm_5 20 rfl rfl)
abbrev cX3_starts : ByteArray := prog_14_method_25_code
def yX3_starts : MethodName := ⟨RX3, "starts", "([BII)V"⟩
def dkwX3_starts_1 : List UInt8 := [181, 0, 131, 177]
abbrev dktX3_starts_1 : List UInt8 := dkwX3_starts_1 ++ []
def dkwX3_starts_0 : List UInt8 := [42, 43, 181, 0, 23, 42, 28, 181, 0, 128, 42, 29, 181, 0, 125, 42, 3, 181, 0, 122, 42, 2]
abbrev dktX3_starts_0 : List UInt8 := dkwX3_starts_0 ++ dktX3_starts_1
theorem dksX3_starts_0 : cX3_starts.data.toList.drop 0 = dktX3_starts_0 := by decide +kernel
theorem dksX3_starts_1 : cX3_starts.data.toList.drop 22 = dktX3_starts_1 := dk_seg dksX3_starts_0 22 rfl rfl
theorem dX3_starts_0 : decode cX3_starts 0 = .ok (.aload_n 0, 1) := dk_42 (dk_at dksX3_starts_0 0 rfl rfl)
theorem dX3_starts_1 : decode cX3_starts 1 = .ok (.aload_n 1, 1) := dk_43 (dk_at dksX3_starts_0 1 rfl rfl)
theorem dX3_starts_2 : decode cX3_starts 2 = .ok (.putfield 23, 3) := dk_181 0 23 (dk_at dksX3_starts_0 2 rfl rfl)
theorem dX3_starts_5 : decode cX3_starts 5 = .ok (.aload_n 0, 1) := dk_42 (dk_at dksX3_starts_0 5 rfl rfl)
theorem dX3_starts_6 : decode cX3_starts 6 = .ok (.iload_n 2, 1) := dk_28 (dk_at dksX3_starts_0 6 rfl rfl)
theorem dX3_starts_7 : decode cX3_starts 7 = .ok (.putfield 128, 3) := dk_181 0 128 (dk_at dksX3_starts_0 7 rfl rfl)
theorem dX3_starts_10 : decode cX3_starts 10 = .ok (.aload_n 0, 1) := dk_42 (dk_at dksX3_starts_0 10 rfl rfl)
theorem dX3_starts_11 : decode cX3_starts 11 = .ok (.iload_n 3, 1) := dk_29 (dk_at dksX3_starts_0 11 rfl rfl)
theorem dX3_starts_12 : decode cX3_starts 12 = .ok (.putfield 125, 3) := dk_181 0 125 (dk_at dksX3_starts_0 12 rfl rfl)
theorem dX3_starts_15 : decode cX3_starts 15 = .ok (.aload_n 0, 1) := dk_42 (dk_at dksX3_starts_0 15 rfl rfl)
theorem dX3_starts_16 : decode cX3_starts 16 = .ok (.iconst 0, 1) := dk_3 (dk_at dksX3_starts_0 16 rfl rfl)
theorem dX3_starts_17 : decode cX3_starts 17 = .ok (.putfield 122, 3) := dk_181 0 122 (dk_at dksX3_starts_0 17 rfl rfl)
theorem dX3_starts_20 : decode cX3_starts 20 = .ok (.aload_n 0, 1) := dk_42 (dk_at dksX3_starts_0 20 rfl rfl)
theorem dX3_starts_21 : decode cX3_starts 21 = .ok (.iconst (-1), 1) := dk_2 (dk_at dksX3_starts_0 21 rfl rfl)
theorem dX3_starts_22 : decode cX3_starts 22 = .ok (.putfield 131, 3) := dk_181 0 131 (dk_at dksX3_starts_1 0 rfl rfl)
theorem dX3_starts_25 : decode cX3_starts 25 = .ok (.return_, 1) := dk_177 (dk_at dksX3_starts_1 3 rfl rfl)
abbrev cX3_usual : ByteArray := prog_14_method_31_code
def yX3_usual : MethodName := ⟨RX3, "usual", "(II)I"⟩
def dkwX3_usual_2 : List UInt8 := [4, 167, 0, 14, 27, 6, 160, 0, 8, 16, 7, 167, 0, 4, 3, 172]
abbrev dktX3_usual_2 : List UInt8 := dkwX3_usual_2 ++ []
def dkwX3_usual_1 : List UInt8 := [154, 0, 8, 16, 8, 167, 0, 13, 27, 4, 160, 0, 7, 5, 167, 0, 4, 6, 172, 27, 4, 160, 0, 7]
abbrev dktX3_usual_1 : List UInt8 := dkwX3_usual_1 ++ dktX3_usual_2
def dkwX3_usual_0 : List UInt8 := [26, 16, 115, 160, 0, 14, 27, 154, 0, 7, 4, 167, 0, 5, 16, 20, 172, 26, 16, 107, 160, 0, 23, 27]
abbrev dktX3_usual_0 : List UInt8 := dkwX3_usual_0 ++ dktX3_usual_1
theorem dksX3_usual_0 : cX3_usual.data.toList.drop 0 = dktX3_usual_0 := by decide +kernel
theorem dksX3_usual_1 : cX3_usual.data.toList.drop 24 = dktX3_usual_1 := dk_seg dksX3_usual_0 24 rfl rfl
theorem dksX3_usual_2 : cX3_usual.data.toList.drop 48 = dktX3_usual_2 := dk_seg dksX3_usual_1 24 rfl rfl
theorem dX3_usual_0 : decode cX3_usual 0 = .ok (.iload_n 0, 1) := dk_26 (dk_at dksX3_usual_0 0 rfl rfl)
theorem dX3_usual_1 : decode cX3_usual 1 = .ok (.bipush 115, 2) := dk_16 115 (dk_at dksX3_usual_0 1 rfl rfl)
theorem dX3_usual_3 : decode cX3_usual 3 = .ok (.if_icmp .ne 14, 3) := dk_160 0 14 (dk_at dksX3_usual_0 3 rfl rfl)
theorem dX3_usual_6 : decode cX3_usual 6 = .ok (.iload_n 1, 1) := dk_27 (dk_at dksX3_usual_0 6 rfl rfl)
theorem dX3_usual_7 : decode cX3_usual 7 = .ok (.ifCond .ne 7, 3) := dk_154 0 7 (dk_at dksX3_usual_0 7 rfl rfl)
theorem dX3_usual_10 : decode cX3_usual 10 = .ok (.iconst 1, 1) := dk_4 (dk_at dksX3_usual_0 10 rfl rfl)
theorem dX3_usual_11 : decode cX3_usual 11 = .ok (.goto 5, 3) := dk_167 0 5 (dk_at dksX3_usual_0 11 rfl rfl)
theorem dX3_usual_14 : decode cX3_usual 14 = .ok (.bipush 20, 2) := dk_16 20 (dk_at dksX3_usual_0 14 rfl rfl)
theorem dX3_usual_16 : decode cX3_usual 16 = .ok (.ireturn, 1) := dk_172 (dk_at dksX3_usual_0 16 rfl rfl)
theorem dX3_usual_17 : decode cX3_usual 17 = .ok (.iload_n 0, 1) := dk_26 (dk_at dksX3_usual_0 17 rfl rfl)
theorem dX3_usual_18 : decode cX3_usual 18 = .ok (.bipush 107, 2) := dk_16 107 (dk_at dksX3_usual_0 18 rfl rfl)
theorem dX3_usual_20 : decode cX3_usual 20 = .ok (.if_icmp .ne 23, 3) := dk_160 0 23 (dk_at dksX3_usual_0 20 rfl rfl)
theorem dX3_usual_23 : decode cX3_usual 23 = .ok (.iload_n 1, 1) := dk_27 (dk_at dksX3_usual_0 23 rfl rfl)
theorem dX3_usual_24 : decode cX3_usual 24 = .ok (.ifCond .ne 8, 3) := dk_154 0 8 (dk_at dksX3_usual_1 0 rfl rfl)
theorem dX3_usual_27 : decode cX3_usual 27 = .ok (.bipush 8, 2) := dk_16 8 (dk_at dksX3_usual_1 3 rfl rfl)
theorem dX3_usual_29 : decode cX3_usual 29 = .ok (.goto 13, 3) := dk_167 0 13 (dk_at dksX3_usual_1 5 rfl rfl)
theorem dX3_usual_32 : decode cX3_usual 32 = .ok (.iload_n 1, 1) := dk_27 (dk_at dksX3_usual_1 8 rfl rfl)
theorem dX3_usual_33 : decode cX3_usual 33 = .ok (.iconst 1, 1) := dk_4 (dk_at dksX3_usual_1 9 rfl rfl)
theorem dX3_usual_34 : decode cX3_usual 34 = .ok (.if_icmp .ne 7, 3) := dk_160 0 7 (dk_at dksX3_usual_1 10 rfl rfl)
theorem dX3_usual_37 : decode cX3_usual 37 = .ok (.iconst 2, 1) := dk_5 (dk_at dksX3_usual_1 13 rfl rfl)
theorem dX3_usual_38 : decode cX3_usual 38 = .ok (.goto 4, 3) := dk_167 0 4 (dk_at dksX3_usual_1 14 rfl rfl)
theorem dX3_usual_41 : decode cX3_usual 41 = .ok (.iconst 3, 1) := dk_6 (dk_at dksX3_usual_1 17 rfl rfl)
theorem dX3_usual_42 : decode cX3_usual 42 = .ok (.ireturn, 1) := dk_172 (dk_at dksX3_usual_1 18 rfl rfl)
theorem dX3_usual_43 : decode cX3_usual 43 = .ok (.iload_n 1, 1) := dk_27 (dk_at dksX3_usual_1 19 rfl rfl)
theorem dX3_usual_44 : decode cX3_usual 44 = .ok (.iconst 1, 1) := dk_4 (dk_at dksX3_usual_1 20 rfl rfl)
theorem dX3_usual_45 : decode cX3_usual 45 = .ok (.if_icmp .ne 7, 3) := dk_160 0 7 (dk_at dksX3_usual_1 21 rfl rfl)
theorem dX3_usual_48 : decode cX3_usual 48 = .ok (.iconst 1, 1) := dk_4 (dk_at dksX3_usual_2 0 rfl rfl)
theorem dX3_usual_49 : decode cX3_usual 49 = .ok (.goto 14, 3) := dk_167 0 14 (dk_at dksX3_usual_2 1 rfl rfl)
theorem dX3_usual_52 : decode cX3_usual 52 = .ok (.iload_n 1, 1) := dk_27 (dk_at dksX3_usual_2 4 rfl rfl)
theorem dX3_usual_53 : decode cX3_usual 53 = .ok (.iconst 3, 1) := dk_6 (dk_at dksX3_usual_2 5 rfl rfl)
theorem dX3_usual_54 : decode cX3_usual 54 = .ok (.if_icmp .ne 8, 3) := dk_160 0 8 (dk_at dksX3_usual_2 6 rfl rfl)
theorem dX3_usual_57 : decode cX3_usual 57 = .ok (.bipush 7, 2) := dk_16 7 (dk_at dksX3_usual_2 9 rfl rfl)
theorem dX3_usual_59 : decode cX3_usual 59 = .ok (.goto 4, 3) := dk_167 0 4 (dk_at dksX3_usual_2 11 rfl rfl)
theorem dX3_usual_62 : decode cX3_usual 62 = .ok (.iconst 0, 1) := dk_3 (dk_at dksX3_usual_2 14 rfl rfl)
theorem dX3_usual_63 : decode cX3_usual 63 = .ok (.ireturn, 1) := dk_172 (dk_at dksX3_usual_2 15 rfl rfl)
abbrev cX3_readClause : ByteArray := prog_14_method_33_code
def yX3_readClause : MethodName := ⟨RX3, "readClause", "()V"⟩
def dkwX3_readClause_7 : List UInt8 := [182, 0, 249, 177]
abbrev dktX3_readClause_7 : List UInt8 := dkwX3_readClause_7 ++ []
def dkwX3_readClause_6 : List UInt8 := [180, 0, 244, 4, 96, 181, 0, 244, 42, 27, 42, 180, 0, 52, 7, 42, 180, 0, 244, 4, 100, 104, 18, 255]
abbrev dktX3_readClause_6 : List UInt8 := dkwX3_readClause_6 ++ dktX3_readClause_7
def dkwX3_readClause_5 : List UInt8 := [42, 180, 0, 46, 6, 42, 180, 0, 241, 4, 100, 104, 18, 253, 182, 0, 249, 167, 0, 32, 42, 89]
abbrev dktX3_readClause_5 : List UInt8 := dkwX3_readClause_5 ++ dktX3_readClause_6
def dkwX3_readClause_4 : List UInt8 := [182, 0, 249, 167, 0, 70, 27, 16, 107, 160, 0, 35, 42, 89, 180, 0, 241, 4, 96, 181, 0, 241, 42, 27]
abbrev dktX3_readClause_4 : List UInt8 := dkwX3_readClause_4 ++ dktX3_readClause_5
def dkwX3_readClause_3 : List UInt8 := [181, 0, 122, 27, 16, 115, 160, 0, 23, 42, 4, 181, 0, 238, 42, 27, 42, 180, 0, 40, 3, 18, 247]
abbrev dktX3_readClause_3 : List UInt8 := dkwX3_readClause_3 ++ dktX3_readClause_4
def dkwX3_readClause_2 : List UInt8 := [167, 0, 4, 3, 61, 28, 154, 0, 9, 42, 182, 0, 137, 87, 177, 42, 89, 180, 0, 122, 4, 96]
abbrev dktX3_readClause_2 : List UInt8 := dkwX3_readClause_2 ++ dktX3_readClause_3
def dkwX3_readClause_1 : List UInt8 := [42, 180, 0, 241, 7, 161, 0, 18, 27, 16, 102, 160, 0, 16, 42, 180, 0, 244, 16, 8, 162, 0, 7, 4]
abbrev dktX3_readClause_1 : List UInt8 := dkwX3_readClause_1 ++ dktX3_readClause_2
def dkwX3_readClause_0 : List UInt8 := [42, 182, 0, 141, 60, 27, 16, 115, 160, 0, 10, 42, 180, 0, 238, 153, 0, 32, 27, 16, 107, 160, 0, 11]
abbrev dktX3_readClause_0 : List UInt8 := dkwX3_readClause_0 ++ dktX3_readClause_1
theorem dksX3_readClause_0 : cX3_readClause.data.toList.drop 0 = dktX3_readClause_0 := by decide +kernel
theorem dksX3_readClause_1 : cX3_readClause.data.toList.drop 24 = dktX3_readClause_1 := dk_seg dksX3_readClause_0 24 rfl rfl
theorem dksX3_readClause_2 : cX3_readClause.data.toList.drop 48 = dktX3_readClause_2 := dk_seg dksX3_readClause_1 24 rfl rfl
theorem dksX3_readClause_3 : cX3_readClause.data.toList.drop 70 = dktX3_readClause_3 := dk_seg dksX3_readClause_2 22 rfl rfl
theorem dksX3_readClause_4 : cX3_readClause.data.toList.drop 93 = dktX3_readClause_4 := dk_seg dksX3_readClause_3 23 rfl rfl
theorem dksX3_readClause_5 : cX3_readClause.data.toList.drop 117 = dktX3_readClause_5 := dk_seg dksX3_readClause_4 24 rfl rfl
theorem dksX3_readClause_6 : cX3_readClause.data.toList.drop 139 = dktX3_readClause_6 := dk_seg dksX3_readClause_5 22 rfl rfl
theorem dksX3_readClause_7 : cX3_readClause.data.toList.drop 163 = dktX3_readClause_7 := dk_seg dksX3_readClause_6 24 rfl rfl
theorem dX3_readClause_0 : decode cX3_readClause 0 = .ok (.aload_n 0, 1) := dk_42 (dk_at dksX3_readClause_0 0 rfl rfl)
theorem dX3_readClause_1 : decode cX3_readClause 1 = .ok (.invokevirtual 141, 3) := dk_182 0 141 (dk_at dksX3_readClause_0 1 rfl rfl)
theorem dX3_readClause_4 : decode cX3_readClause 4 = .ok (.istore_n 1, 1) := dk_60 (dk_at dksX3_readClause_0 4 rfl rfl)
theorem dX3_readClause_5 : decode cX3_readClause 5 = .ok (.iload_n 1, 1) := dk_27 (dk_at dksX3_readClause_0 5 rfl rfl)
theorem dX3_readClause_6 : decode cX3_readClause 6 = .ok (.bipush 115, 2) := dk_16 115 (dk_at dksX3_readClause_0 6 rfl rfl)
theorem dX3_readClause_8 : decode cX3_readClause 8 = .ok (.if_icmp .ne 10, 3) := dk_160 0 10 (dk_at dksX3_readClause_0 8 rfl rfl)
theorem dX3_readClause_11 : decode cX3_readClause 11 = .ok (.aload_n 0, 1) := dk_42 (dk_at dksX3_readClause_0 11 rfl rfl)
theorem dX3_readClause_12 : decode cX3_readClause 12 = .ok (.getfield 238, 3) := dk_180 0 238 (dk_at dksX3_readClause_0 12 rfl rfl)
theorem dX3_readClause_15 : decode cX3_readClause 15 = .ok (.ifCond .eq 32, 3) := dk_153 0 32 (dk_at dksX3_readClause_0 15 rfl rfl)
theorem dX3_readClause_18 : decode cX3_readClause 18 = .ok (.iload_n 1, 1) := dk_27 (dk_at dksX3_readClause_0 18 rfl rfl)
theorem dX3_readClause_19 : decode cX3_readClause 19 = .ok (.bipush 107, 2) := dk_16 107 (dk_at dksX3_readClause_0 19 rfl rfl)
theorem dX3_readClause_21 : decode cX3_readClause 21 = .ok (.if_icmp .ne 11, 3) := dk_160 0 11 (dk_at dksX3_readClause_0 21 rfl rfl)
theorem dX3_readClause_24 : decode cX3_readClause 24 = .ok (.aload_n 0, 1) := dk_42 (dk_at dksX3_readClause_1 0 rfl rfl)
theorem dX3_readClause_25 : decode cX3_readClause 25 = .ok (.getfield 241, 3) := dk_180 0 241 (dk_at dksX3_readClause_1 1 rfl rfl)
theorem dX3_readClause_28 : decode cX3_readClause 28 = .ok (.iconst 4, 1) := dk_7 (dk_at dksX3_readClause_1 4 rfl rfl)
theorem dX3_readClause_29 : decode cX3_readClause 29 = .ok (.if_icmp .lt 18, 3) := dk_161 0 18 (dk_at dksX3_readClause_1 5 rfl rfl)
theorem dX3_readClause_32 : decode cX3_readClause 32 = .ok (.iload_n 1, 1) := dk_27 (dk_at dksX3_readClause_1 8 rfl rfl)
theorem dX3_readClause_33 : decode cX3_readClause 33 = .ok (.bipush 102, 2) := dk_16 102 (dk_at dksX3_readClause_1 9 rfl rfl)
theorem dX3_readClause_35 : decode cX3_readClause 35 = .ok (.if_icmp .ne 16, 3) := dk_160 0 16 (dk_at dksX3_readClause_1 11 rfl rfl)
theorem dX3_readClause_38 : decode cX3_readClause 38 = .ok (.aload_n 0, 1) := dk_42 (dk_at dksX3_readClause_1 14 rfl rfl)
theorem dX3_readClause_39 : decode cX3_readClause 39 = .ok (.getfield 244, 3) := dk_180 0 244 (dk_at dksX3_readClause_1 15 rfl rfl)
theorem dX3_readClause_42 : decode cX3_readClause 42 = .ok (.bipush 8, 2) := dk_16 8 (dk_at dksX3_readClause_1 18 rfl rfl)
theorem dX3_readClause_44 : decode cX3_readClause 44 = .ok (.if_icmp .ge 7, 3) := dk_162 0 7 (dk_at dksX3_readClause_1 20 rfl rfl)
theorem dX3_readClause_47 : decode cX3_readClause 47 = .ok (.iconst 1, 1) := dk_4 (dk_at dksX3_readClause_1 23 rfl rfl)
theorem dX3_readClause_48 : decode cX3_readClause 48 = .ok (.goto 4, 3) := dk_167 0 4 (dk_at dksX3_readClause_2 0 rfl rfl)
theorem dX3_readClause_51 : decode cX3_readClause 51 = .ok (.iconst 0, 1) := dk_3 (dk_at dksX3_readClause_2 3 rfl rfl)
theorem dX3_readClause_52 : decode cX3_readClause 52 = .ok (.istore_n 2, 1) := dk_61 (dk_at dksX3_readClause_2 4 rfl rfl)
theorem dX3_readClause_53 : decode cX3_readClause 53 = .ok (.iload_n 2, 1) := dk_28 (dk_at dksX3_readClause_2 5 rfl rfl)
theorem dX3_readClause_54 : decode cX3_readClause 54 = .ok (.ifCond .ne 9, 3) := dk_154 0 9 (dk_at dksX3_readClause_2 6 rfl rfl)
theorem dX3_readClause_57 : decode cX3_readClause 57 = .ok (.aload_n 0, 1) := dk_42 (dk_at dksX3_readClause_2 9 rfl rfl)
theorem dX3_readClause_58 : decode cX3_readClause 58 = .ok (.invokevirtual 137, 3) := dk_182 0 137 (dk_at dksX3_readClause_2 10 rfl rfl)
theorem dX3_readClause_61 : decode cX3_readClause 61 = .ok (.pop, 1) := dk_87 (dk_at dksX3_readClause_2 13 rfl rfl)
theorem dX3_readClause_62 : decode cX3_readClause 62 = .ok (.return_, 1) := dk_177 (dk_at dksX3_readClause_2 14 rfl rfl)
theorem dX3_readClause_63 : decode cX3_readClause 63 = .ok (.aload_n 0, 1) := dk_42 (dk_at dksX3_readClause_2 15 rfl rfl)
theorem dX3_readClause_64 : decode cX3_readClause 64 = .ok (.dup, 1) := dk_89 (dk_at dksX3_readClause_2 16 rfl rfl)
theorem dX3_readClause_65 : decode cX3_readClause 65 = .ok (.getfield 122, 3) := dk_180 0 122 (dk_at dksX3_readClause_2 17 rfl rfl)
theorem dX3_readClause_68 : decode cX3_readClause 68 = .ok (.iconst 1, 1) := dk_4 (dk_at dksX3_readClause_2 20 rfl rfl)
theorem dX3_readClause_69 : decode cX3_readClause 69 = .ok (.iadd, 1) := dk_96 (dk_at dksX3_readClause_2 21 rfl rfl)
theorem dX3_readClause_70 : decode cX3_readClause 70 = .ok (.putfield 122, 3) := dk_181 0 122 (dk_at dksX3_readClause_3 0 rfl rfl)
theorem dX3_readClause_73 : decode cX3_readClause 73 = .ok (.iload_n 1, 1) := dk_27 (dk_at dksX3_readClause_3 3 rfl rfl)
theorem dX3_readClause_74 : decode cX3_readClause 74 = .ok (.bipush 115, 2) := dk_16 115 (dk_at dksX3_readClause_3 4 rfl rfl)
theorem dX3_readClause_76 : decode cX3_readClause 76 = .ok (.if_icmp .ne 23, 3) := dk_160 0 23 (dk_at dksX3_readClause_3 6 rfl rfl)
theorem dX3_readClause_79 : decode cX3_readClause 79 = .ok (.aload_n 0, 1) := dk_42 (dk_at dksX3_readClause_3 9 rfl rfl)
theorem dX3_readClause_80 : decode cX3_readClause 80 = .ok (.iconst 1, 1) := dk_4 (dk_at dksX3_readClause_3 10 rfl rfl)
theorem dX3_readClause_81 : decode cX3_readClause 81 = .ok (.putfield 238, 3) := dk_181 0 238 (dk_at dksX3_readClause_3 11 rfl rfl)
theorem dX3_readClause_84 : decode cX3_readClause 84 = .ok (.aload_n 0, 1) := dk_42 (dk_at dksX3_readClause_3 14 rfl rfl)
theorem dX3_readClause_85 : decode cX3_readClause 85 = .ok (.iload_n 1, 1) := dk_27 (dk_at dksX3_readClause_3 15 rfl rfl)
theorem dX3_readClause_86 : decode cX3_readClause 86 = .ok (.aload_n 0, 1) := dk_42 (dk_at dksX3_readClause_3 16 rfl rfl)
theorem dX3_readClause_87 : decode cX3_readClause 87 = .ok (.getfield 40, 3) := dk_180 0 40 (dk_at dksX3_readClause_3 17 rfl rfl)
theorem dX3_readClause_90 : decode cX3_readClause 90 = .ok (.iconst 0, 1) := dk_3 (dk_at dksX3_readClause_3 20 rfl rfl)
theorem dX3_readClause_91 : decode cX3_readClause 91 = .ok (.ldc 247, 2) := dk_18 247 (dk_at dksX3_readClause_3 21 rfl rfl)
theorem dX3_readClause_93 : decode cX3_readClause 93 = .ok (.invokevirtual 249, 3) := dk_182 0 249 (dk_at dksX3_readClause_4 0 rfl rfl)
theorem dX3_readClause_96 : decode cX3_readClause 96 = .ok (.goto 70, 3) := dk_167 0 70 (dk_at dksX3_readClause_4 3 rfl rfl)
theorem dX3_readClause_99 : decode cX3_readClause 99 = .ok (.iload_n 1, 1) := dk_27 (dk_at dksX3_readClause_4 6 rfl rfl)
theorem dX3_readClause_100 : decode cX3_readClause 100 = .ok (.bipush 107, 2) := dk_16 107 (dk_at dksX3_readClause_4 7 rfl rfl)
theorem dX3_readClause_102 : decode cX3_readClause 102 = .ok (.if_icmp .ne 35, 3) := dk_160 0 35 (dk_at dksX3_readClause_4 9 rfl rfl)
theorem dX3_readClause_105 : decode cX3_readClause 105 = .ok (.aload_n 0, 1) := dk_42 (dk_at dksX3_readClause_4 12 rfl rfl)
theorem dX3_readClause_106 : decode cX3_readClause 106 = .ok (.dup, 1) := dk_89 (dk_at dksX3_readClause_4 13 rfl rfl)
theorem dX3_readClause_107 : decode cX3_readClause 107 = .ok (.getfield 241, 3) := dk_180 0 241 (dk_at dksX3_readClause_4 14 rfl rfl)
theorem dX3_readClause_110 : decode cX3_readClause 110 = .ok (.iconst 1, 1) := dk_4 (dk_at dksX3_readClause_4 17 rfl rfl)
theorem dX3_readClause_111 : decode cX3_readClause 111 = .ok (.iadd, 1) := dk_96 (dk_at dksX3_readClause_4 18 rfl rfl)
theorem dX3_readClause_112 : decode cX3_readClause 112 = .ok (.putfield 241, 3) := dk_181 0 241 (dk_at dksX3_readClause_4 19 rfl rfl)
theorem dX3_readClause_115 : decode cX3_readClause 115 = .ok (.aload_n 0, 1) := dk_42 (dk_at dksX3_readClause_4 22 rfl rfl)
theorem dX3_readClause_116 : decode cX3_readClause 116 = .ok (.iload_n 1, 1) := dk_27 (dk_at dksX3_readClause_4 23 rfl rfl)
theorem dX3_readClause_117 : decode cX3_readClause 117 = .ok (.aload_n 0, 1) := dk_42 (dk_at dksX3_readClause_5 0 rfl rfl)
theorem dX3_readClause_118 : decode cX3_readClause 118 = .ok (.getfield 46, 3) := dk_180 0 46 (dk_at dksX3_readClause_5 1 rfl rfl)
theorem dX3_readClause_121 : decode cX3_readClause 121 = .ok (.iconst 3, 1) := dk_6 (dk_at dksX3_readClause_5 4 rfl rfl)
theorem dX3_readClause_122 : decode cX3_readClause 122 = .ok (.aload_n 0, 1) := dk_42 (dk_at dksX3_readClause_5 5 rfl rfl)
theorem dX3_readClause_123 : decode cX3_readClause 123 = .ok (.getfield 241, 3) := dk_180 0 241 (dk_at dksX3_readClause_5 6 rfl rfl)
theorem dX3_readClause_126 : decode cX3_readClause 126 = .ok (.iconst 1, 1) := dk_4 (dk_at dksX3_readClause_5 9 rfl rfl)
theorem dX3_readClause_127 : decode cX3_readClause 127 = .ok (.isub, 1) := dk_100 (dk_at dksX3_readClause_5 10 rfl rfl)
theorem dX3_readClause_128 : decode cX3_readClause 128 = .ok (.imul, 1) := dk_104 (dk_at dksX3_readClause_5 11 rfl rfl)
theorem dX3_readClause_129 : decode cX3_readClause 129 = .ok (.ldc 253, 2) := dk_18 253 (dk_at dksX3_readClause_5 12 rfl rfl)
theorem dX3_readClause_131 : decode cX3_readClause 131 = .ok (.invokevirtual 249, 3) := dk_182 0 249 (dk_at dksX3_readClause_5 14 rfl rfl)
theorem dX3_readClause_134 : decode cX3_readClause 134 = .ok (.goto 32, 3) := dk_167 0 32 (dk_at dksX3_readClause_5 17 rfl rfl)
theorem dX3_readClause_137 : decode cX3_readClause 137 = .ok (.aload_n 0, 1) := dk_42 (dk_at dksX3_readClause_5 20 rfl rfl)
theorem dX3_readClause_138 : decode cX3_readClause 138 = .ok (.dup, 1) := dk_89 (dk_at dksX3_readClause_5 21 rfl rfl)
theorem dX3_readClause_139 : decode cX3_readClause 139 = .ok (.getfield 244, 3) := dk_180 0 244 (dk_at dksX3_readClause_6 0 rfl rfl)
theorem dX3_readClause_142 : decode cX3_readClause 142 = .ok (.iconst 1, 1) := dk_4 (dk_at dksX3_readClause_6 3 rfl rfl)
theorem dX3_readClause_143 : decode cX3_readClause 143 = .ok (.iadd, 1) := dk_96 (dk_at dksX3_readClause_6 4 rfl rfl)
theorem dX3_readClause_144 : decode cX3_readClause 144 = .ok (.putfield 244, 3) := dk_181 0 244 (dk_at dksX3_readClause_6 5 rfl rfl)
theorem dX3_readClause_147 : decode cX3_readClause 147 = .ok (.aload_n 0, 1) := dk_42 (dk_at dksX3_readClause_6 8 rfl rfl)
theorem dX3_readClause_148 : decode cX3_readClause 148 = .ok (.iload_n 1, 1) := dk_27 (dk_at dksX3_readClause_6 9 rfl rfl)
theorem dX3_readClause_149 : decode cX3_readClause 149 = .ok (.aload_n 0, 1) := dk_42 (dk_at dksX3_readClause_6 10 rfl rfl)
theorem dX3_readClause_150 : decode cX3_readClause 150 = .ok (.getfield 52, 3) := dk_180 0 52 (dk_at dksX3_readClause_6 11 rfl rfl)
theorem dX3_readClause_153 : decode cX3_readClause 153 = .ok (.iconst 4, 1) := dk_7 (dk_at dksX3_readClause_6 14 rfl rfl)
theorem dX3_readClause_154 : decode cX3_readClause 154 = .ok (.aload_n 0, 1) := dk_42 (dk_at dksX3_readClause_6 15 rfl rfl)
theorem dX3_readClause_155 : decode cX3_readClause 155 = .ok (.getfield 244, 3) := dk_180 0 244 (dk_at dksX3_readClause_6 16 rfl rfl)
theorem dX3_readClause_158 : decode cX3_readClause 158 = .ok (.iconst 1, 1) := dk_4 (dk_at dksX3_readClause_6 19 rfl rfl)
theorem dX3_readClause_159 : decode cX3_readClause 159 = .ok (.isub, 1) := dk_100 (dk_at dksX3_readClause_6 20 rfl rfl)
theorem dX3_readClause_160 : decode cX3_readClause 160 = .ok (.imul, 1) := dk_104 (dk_at dksX3_readClause_6 21 rfl rfl)
theorem dX3_readClause_161 : decode cX3_readClause 161 = .ok (.ldc 255, 2) := dk_18 255 (dk_at dksX3_readClause_6 22 rfl rfl)
theorem dX3_readClause_163 : decode cX3_readClause 163 = .ok (.invokevirtual 249, 3) := dk_182 0 249 (dk_at dksX3_readClause_7 0 rfl rfl)
theorem dX3_readClause_166 : decode cX3_readClause 166 = .ok (.return_, 1) := dk_177 (dk_at dksX3_readClause_7 3 rfl rfl)
abbrev cX3_look : ByteArray := prog_14_method_10_code
def yX3_look : MethodName := ⟨RX3, "look", "()I"⟩
def dkwX3_look_3 : List UInt8 := [167, 0, 4, 2, 172]
abbrev dktX3_look_3 : List UInt8 := dkwX3_look_3 ++ []
def dkwX3_look_2 : List UInt8 := [180, 0, 125, 162, 0, 24, 42, 180, 0, 23, 42, 180, 0, 128, 42, 180, 0, 122, 96, 51, 17, 0, 255, 126]
abbrev dktX3_look_2 : List UInt8 := dkwX3_look_2 ++ dktX3_look_3
def dkwX3_look_1 : List UInt8 := [51, 16, 32, 160, 0, 16, 42, 89, 180, 0, 122, 4, 96, 181, 0, 122, 167, 255, 216, 42, 180, 0, 122, 42]
abbrev dktX3_look_1 : List UInt8 := dkwX3_look_1 ++ dktX3_look_2
def dkwX3_look_0 : List UInt8 := [42, 180, 0, 122, 42, 180, 0, 125, 162, 0, 35, 42, 180, 0, 23, 42, 180, 0, 128, 42, 180, 0, 122, 96]
abbrev dktX3_look_0 : List UInt8 := dkwX3_look_0 ++ dktX3_look_1
theorem dksX3_look_0 : cX3_look.data.toList.drop 0 = dktX3_look_0 := by decide +kernel
theorem dksX3_look_1 : cX3_look.data.toList.drop 24 = dktX3_look_1 := dk_seg dksX3_look_0 24 rfl rfl
theorem dksX3_look_2 : cX3_look.data.toList.drop 48 = dktX3_look_2 := dk_seg dksX3_look_1 24 rfl rfl
theorem dksX3_look_3 : cX3_look.data.toList.drop 72 = dktX3_look_3 := dk_seg dksX3_look_2 24 rfl rfl
theorem dX3_look_0 : decode cX3_look 0 = .ok (.aload_n 0, 1) := dk_42 (dk_at dksX3_look_0 0 rfl rfl)
theorem dX3_look_1 : decode cX3_look 1 = .ok (.getfield 122, 3) := dk_180 0 122 (dk_at dksX3_look_0 1 rfl rfl)
theorem dX3_look_4 : decode cX3_look 4 = .ok (.aload_n 0, 1) := dk_42 (dk_at dksX3_look_0 4 rfl rfl)
theorem dX3_look_5 : decode cX3_look 5 = .ok (.getfield 125, 3) := dk_180 0 125 (dk_at dksX3_look_0 5 rfl rfl)
theorem dX3_look_8 : decode cX3_look 8 = .ok (.if_icmp .ge 35, 3) := dk_162 0 35 (dk_at dksX3_look_0 8 rfl rfl)
theorem dX3_look_11 : decode cX3_look 11 = .ok (.aload_n 0, 1) := dk_42 (dk_at dksX3_look_0 11 rfl rfl)
theorem dX3_look_12 : decode cX3_look 12 = .ok (.getfield 23, 3) := dk_180 0 23 (dk_at dksX3_look_0 12 rfl rfl)
theorem dX3_look_15 : decode cX3_look 15 = .ok (.aload_n 0, 1) := dk_42 (dk_at dksX3_look_0 15 rfl rfl)
theorem dX3_look_16 : decode cX3_look 16 = .ok (.getfield 128, 3) := dk_180 0 128 (dk_at dksX3_look_0 16 rfl rfl)
theorem dX3_look_19 : decode cX3_look 19 = .ok (.aload_n 0, 1) := dk_42 (dk_at dksX3_look_0 19 rfl rfl)
theorem dX3_look_20 : decode cX3_look 20 = .ok (.getfield 122, 3) := dk_180 0 122 (dk_at dksX3_look_0 20 rfl rfl)
theorem dX3_look_23 : decode cX3_look 23 = .ok (.iadd, 1) := dk_96 (dk_at dksX3_look_0 23 rfl rfl)
theorem dX3_look_24 : decode cX3_look 24 = .ok (.baload, 1) := dk_51 (dk_at dksX3_look_1 0 rfl rfl)
theorem dX3_look_25 : decode cX3_look 25 = .ok (.bipush 32, 2) := dk_16 32 (dk_at dksX3_look_1 1 rfl rfl)
theorem dX3_look_27 : decode cX3_look 27 = .ok (.if_icmp .ne 16, 3) := dk_160 0 16 (dk_at dksX3_look_1 3 rfl rfl)
theorem dX3_look_30 : decode cX3_look 30 = .ok (.aload_n 0, 1) := dk_42 (dk_at dksX3_look_1 6 rfl rfl)
theorem dX3_look_31 : decode cX3_look 31 = .ok (.dup, 1) := dk_89 (dk_at dksX3_look_1 7 rfl rfl)
theorem dX3_look_32 : decode cX3_look 32 = .ok (.getfield 122, 3) := dk_180 0 122 (dk_at dksX3_look_1 8 rfl rfl)
theorem dX3_look_35 : decode cX3_look 35 = .ok (.iconst 1, 1) := dk_4 (dk_at dksX3_look_1 11 rfl rfl)
theorem dX3_look_36 : decode cX3_look 36 = .ok (.iadd, 1) := dk_96 (dk_at dksX3_look_1 12 rfl rfl)
theorem dX3_look_37 : decode cX3_look 37 = .ok (.putfield 122, 3) := dk_181 0 122 (dk_at dksX3_look_1 13 rfl rfl)
theorem dX3_look_40 : decode cX3_look 40 = .ok (.goto (-40), 3) := dk_167 255 216 (dk_at dksX3_look_1 16 rfl rfl)
theorem dX3_look_43 : decode cX3_look 43 = .ok (.aload_n 0, 1) := dk_42 (dk_at dksX3_look_1 19 rfl rfl)
theorem dX3_look_44 : decode cX3_look 44 = .ok (.getfield 122, 3) := dk_180 0 122 (dk_at dksX3_look_1 20 rfl rfl)
theorem dX3_look_47 : decode cX3_look 47 = .ok (.aload_n 0, 1) := dk_42 (dk_at dksX3_look_1 23 rfl rfl)
theorem dX3_look_48 : decode cX3_look 48 = .ok (.getfield 125, 3) := dk_180 0 125 (dk_at dksX3_look_2 0 rfl rfl)
theorem dX3_look_51 : decode cX3_look 51 = .ok (.if_icmp .ge 24, 3) := dk_162 0 24 (dk_at dksX3_look_2 3 rfl rfl)
theorem dX3_look_54 : decode cX3_look 54 = .ok (.aload_n 0, 1) := dk_42 (dk_at dksX3_look_2 6 rfl rfl)
theorem dX3_look_55 : decode cX3_look 55 = .ok (.getfield 23, 3) := dk_180 0 23 (dk_at dksX3_look_2 7 rfl rfl)
theorem dX3_look_58 : decode cX3_look 58 = .ok (.aload_n 0, 1) := dk_42 (dk_at dksX3_look_2 10 rfl rfl)
theorem dX3_look_59 : decode cX3_look 59 = .ok (.getfield 128, 3) := dk_180 0 128 (dk_at dksX3_look_2 11 rfl rfl)
theorem dX3_look_62 : decode cX3_look 62 = .ok (.aload_n 0, 1) := dk_42 (dk_at dksX3_look_2 14 rfl rfl)
theorem dX3_look_63 : decode cX3_look 63 = .ok (.getfield 122, 3) := dk_180 0 122 (dk_at dksX3_look_2 15 rfl rfl)
theorem dX3_look_66 : decode cX3_look 66 = .ok (.iadd, 1) := dk_96 (dk_at dksX3_look_2 18 rfl rfl)
theorem dX3_look_67 : decode cX3_look 67 = .ok (.baload, 1) := dk_51 (dk_at dksX3_look_2 19 rfl rfl)
theorem dX3_look_68 : decode cX3_look 68 = .ok (.sipush 255, 3) := dk_17 0 255 (dk_at dksX3_look_2 20 rfl rfl)
theorem dX3_look_71 : decode cX3_look 71 = .ok (.iand, 1) := dk_126 (dk_at dksX3_look_2 23 rfl rfl)
theorem dX3_look_72 : decode cX3_look 72 = .ok (.goto 4, 3) := dk_167 0 4 (dk_at dksX3_look_3 0 rfl rfl)
theorem dX3_look_75 : decode cX3_look 75 = .ok (.iconst (-1), 1) := dk_2 (dk_at dksX3_look_3 3 rfl rfl)
theorem dX3_look_76 : decode cX3_look 76 = .ok (.ireturn, 1) := dk_172 (dk_at dksX3_look_3 4 rfl rfl)
abbrev cX3_fails : ByteArray := prog_14_method_11_code
def yX3_fails : MethodName := ⟨RX3, "fails", "()Z"⟩
def dkwX3_fails_0 : List UInt8 := [42, 180, 0, 131, 2, 160, 0, 11, 42, 42, 180, 0, 122, 181, 0, 131, 3, 172]
abbrev dktX3_fails_0 : List UInt8 := dkwX3_fails_0 ++ []
theorem dksX3_fails_0 : cX3_fails.data.toList.drop 0 = dktX3_fails_0 := by decide +kernel
theorem dX3_fails_0 : decode cX3_fails 0 = .ok (.aload_n 0, 1) := dk_42 (dk_at dksX3_fails_0 0 rfl rfl)
theorem dX3_fails_1 : decode cX3_fails 1 = .ok (.getfield 131, 3) := dk_180 0 131 (dk_at dksX3_fails_0 1 rfl rfl)
theorem dX3_fails_4 : decode cX3_fails 4 = .ok (.iconst (-1), 1) := dk_2 (dk_at dksX3_fails_0 4 rfl rfl)
theorem dX3_fails_5 : decode cX3_fails 5 = .ok (.if_icmp .ne 11, 3) := dk_160 0 11 (dk_at dksX3_fails_0 5 rfl rfl)
theorem dX3_fails_8 : decode cX3_fails 8 = .ok (.aload_n 0, 1) := dk_42 (dk_at dksX3_fails_0 8 rfl rfl)
theorem dX3_fails_9 : decode cX3_fails 9 = .ok (.aload_n 0, 1) := dk_42 (dk_at dksX3_fails_0 9 rfl rfl)
theorem dX3_fails_10 : decode cX3_fails 10 = .ok (.getfield 122, 3) := dk_180 0 122 (dk_at dksX3_fails_0 10 rfl rfl)
theorem dX3_fails_13 : decode cX3_fails 13 = .ok (.putfield 131, 3) := dk_181 0 131 (dk_at dksX3_fails_0 13 rfl rfl)
theorem dX3_fails_16 : decode cX3_fails 16 = .ok (.iconst 0, 1) := dk_3 (dk_at dksX3_fails_0 16 rfl rfl)
theorem dX3_fails_17 : decode cX3_fails 17 = .ok (.ireturn, 1) := dk_172 (dk_at dksX3_fails_0 17 rfl rfl)
abbrev cX3_readItems : ByteArray := prog_14_method_32_code
def yX3_readItems : MethodName := ⟨RX3, "readItems", "(I[IILjava/lang/String;)V"⟩
def dkwX3_readItems_5 : List UInt8 := [25, 4, 42, 182, 0, 141, 184, 0, 224, 54, 6, 167, 255, 172, 177]
abbrev dktX3_readItems_5 : List UInt8 := dkwX3_readItems_5 ++ []
def dkwX3_readItems_4 : List UInt8 := [44, 29, 21, 6, 96, 42, 27, 21, 6, 184, 0, 232, 182, 0, 235, 79, 42, 180, 0, 131, 2, 160, 255, 186]
abbrev dktX3_readItems_4 : List UInt8 := dkwX3_readItems_4 ++ dktX3_readItems_5
def dkwX3_readItems_3 : List UInt8 := [182, 0, 137, 87, 177, 21, 5, 4, 21, 6, 120, 128, 54, 5, 42, 89, 180, 0, 122, 4, 96, 181, 0, 122]
abbrev dktX3_readItems_3 : List UInt8 := dkwX3_readItems_3 ++ dktX3_readItems_4
def dkwX3_readItems_2 : List UInt8 := [159, 0, 84, 42, 180, 0, 131, 2, 160, 0, 76, 21, 5, 21, 6, 184, 0, 228, 153, 0, 9, 42]
abbrev dktX3_readItems_2 : List UInt8 := dkwX3_readItems_2 ++ dktX3_readItems_3
def dkwX3_readItems_1 : List UInt8 := [79, 132, 5, 1, 167, 255, 231, 3, 54, 5, 25, 4, 42, 182, 0, 141, 184, 0, 224, 54, 6, 21, 6, 2]
abbrev dktX3_readItems_1 : List UInt8 := dkwX3_readItems_1 ++ dktX3_readItems_2
def dkwX3_readItems_0 : List UInt8 := [3, 54, 5, 21, 5, 25, 4, 182, 0, 102, 162, 0, 21, 44, 29, 21, 5, 96, 27, 21, 5, 184, 0, 220]
abbrev dktX3_readItems_0 : List UInt8 := dkwX3_readItems_0 ++ dktX3_readItems_1
theorem dksX3_readItems_0 : cX3_readItems.data.toList.drop 0 = dktX3_readItems_0 := by decide +kernel
theorem dksX3_readItems_1 : cX3_readItems.data.toList.drop 24 = dktX3_readItems_1 := dk_seg dksX3_readItems_0 24 rfl rfl
theorem dksX3_readItems_2 : cX3_readItems.data.toList.drop 48 = dktX3_readItems_2 := dk_seg dksX3_readItems_1 24 rfl rfl
theorem dksX3_readItems_3 : cX3_readItems.data.toList.drop 70 = dktX3_readItems_3 := dk_seg dksX3_readItems_2 22 rfl rfl
theorem dksX3_readItems_4 : cX3_readItems.data.toList.drop 94 = dktX3_readItems_4 := dk_seg dksX3_readItems_3 24 rfl rfl
theorem dksX3_readItems_5 : cX3_readItems.data.toList.drop 118 = dktX3_readItems_5 := dk_seg dksX3_readItems_4 24 rfl rfl
theorem dX3_readItems_0 : decode cX3_readItems 0 = .ok (.iconst 0, 1) := dk_3 (dk_at dksX3_readItems_0 0 rfl rfl)
theorem dX3_readItems_1 : decode cX3_readItems 1 = .ok (.istore 5, 2) := dk_54 5 (dk_at dksX3_readItems_0 1 rfl rfl)
theorem dX3_readItems_3 : decode cX3_readItems 3 = .ok (.iload 5, 2) := dk_21 5 (dk_at dksX3_readItems_0 3 rfl rfl)
theorem dX3_readItems_5 : decode cX3_readItems 5 = .ok (.aload 4, 2) := dk_25 4 (dk_at dksX3_readItems_0 5 rfl rfl)
theorem dX3_readItems_7 : decode cX3_readItems 7 = .ok (.invokevirtual 102, 3) := dk_182 0 102 (dk_at dksX3_readItems_0 7 rfl rfl)
theorem dX3_readItems_10 : decode cX3_readItems 10 = .ok (.if_icmp .ge 21, 3) := dk_162 0 21 (dk_at dksX3_readItems_0 10 rfl rfl)
theorem dX3_readItems_13 : decode cX3_readItems 13 = .ok (.aload_n 2, 1) := dk_44 (dk_at dksX3_readItems_0 13 rfl rfl)
theorem dX3_readItems_14 : decode cX3_readItems 14 = .ok (.iload_n 3, 1) := dk_29 (dk_at dksX3_readItems_0 14 rfl rfl)
theorem dX3_readItems_15 : decode cX3_readItems 15 = .ok (.iload 5, 2) := dk_21 5 (dk_at dksX3_readItems_0 15 rfl rfl)
theorem dX3_readItems_17 : decode cX3_readItems 17 = .ok (.iadd, 1) := dk_96 (dk_at dksX3_readItems_0 17 rfl rfl)
theorem dX3_readItems_18 : decode cX3_readItems 18 = .ok (.iload_n 1, 1) := dk_27 (dk_at dksX3_readItems_0 18 rfl rfl)
theorem dX3_readItems_19 : decode cX3_readItems 19 = .ok (.iload 5, 2) := dk_21 5 (dk_at dksX3_readItems_0 19 rfl rfl)
theorem dX3_readItems_21 : decode cX3_readItems 21 = .ok (.invokestatic 220, 3) := dk_184 0 220 (dk_at dksX3_readItems_0 21 rfl rfl)
theorem dX3_readItems_24 : decode cX3_readItems 24 = .ok (.iastore, 1) := dk_79 (dk_at dksX3_readItems_1 0 rfl rfl)
theorem dX3_readItems_25 : decode cX3_readItems 25 = .ok (.iinc 5 1, 3) := dk_132 5 1 (dk_at dksX3_readItems_1 1 rfl rfl)
theorem dX3_readItems_28 : decode cX3_readItems 28 = .ok (.goto (-25), 3) := dk_167 255 231 (dk_at dksX3_readItems_1 4 rfl rfl)
theorem dX3_readItems_31 : decode cX3_readItems 31 = .ok (.iconst 0, 1) := dk_3 (dk_at dksX3_readItems_1 7 rfl rfl)
theorem dX3_readItems_32 : decode cX3_readItems 32 = .ok (.istore 5, 2) := dk_54 5 (dk_at dksX3_readItems_1 8 rfl rfl)
theorem dX3_readItems_34 : decode cX3_readItems 34 = .ok (.aload 4, 2) := dk_25 4 (dk_at dksX3_readItems_1 10 rfl rfl)
theorem dX3_readItems_36 : decode cX3_readItems 36 = .ok (.aload_n 0, 1) := dk_42 (dk_at dksX3_readItems_1 12 rfl rfl)
theorem dX3_readItems_37 : decode cX3_readItems 37 = .ok (.invokevirtual 141, 3) := dk_182 0 141 (dk_at dksX3_readItems_1 13 rfl rfl)
theorem dX3_readItems_40 : decode cX3_readItems 40 = .ok (.invokestatic 224, 3) := dk_184 0 224 (dk_at dksX3_readItems_1 16 rfl rfl)
theorem dX3_readItems_43 : decode cX3_readItems 43 = .ok (.istore 6, 2) := dk_54 6 (dk_at dksX3_readItems_1 19 rfl rfl)
theorem dX3_readItems_45 : decode cX3_readItems 45 = .ok (.iload 6, 2) := dk_21 6 (dk_at dksX3_readItems_1 21 rfl rfl)
theorem dX3_readItems_47 : decode cX3_readItems 47 = .ok (.iconst (-1), 1) := dk_2 (dk_at dksX3_readItems_1 23 rfl rfl)
theorem dX3_readItems_48 : decode cX3_readItems 48 = .ok (.if_icmp .eq 84, 3) := dk_159 0 84 (dk_at dksX3_readItems_2 0 rfl rfl)
theorem dX3_readItems_51 : decode cX3_readItems 51 = .ok (.aload_n 0, 1) := dk_42 (dk_at dksX3_readItems_2 3 rfl rfl)
theorem dX3_readItems_52 : decode cX3_readItems 52 = .ok (.getfield 131, 3) := dk_180 0 131 (dk_at dksX3_readItems_2 4 rfl rfl)
theorem dX3_readItems_55 : decode cX3_readItems 55 = .ok (.iconst (-1), 1) := dk_2 (dk_at dksX3_readItems_2 7 rfl rfl)
theorem dX3_readItems_56 : decode cX3_readItems 56 = .ok (.if_icmp .ne 76, 3) := dk_160 0 76 (dk_at dksX3_readItems_2 8 rfl rfl)
theorem dX3_readItems_59 : decode cX3_readItems 59 = .ok (.iload 5, 2) := dk_21 5 (dk_at dksX3_readItems_2 11 rfl rfl)
theorem dX3_readItems_61 : decode cX3_readItems 61 = .ok (.iload 6, 2) := dk_21 6 (dk_at dksX3_readItems_2 13 rfl rfl)
theorem dX3_readItems_63 : decode cX3_readItems 63 = .ok (.invokestatic 228, 3) := dk_184 0 228 (dk_at dksX3_readItems_2 15 rfl rfl)
theorem dX3_readItems_66 : decode cX3_readItems 66 = .ok (.ifCond .eq 9, 3) := dk_153 0 9 (dk_at dksX3_readItems_2 18 rfl rfl)
theorem dX3_readItems_69 : decode cX3_readItems 69 = .ok (.aload_n 0, 1) := dk_42 (dk_at dksX3_readItems_2 21 rfl rfl)
theorem dX3_readItems_70 : decode cX3_readItems 70 = .ok (.invokevirtual 137, 3) := dk_182 0 137 (dk_at dksX3_readItems_3 0 rfl rfl)
theorem dX3_readItems_73 : decode cX3_readItems 73 = .ok (.pop, 1) := dk_87 (dk_at dksX3_readItems_3 3 rfl rfl)
theorem dX3_readItems_74 : decode cX3_readItems 74 = .ok (.return_, 1) := dk_177 (dk_at dksX3_readItems_3 4 rfl rfl)
theorem dX3_readItems_75 : decode cX3_readItems 75 = .ok (.iload 5, 2) := dk_21 5 (dk_at dksX3_readItems_3 5 rfl rfl)
theorem dX3_readItems_77 : decode cX3_readItems 77 = .ok (.iconst 1, 1) := dk_4 (dk_at dksX3_readItems_3 7 rfl rfl)
theorem dX3_readItems_78 : decode cX3_readItems 78 = .ok (.iload 6, 2) := dk_21 6 (dk_at dksX3_readItems_3 8 rfl rfl)
theorem dX3_readItems_80 : decode cX3_readItems 80 = .ok (.ishl, 1) := dk_120 (dk_at dksX3_readItems_3 10 rfl rfl)
theorem dX3_readItems_81 : decode cX3_readItems 81 = .ok (.ior, 1) := dk_128 (dk_at dksX3_readItems_3 11 rfl rfl)
theorem dX3_readItems_82 : decode cX3_readItems 82 = .ok (.istore 5, 2) := dk_54 5 (dk_at dksX3_readItems_3 12 rfl rfl)
theorem dX3_readItems_84 : decode cX3_readItems 84 = .ok (.aload_n 0, 1) := dk_42 (dk_at dksX3_readItems_3 14 rfl rfl)
theorem dX3_readItems_85 : decode cX3_readItems 85 = .ok (.dup, 1) := dk_89 (dk_at dksX3_readItems_3 15 rfl rfl)
theorem dX3_readItems_86 : decode cX3_readItems 86 = .ok (.getfield 122, 3) := dk_180 0 122 (dk_at dksX3_readItems_3 16 rfl rfl)
theorem dX3_readItems_89 : decode cX3_readItems 89 = .ok (.iconst 1, 1) := dk_4 (dk_at dksX3_readItems_3 19 rfl rfl)
theorem dX3_readItems_90 : decode cX3_readItems 90 = .ok (.iadd, 1) := dk_96 (dk_at dksX3_readItems_3 20 rfl rfl)
theorem dX3_readItems_91 : decode cX3_readItems 91 = .ok (.putfield 122, 3) := dk_181 0 122 (dk_at dksX3_readItems_3 21 rfl rfl)
theorem dX3_readItems_94 : decode cX3_readItems 94 = .ok (.aload_n 2, 1) := dk_44 (dk_at dksX3_readItems_4 0 rfl rfl)
theorem dX3_readItems_95 : decode cX3_readItems 95 = .ok (.iload_n 3, 1) := dk_29 (dk_at dksX3_readItems_4 1 rfl rfl)
theorem dX3_readItems_96 : decode cX3_readItems 96 = .ok (.iload 6, 2) := dk_21 6 (dk_at dksX3_readItems_4 2 rfl rfl)
theorem dX3_readItems_98 : decode cX3_readItems 98 = .ok (.iadd, 1) := dk_96 (dk_at dksX3_readItems_4 4 rfl rfl)
theorem dX3_readItems_99 : decode cX3_readItems 99 = .ok (.aload_n 0, 1) := dk_42 (dk_at dksX3_readItems_4 5 rfl rfl)
theorem dX3_readItems_100 : decode cX3_readItems 100 = .ok (.iload_n 1, 1) := dk_27 (dk_at dksX3_readItems_4 6 rfl rfl)
theorem dX3_readItems_101 : decode cX3_readItems 101 = .ok (.iload 6, 2) := dk_21 6 (dk_at dksX3_readItems_4 7 rfl rfl)
theorem dX3_readItems_103 : decode cX3_readItems 103 = .ok (.invokestatic 232, 3) := dk_184 0 232 (dk_at dksX3_readItems_4 9 rfl rfl)
theorem dX3_readItems_106 : decode cX3_readItems 106 = .ok (.invokevirtual 235, 3) := dk_182 0 235 (dk_at dksX3_readItems_4 12 rfl rfl)
theorem dX3_readItems_109 : decode cX3_readItems 109 = .ok (.iastore, 1) := dk_79 (dk_at dksX3_readItems_4 15 rfl rfl)
theorem dX3_readItems_110 : decode cX3_readItems 110 = .ok (.aload_n 0, 1) := dk_42 (dk_at dksX3_readItems_4 16 rfl rfl)
theorem dX3_readItems_111 : decode cX3_readItems 111 = .ok (.getfield 131, 3) := dk_180 0 131 (dk_at dksX3_readItems_4 17 rfl rfl)
theorem dX3_readItems_114 : decode cX3_readItems 114 = .ok (.iconst (-1), 1) := dk_2 (dk_at dksX3_readItems_4 20 rfl rfl)
theorem dX3_readItems_115 : decode cX3_readItems 115 = .ok (.if_icmp .ne (-70), 3) := dk_160 255 186 (dk_at dksX3_readItems_4 21 rfl rfl)
theorem dX3_readItems_118 : decode cX3_readItems 118 = .ok (.aload 4, 2) := dk_25 4 (dk_at dksX3_readItems_5 0 rfl rfl)
theorem dX3_readItems_120 : decode cX3_readItems 120 = .ok (.aload_n 0, 1) := dk_42 (dk_at dksX3_readItems_5 2 rfl rfl)
theorem dX3_readItems_121 : decode cX3_readItems 121 = .ok (.invokevirtual 141, 3) := dk_182 0 141 (dk_at dksX3_readItems_5 3 rfl rfl)
theorem dX3_readItems_124 : decode cX3_readItems 124 = .ok (.invokestatic 224, 3) := dk_184 0 224 (dk_at dksX3_readItems_5 6 rfl rfl)
theorem dX3_readItems_127 : decode cX3_readItems 127 = .ok (.istore 6, 2) := dk_54 6 (dk_at dksX3_readItems_5 9 rfl rfl)
theorem dX3_readItems_129 : decode cX3_readItems 129 = .ok (.goto (-84), 3) := dk_167 255 172 (dk_at dksX3_readItems_5 11 rfl rfl)
theorem dX3_readItems_132 : decode cX3_readItems 132 = .ok (.return_, 1) := dk_177 (dk_at dksX3_readItems_5 14 rfl rfl)
abbrev cX3_spotOf : ByteArray := prog_14_method_28_code
def yX3_spotOf : MethodName := ⟨RX3, "spotOf", "(Ljava/lang/String;I)I"⟩
def dkwX3_spotOf_1 : List UInt8 := [167, 255, 234, 2, 172]
abbrev dktX3_spotOf_1 : List UInt8 := dkwX3_spotOf_1 ++ []
def dkwX3_spotOf_0 : List UInt8 := [3, 61, 28, 42, 182, 0, 102, 162, 0, 20, 42, 28, 182, 0, 108, 27, 160, 0, 5, 28, 172, 132, 2, 1]
abbrev dktX3_spotOf_0 : List UInt8 := dkwX3_spotOf_0 ++ dktX3_spotOf_1
theorem dksX3_spotOf_0 : cX3_spotOf.data.toList.drop 0 = dktX3_spotOf_0 := by decide +kernel
theorem dksX3_spotOf_1 : cX3_spotOf.data.toList.drop 24 = dktX3_spotOf_1 := dk_seg dksX3_spotOf_0 24 rfl rfl
theorem dX3_spotOf_0 : decode cX3_spotOf 0 = .ok (.iconst 0, 1) := dk_3 (dk_at dksX3_spotOf_0 0 rfl rfl)
theorem dX3_spotOf_1 : decode cX3_spotOf 1 = .ok (.istore_n 2, 1) := dk_61 (dk_at dksX3_spotOf_0 1 rfl rfl)
theorem dX3_spotOf_2 : decode cX3_spotOf 2 = .ok (.iload_n 2, 1) := dk_28 (dk_at dksX3_spotOf_0 2 rfl rfl)
theorem dX3_spotOf_3 : decode cX3_spotOf 3 = .ok (.aload_n 0, 1) := dk_42 (dk_at dksX3_spotOf_0 3 rfl rfl)
theorem dX3_spotOf_4 : decode cX3_spotOf 4 = .ok (.invokevirtual 102, 3) := dk_182 0 102 (dk_at dksX3_spotOf_0 4 rfl rfl)
theorem dX3_spotOf_7 : decode cX3_spotOf 7 = .ok (.if_icmp .ge 20, 3) := dk_162 0 20 (dk_at dksX3_spotOf_0 7 rfl rfl)
theorem dX3_spotOf_10 : decode cX3_spotOf 10 = .ok (.aload_n 0, 1) := dk_42 (dk_at dksX3_spotOf_0 10 rfl rfl)
theorem dX3_spotOf_11 : decode cX3_spotOf 11 = .ok (.iload_n 2, 1) := dk_28 (dk_at dksX3_spotOf_0 11 rfl rfl)
theorem dX3_spotOf_12 : decode cX3_spotOf 12 = .ok (.invokevirtual 108, 3) := dk_182 0 108 (dk_at dksX3_spotOf_0 12 rfl rfl)
theorem dX3_spotOf_15 : decode cX3_spotOf 15 = .ok (.iload_n 1, 1) := dk_27 (dk_at dksX3_spotOf_0 15 rfl rfl)
theorem dX3_spotOf_16 : decode cX3_spotOf 16 = .ok (.if_icmp .ne 5, 3) := dk_160 0 5 (dk_at dksX3_spotOf_0 16 rfl rfl)
theorem dX3_spotOf_19 : decode cX3_spotOf 19 = .ok (.iload_n 2, 1) := dk_28 (dk_at dksX3_spotOf_0 19 rfl rfl)
theorem dX3_spotOf_20 : decode cX3_spotOf 20 = .ok (.ireturn, 1) := dk_172 (dk_at dksX3_spotOf_0 20 rfl rfl)
theorem dX3_spotOf_21 : decode cX3_spotOf 21 = .ok (.iinc 2 1, 3) := dk_132 2 1 (dk_at dksX3_spotOf_0 21 rfl rfl)
theorem dX3_spotOf_24 : decode cX3_spotOf 24 = .ok (.goto (-22), 3) := dk_167 255 234 (dk_at dksX3_spotOf_1 0 rfl rfl)
theorem dX3_spotOf_27 : decode cX3_spotOf 27 = .ok (.iconst (-1), 1) := dk_2 (dk_at dksX3_spotOf_1 3 rfl rfl)
theorem dX3_spotOf_28 : decode cX3_spotOf 28 = .ok (.ireturn, 1) := dk_172 (dk_at dksX3_spotOf_1 4 rfl rfl)
abbrev cX3_has : ByteArray := prog_14_method_4_code
def yX3_has : MethodName := ⟨RX3, "has", "(II)Z"⟩
def dkwX3_has_0 : List UInt8 := [26, 27, 122, 4, 126, 4, 160, 0, 7, 4, 167, 0, 4, 3, 172]
abbrev dktX3_has_0 : List UInt8 := dkwX3_has_0 ++ []
theorem dksX3_has_0 : cX3_has.data.toList.drop 0 = dktX3_has_0 := by decide +kernel
theorem dX3_has_0 : decode cX3_has 0 = .ok (.iload_n 0, 1) := dk_26 (dk_at dksX3_has_0 0 rfl rfl)
theorem dX3_has_1 : decode cX3_has 1 = .ok (.iload_n 1, 1) := dk_27 (dk_at dksX3_has_0 1 rfl rfl)
theorem dX3_has_2 : decode cX3_has 2 = .ok (.ishr, 1) := dk_122 (dk_at dksX3_has_0 2 rfl rfl)
theorem dX3_has_3 : decode cX3_has 3 = .ok (.iconst 1, 1) := dk_4 (dk_at dksX3_has_0 3 rfl rfl)
theorem dX3_has_4 : decode cX3_has 4 = .ok (.iand, 1) := dk_126 (dk_at dksX3_has_0 4 rfl rfl)
theorem dX3_has_5 : decode cX3_has 5 = .ok (.iconst 1, 1) := dk_4 (dk_at dksX3_has_0 5 rfl rfl)
theorem dX3_has_6 : decode cX3_has 6 = .ok (.if_icmp .ne 7, 3) := dk_160 0 7 (dk_at dksX3_has_0 6 rfl rfl)
theorem dX3_has_9 : decode cX3_has 9 = .ok (.iconst 1, 1) := dk_4 (dk_at dksX3_has_0 9 rfl rfl)
theorem dX3_has_10 : decode cX3_has 10 = .ok (.goto 4, 3) := dk_167 0 4 (dk_at dksX3_has_0 10 rfl rfl)
theorem dX3_has_13 : decode cX3_has 13 = .ok (.iconst 0, 1) := dk_3 (dk_at dksX3_has_0 13 rfl rfl)
theorem dX3_has_14 : decode cX3_has 14 = .ok (.ireturn, 1) := dk_172 (dk_at dksX3_has_0 14 rfl rfl)
abbrev cX3_mostOf : ByteArray := prog_14_method_30_code
def yX3_mostOf : MethodName := ⟨RX3, "mostOf", "(II)I"⟩
def dkwX3_mostOf_2 : List UInt8 := [160, 0, 8, 16, 9, 167, 0, 5, 16, 20, 172]
abbrev dktX3_mostOf_2 : List UInt8 := dkwX3_mostOf_2 ++ []
def dkwX3_mostOf_1 : List UInt8 := [27, 154, 0, 8, 16, 30, 167, 0, 5, 16, 9, 172, 27, 5, 162, 0, 7, 6, 167, 0, 15, 27, 5]
abbrev dktX3_mostOf_1 : List UInt8 := dkwX3_mostOf_1 ++ dktX3_mostOf_2
def dkwX3_mostOf_0 : List UInt8 := [26, 16, 115, 160, 0, 15, 27, 154, 0, 8, 16, 9, 167, 0, 5, 16, 99, 172, 26, 16, 107, 160, 0, 15]
abbrev dktX3_mostOf_0 : List UInt8 := dkwX3_mostOf_0 ++ dktX3_mostOf_1
theorem dksX3_mostOf_0 : cX3_mostOf.data.toList.drop 0 = dktX3_mostOf_0 := by decide +kernel
theorem dksX3_mostOf_1 : cX3_mostOf.data.toList.drop 24 = dktX3_mostOf_1 := dk_seg dksX3_mostOf_0 24 rfl rfl
theorem dksX3_mostOf_2 : cX3_mostOf.data.toList.drop 47 = dktX3_mostOf_2 := dk_seg dksX3_mostOf_1 23 rfl rfl
theorem dX3_mostOf_0 : decode cX3_mostOf 0 = .ok (.iload_n 0, 1) := dk_26 (dk_at dksX3_mostOf_0 0 rfl rfl)
theorem dX3_mostOf_1 : decode cX3_mostOf 1 = .ok (.bipush 115, 2) := dk_16 115 (dk_at dksX3_mostOf_0 1 rfl rfl)
theorem dX3_mostOf_3 : decode cX3_mostOf 3 = .ok (.if_icmp .ne 15, 3) := dk_160 0 15 (dk_at dksX3_mostOf_0 3 rfl rfl)
theorem dX3_mostOf_6 : decode cX3_mostOf 6 = .ok (.iload_n 1, 1) := dk_27 (dk_at dksX3_mostOf_0 6 rfl rfl)
theorem dX3_mostOf_7 : decode cX3_mostOf 7 = .ok (.ifCond .ne 8, 3) := dk_154 0 8 (dk_at dksX3_mostOf_0 7 rfl rfl)
theorem dX3_mostOf_10 : decode cX3_mostOf 10 = .ok (.bipush 9, 2) := dk_16 9 (dk_at dksX3_mostOf_0 10 rfl rfl)
theorem dX3_mostOf_12 : decode cX3_mostOf 12 = .ok (.goto 5, 3) := dk_167 0 5 (dk_at dksX3_mostOf_0 12 rfl rfl)
theorem dX3_mostOf_15 : decode cX3_mostOf 15 = .ok (.bipush 99, 2) := dk_16 99 (dk_at dksX3_mostOf_0 15 rfl rfl)
theorem dX3_mostOf_17 : decode cX3_mostOf 17 = .ok (.ireturn, 1) := dk_172 (dk_at dksX3_mostOf_0 17 rfl rfl)
theorem dX3_mostOf_18 : decode cX3_mostOf 18 = .ok (.iload_n 0, 1) := dk_26 (dk_at dksX3_mostOf_0 18 rfl rfl)
theorem dX3_mostOf_19 : decode cX3_mostOf 19 = .ok (.bipush 107, 2) := dk_16 107 (dk_at dksX3_mostOf_0 19 rfl rfl)
theorem dX3_mostOf_21 : decode cX3_mostOf 21 = .ok (.if_icmp .ne 15, 3) := dk_160 0 15 (dk_at dksX3_mostOf_0 21 rfl rfl)
theorem dX3_mostOf_24 : decode cX3_mostOf 24 = .ok (.iload_n 1, 1) := dk_27 (dk_at dksX3_mostOf_1 0 rfl rfl)
theorem dX3_mostOf_25 : decode cX3_mostOf 25 = .ok (.ifCond .ne 8, 3) := dk_154 0 8 (dk_at dksX3_mostOf_1 1 rfl rfl)
theorem dX3_mostOf_28 : decode cX3_mostOf 28 = .ok (.bipush 30, 2) := dk_16 30 (dk_at dksX3_mostOf_1 4 rfl rfl)
theorem dX3_mostOf_30 : decode cX3_mostOf 30 = .ok (.goto 5, 3) := dk_167 0 5 (dk_at dksX3_mostOf_1 6 rfl rfl)
theorem dX3_mostOf_33 : decode cX3_mostOf 33 = .ok (.bipush 9, 2) := dk_16 9 (dk_at dksX3_mostOf_1 9 rfl rfl)
theorem dX3_mostOf_35 : decode cX3_mostOf 35 = .ok (.ireturn, 1) := dk_172 (dk_at dksX3_mostOf_1 11 rfl rfl)
theorem dX3_mostOf_36 : decode cX3_mostOf 36 = .ok (.iload_n 1, 1) := dk_27 (dk_at dksX3_mostOf_1 12 rfl rfl)
theorem dX3_mostOf_37 : decode cX3_mostOf 37 = .ok (.iconst 2, 1) := dk_5 (dk_at dksX3_mostOf_1 13 rfl rfl)
theorem dX3_mostOf_38 : decode cX3_mostOf 38 = .ok (.if_icmp .ge 7, 3) := dk_162 0 7 (dk_at dksX3_mostOf_1 14 rfl rfl)
theorem dX3_mostOf_41 : decode cX3_mostOf 41 = .ok (.iconst 3, 1) := dk_6 (dk_at dksX3_mostOf_1 17 rfl rfl)
theorem dX3_mostOf_42 : decode cX3_mostOf 42 = .ok (.goto 15, 3) := dk_167 0 15 (dk_at dksX3_mostOf_1 18 rfl rfl)
theorem dX3_mostOf_45 : decode cX3_mostOf 45 = .ok (.iload_n 1, 1) := dk_27 (dk_at dksX3_mostOf_1 21 rfl rfl)
theorem dX3_mostOf_46 : decode cX3_mostOf 46 = .ok (.iconst 2, 1) := dk_5 (dk_at dksX3_mostOf_1 22 rfl rfl)
theorem dX3_mostOf_47 : decode cX3_mostOf 47 = .ok (.if_icmp .ne 8, 3) := dk_160 0 8 (dk_at dksX3_mostOf_2 0 rfl rfl)
theorem dX3_mostOf_50 : decode cX3_mostOf 50 = .ok (.bipush 9, 2) := dk_16 9 (dk_at dksX3_mostOf_2 3 rfl rfl)
theorem dX3_mostOf_52 : decode cX3_mostOf 52 = .ok (.goto 5, 3) := dk_167 0 5 (dk_at dksX3_mostOf_2 5 rfl rfl)
theorem dX3_mostOf_55 : decode cX3_mostOf 55 = .ok (.bipush 20, 2) := dk_16 20 (dk_at dksX3_mostOf_2 8 rfl rfl)
theorem dX3_mostOf_57 : decode cX3_mostOf 57 = .ok (.ireturn, 1) := dk_172 (dk_at dksX3_mostOf_2 10 rfl rfl)
abbrev cX3_number : ByteArray := prog_14_method_29_code
def yX3_number : MethodName := ⟨RX3, "number", "(I)I"⟩
def dkwX3_number_4 : List UInt8 := [181, 0, 122, 42, 182, 0, 137, 87, 29, 172]
abbrev dktX3_number_4 : List UInt8 := dkwX3_number_4 ++ []
def dkwX3_number_3 : List UInt8 := [153, 0, 10, 42, 182, 0, 137, 87, 3, 172, 29, 27, 164, 0, 18, 42, 89, 180, 0, 122, 4, 100]
abbrev dktX3_number_3 : List UInt8 := dkwX3_number_3 ++ dktX3_number_4
def dkwX3_number_2 : List UInt8 := [182, 0, 217, 96, 16, 48, 100, 62, 42, 89, 180, 0, 122, 4, 96, 181, 0, 122, 42, 182, 0, 171]
abbrev dktX3_number_2 : List UInt8 := dkwX3_number_2 ++ dktX3_number_3
def dkwX3_number_1 : List UInt8 := [42, 89, 180, 0, 122, 4, 96, 181, 0, 122, 42, 182, 0, 171, 153, 0, 26, 16, 10, 29, 104, 42]
abbrev dktX3_number_1 : List UInt8 := dkwX3_number_1 ++ dktX3_number_2
def dkwX3_number_0 : List UInt8 := [42, 182, 0, 141, 61, 42, 182, 0, 171, 154, 0, 10, 42, 182, 0, 137, 87, 3, 172, 28, 16, 48, 100, 62]
abbrev dktX3_number_0 : List UInt8 := dkwX3_number_0 ++ dktX3_number_1
theorem dksX3_number_0 : cX3_number.data.toList.drop 0 = dktX3_number_0 := by decide +kernel
theorem dksX3_number_1 : cX3_number.data.toList.drop 24 = dktX3_number_1 := dk_seg dksX3_number_0 24 rfl rfl
theorem dksX3_number_2 : cX3_number.data.toList.drop 46 = dktX3_number_2 := dk_seg dksX3_number_1 22 rfl rfl
theorem dksX3_number_3 : cX3_number.data.toList.drop 68 = dktX3_number_3 := dk_seg dksX3_number_2 22 rfl rfl
theorem dksX3_number_4 : cX3_number.data.toList.drop 90 = dktX3_number_4 := dk_seg dksX3_number_3 22 rfl rfl
theorem dX3_number_0 : decode cX3_number 0 = .ok (.aload_n 0, 1) := dk_42 (dk_at dksX3_number_0 0 rfl rfl)
theorem dX3_number_1 : decode cX3_number 1 = .ok (.invokevirtual 141, 3) := dk_182 0 141 (dk_at dksX3_number_0 1 rfl rfl)
theorem dX3_number_4 : decode cX3_number 4 = .ok (.istore_n 2, 1) := dk_61 (dk_at dksX3_number_0 4 rfl rfl)
theorem dX3_number_5 : decode cX3_number 5 = .ok (.aload_n 0, 1) := dk_42 (dk_at dksX3_number_0 5 rfl rfl)
theorem dX3_number_6 : decode cX3_number 6 = .ok (.invokevirtual 171, 3) := dk_182 0 171 (dk_at dksX3_number_0 6 rfl rfl)
theorem dX3_number_9 : decode cX3_number 9 = .ok (.ifCond .ne 10, 3) := dk_154 0 10 (dk_at dksX3_number_0 9 rfl rfl)
theorem dX3_number_12 : decode cX3_number 12 = .ok (.aload_n 0, 1) := dk_42 (dk_at dksX3_number_0 12 rfl rfl)
theorem dX3_number_13 : decode cX3_number 13 = .ok (.invokevirtual 137, 3) := dk_182 0 137 (dk_at dksX3_number_0 13 rfl rfl)
theorem dX3_number_16 : decode cX3_number 16 = .ok (.pop, 1) := dk_87 (dk_at dksX3_number_0 16 rfl rfl)
theorem dX3_number_17 : decode cX3_number 17 = .ok (.iconst 0, 1) := dk_3 (dk_at dksX3_number_0 17 rfl rfl)
theorem dX3_number_18 : decode cX3_number 18 = .ok (.ireturn, 1) := dk_172 (dk_at dksX3_number_0 18 rfl rfl)
theorem dX3_number_19 : decode cX3_number 19 = .ok (.iload_n 2, 1) := dk_28 (dk_at dksX3_number_0 19 rfl rfl)
theorem dX3_number_20 : decode cX3_number 20 = .ok (.bipush 48, 2) := dk_16 48 (dk_at dksX3_number_0 20 rfl rfl)
theorem dX3_number_22 : decode cX3_number 22 = .ok (.isub, 1) := dk_100 (dk_at dksX3_number_0 22 rfl rfl)
theorem dX3_number_23 : decode cX3_number 23 = .ok (.istore_n 3, 1) := dk_62 (dk_at dksX3_number_0 23 rfl rfl)
theorem dX3_number_24 : decode cX3_number 24 = .ok (.aload_n 0, 1) := dk_42 (dk_at dksX3_number_1 0 rfl rfl)
theorem dX3_number_25 : decode cX3_number 25 = .ok (.dup, 1) := dk_89 (dk_at dksX3_number_1 1 rfl rfl)
theorem dX3_number_26 : decode cX3_number 26 = .ok (.getfield 122, 3) := dk_180 0 122 (dk_at dksX3_number_1 2 rfl rfl)
theorem dX3_number_29 : decode cX3_number 29 = .ok (.iconst 1, 1) := dk_4 (dk_at dksX3_number_1 5 rfl rfl)
theorem dX3_number_30 : decode cX3_number 30 = .ok (.iadd, 1) := dk_96 (dk_at dksX3_number_1 6 rfl rfl)
theorem dX3_number_31 : decode cX3_number 31 = .ok (.putfield 122, 3) := dk_181 0 122 (dk_at dksX3_number_1 7 rfl rfl)
theorem dX3_number_34 : decode cX3_number 34 = .ok (.aload_n 0, 1) := dk_42 (dk_at dksX3_number_1 10 rfl rfl)
theorem dX3_number_35 : decode cX3_number 35 = .ok (.invokevirtual 171, 3) := dk_182 0 171 (dk_at dksX3_number_1 11 rfl rfl)
theorem dX3_number_38 : decode cX3_number 38 = .ok (.ifCond .eq 26, 3) := dk_153 0 26 (dk_at dksX3_number_1 14 rfl rfl)
theorem dX3_number_41 : decode cX3_number 41 = .ok (.bipush 10, 2) := dk_16 10 (dk_at dksX3_number_1 17 rfl rfl)
theorem dX3_number_43 : decode cX3_number 43 = .ok (.iload_n 3, 1) := dk_29 (dk_at dksX3_number_1 19 rfl rfl)
theorem dX3_number_44 : decode cX3_number 44 = .ok (.imul, 1) := dk_104 (dk_at dksX3_number_1 20 rfl rfl)
theorem dX3_number_45 : decode cX3_number 45 = .ok (.aload_n 0, 1) := dk_42 (dk_at dksX3_number_1 21 rfl rfl)
theorem dX3_number_46 : decode cX3_number 46 = .ok (.invokevirtual 217, 3) := dk_182 0 217 (dk_at dksX3_number_2 0 rfl rfl)
theorem dX3_number_49 : decode cX3_number 49 = .ok (.iadd, 1) := dk_96 (dk_at dksX3_number_2 3 rfl rfl)
theorem dX3_number_50 : decode cX3_number 50 = .ok (.bipush 48, 2) := dk_16 48 (dk_at dksX3_number_2 4 rfl rfl)
theorem dX3_number_52 : decode cX3_number 52 = .ok (.isub, 1) := dk_100 (dk_at dksX3_number_2 6 rfl rfl)
theorem dX3_number_53 : decode cX3_number 53 = .ok (.istore_n 3, 1) := dk_62 (dk_at dksX3_number_2 7 rfl rfl)
theorem dX3_number_54 : decode cX3_number 54 = .ok (.aload_n 0, 1) := dk_42 (dk_at dksX3_number_2 8 rfl rfl)
theorem dX3_number_55 : decode cX3_number 55 = .ok (.dup, 1) := dk_89 (dk_at dksX3_number_2 9 rfl rfl)
theorem dX3_number_56 : decode cX3_number 56 = .ok (.getfield 122, 3) := dk_180 0 122 (dk_at dksX3_number_2 10 rfl rfl)
theorem dX3_number_59 : decode cX3_number 59 = .ok (.iconst 1, 1) := dk_4 (dk_at dksX3_number_2 13 rfl rfl)
theorem dX3_number_60 : decode cX3_number 60 = .ok (.iadd, 1) := dk_96 (dk_at dksX3_number_2 14 rfl rfl)
theorem dX3_number_61 : decode cX3_number 61 = .ok (.putfield 122, 3) := dk_181 0 122 (dk_at dksX3_number_2 15 rfl rfl)
theorem dX3_number_64 : decode cX3_number 64 = .ok (.aload_n 0, 1) := dk_42 (dk_at dksX3_number_2 18 rfl rfl)
theorem dX3_number_65 : decode cX3_number 65 = .ok (.invokevirtual 171, 3) := dk_182 0 171 (dk_at dksX3_number_2 19 rfl rfl)
theorem dX3_number_68 : decode cX3_number 68 = .ok (.ifCond .eq 10, 3) := dk_153 0 10 (dk_at dksX3_number_3 0 rfl rfl)
theorem dX3_number_71 : decode cX3_number 71 = .ok (.aload_n 0, 1) := dk_42 (dk_at dksX3_number_3 3 rfl rfl)
theorem dX3_number_72 : decode cX3_number 72 = .ok (.invokevirtual 137, 3) := dk_182 0 137 (dk_at dksX3_number_3 4 rfl rfl)
theorem dX3_number_75 : decode cX3_number 75 = .ok (.pop, 1) := dk_87 (dk_at dksX3_number_3 7 rfl rfl)
theorem dX3_number_76 : decode cX3_number 76 = .ok (.iconst 0, 1) := dk_3 (dk_at dksX3_number_3 8 rfl rfl)
theorem dX3_number_77 : decode cX3_number 77 = .ok (.ireturn, 1) := dk_172 (dk_at dksX3_number_3 9 rfl rfl)
theorem dX3_number_78 : decode cX3_number 78 = .ok (.iload_n 3, 1) := dk_29 (dk_at dksX3_number_3 10 rfl rfl)
theorem dX3_number_79 : decode cX3_number 79 = .ok (.iload_n 1, 1) := dk_27 (dk_at dksX3_number_3 11 rfl rfl)
theorem dX3_number_80 : decode cX3_number 80 = .ok (.if_icmp .le 18, 3) := dk_164 0 18 (dk_at dksX3_number_3 12 rfl rfl)
theorem dX3_number_83 : decode cX3_number 83 = .ok (.aload_n 0, 1) := dk_42 (dk_at dksX3_number_3 15 rfl rfl)
theorem dX3_number_84 : decode cX3_number 84 = .ok (.dup, 1) := dk_89 (dk_at dksX3_number_3 16 rfl rfl)
theorem dX3_number_85 : decode cX3_number 85 = .ok (.getfield 122, 3) := dk_180 0 122 (dk_at dksX3_number_3 17 rfl rfl)
theorem dX3_number_88 : decode cX3_number 88 = .ok (.iconst 1, 1) := dk_4 (dk_at dksX3_number_3 20 rfl rfl)
theorem dX3_number_89 : decode cX3_number 89 = .ok (.isub, 1) := dk_100 (dk_at dksX3_number_3 21 rfl rfl)
theorem dX3_number_90 : decode cX3_number 90 = .ok (.putfield 122, 3) := dk_181 0 122 (dk_at dksX3_number_4 0 rfl rfl)
theorem dX3_number_93 : decode cX3_number 93 = .ok (.aload_n 0, 1) := dk_42 (dk_at dksX3_number_4 3 rfl rfl)
theorem dX3_number_94 : decode cX3_number 94 = .ok (.invokevirtual 137, 3) := dk_182 0 137 (dk_at dksX3_number_4 4 rfl rfl)
theorem dX3_number_97 : decode cX3_number 97 = .ok (.pop, 1) := dk_87 (dk_at dksX3_number_4 7 rfl rfl)
theorem dX3_number_98 : decode cX3_number 98 = .ok (.iload_n 3, 1) := dk_29 (dk_at dksX3_number_4 8 rfl rfl)
theorem dX3_number_99 : decode cX3_number 99 = .ok (.ireturn, 1) := dk_172 (dk_at dksX3_number_4 9 rfl rfl)
abbrev cX3_isDigit : ByteArray := prog_14_method_14_code
def yX3_isDigit : MethodName := ⟨RX3, "isDigit", "()Z"⟩
def dkwX3_isDigit_2 : List UInt8 := [163, 0, 7, 4, 167, 0, 4, 3, 172]
abbrev dktX3_isDigit_2 : List UInt8 := dkwX3_isDigit_2 ++ []
def dkwX3_isDigit_1 : List UInt8 := [51, 16, 48, 161, 0, 26, 42, 180, 0, 23, 42, 180, 0, 128, 42, 180, 0, 122, 96, 51, 16, 57]
abbrev dktX3_isDigit_1 : List UInt8 := dkwX3_isDigit_1 ++ dktX3_isDigit_2
def dkwX3_isDigit_0 : List UInt8 := [42, 180, 0, 122, 42, 180, 0, 125, 162, 0, 45, 42, 180, 0, 23, 42, 180, 0, 128, 42, 180, 0, 122, 96]
abbrev dktX3_isDigit_0 : List UInt8 := dkwX3_isDigit_0 ++ dktX3_isDigit_1
theorem dksX3_isDigit_0 : cX3_isDigit.data.toList.drop 0 = dktX3_isDigit_0 := by decide +kernel
theorem dksX3_isDigit_1 : cX3_isDigit.data.toList.drop 24 = dktX3_isDigit_1 := dk_seg dksX3_isDigit_0 24 rfl rfl
theorem dksX3_isDigit_2 : cX3_isDigit.data.toList.drop 46 = dktX3_isDigit_2 := dk_seg dksX3_isDigit_1 22 rfl rfl
theorem dX3_isDigit_0 : decode cX3_isDigit 0 = .ok (.aload_n 0, 1) := dk_42 (dk_at dksX3_isDigit_0 0 rfl rfl)
theorem dX3_isDigit_1 : decode cX3_isDigit 1 = .ok (.getfield 122, 3) := dk_180 0 122 (dk_at dksX3_isDigit_0 1 rfl rfl)
theorem dX3_isDigit_4 : decode cX3_isDigit 4 = .ok (.aload_n 0, 1) := dk_42 (dk_at dksX3_isDigit_0 4 rfl rfl)
theorem dX3_isDigit_5 : decode cX3_isDigit 5 = .ok (.getfield 125, 3) := dk_180 0 125 (dk_at dksX3_isDigit_0 5 rfl rfl)
theorem dX3_isDigit_8 : decode cX3_isDigit 8 = .ok (.if_icmp .ge 45, 3) := dk_162 0 45 (dk_at dksX3_isDigit_0 8 rfl rfl)
theorem dX3_isDigit_11 : decode cX3_isDigit 11 = .ok (.aload_n 0, 1) := dk_42 (dk_at dksX3_isDigit_0 11 rfl rfl)
theorem dX3_isDigit_12 : decode cX3_isDigit 12 = .ok (.getfield 23, 3) := dk_180 0 23 (dk_at dksX3_isDigit_0 12 rfl rfl)
theorem dX3_isDigit_15 : decode cX3_isDigit 15 = .ok (.aload_n 0, 1) := dk_42 (dk_at dksX3_isDigit_0 15 rfl rfl)
theorem dX3_isDigit_16 : decode cX3_isDigit 16 = .ok (.getfield 128, 3) := dk_180 0 128 (dk_at dksX3_isDigit_0 16 rfl rfl)
theorem dX3_isDigit_19 : decode cX3_isDigit 19 = .ok (.aload_n 0, 1) := dk_42 (dk_at dksX3_isDigit_0 19 rfl rfl)
theorem dX3_isDigit_20 : decode cX3_isDigit 20 = .ok (.getfield 122, 3) := dk_180 0 122 (dk_at dksX3_isDigit_0 20 rfl rfl)
theorem dX3_isDigit_23 : decode cX3_isDigit 23 = .ok (.iadd, 1) := dk_96 (dk_at dksX3_isDigit_0 23 rfl rfl)
theorem dX3_isDigit_24 : decode cX3_isDigit 24 = .ok (.baload, 1) := dk_51 (dk_at dksX3_isDigit_1 0 rfl rfl)
theorem dX3_isDigit_25 : decode cX3_isDigit 25 = .ok (.bipush 48, 2) := dk_16 48 (dk_at dksX3_isDigit_1 1 rfl rfl)
theorem dX3_isDigit_27 : decode cX3_isDigit 27 = .ok (.if_icmp .lt 26, 3) := dk_161 0 26 (dk_at dksX3_isDigit_1 3 rfl rfl)
theorem dX3_isDigit_30 : decode cX3_isDigit 30 = .ok (.aload_n 0, 1) := dk_42 (dk_at dksX3_isDigit_1 6 rfl rfl)
theorem dX3_isDigit_31 : decode cX3_isDigit 31 = .ok (.getfield 23, 3) := dk_180 0 23 (dk_at dksX3_isDigit_1 7 rfl rfl)
theorem dX3_isDigit_34 : decode cX3_isDigit 34 = .ok (.aload_n 0, 1) := dk_42 (dk_at dksX3_isDigit_1 10 rfl rfl)
theorem dX3_isDigit_35 : decode cX3_isDigit 35 = .ok (.getfield 128, 3) := dk_180 0 128 (dk_at dksX3_isDigit_1 11 rfl rfl)
theorem dX3_isDigit_38 : decode cX3_isDigit 38 = .ok (.aload_n 0, 1) := dk_42 (dk_at dksX3_isDigit_1 14 rfl rfl)
theorem dX3_isDigit_39 : decode cX3_isDigit 39 = .ok (.getfield 122, 3) := dk_180 0 122 (dk_at dksX3_isDigit_1 15 rfl rfl)
theorem dX3_isDigit_42 : decode cX3_isDigit 42 = .ok (.iadd, 1) := dk_96 (dk_at dksX3_isDigit_1 18 rfl rfl)
theorem dX3_isDigit_43 : decode cX3_isDigit 43 = .ok (.baload, 1) := dk_51 (dk_at dksX3_isDigit_1 19 rfl rfl)
theorem dX3_isDigit_44 : decode cX3_isDigit 44 = .ok (.bipush 57, 2) := dk_16 57 (dk_at dksX3_isDigit_1 20 rfl rfl)
theorem dX3_isDigit_46 : decode cX3_isDigit 46 = .ok (.if_icmp .gt 7, 3) := dk_163 0 7 (dk_at dksX3_isDigit_2 0 rfl rfl)
theorem dX3_isDigit_49 : decode cX3_isDigit 49 = .ok (.iconst 1, 1) := dk_4 (dk_at dksX3_isDigit_2 3 rfl rfl)
theorem dX3_isDigit_50 : decode cX3_isDigit 50 = .ok (.goto 4, 3) := dk_167 0 4 (dk_at dksX3_isDigit_2 4 rfl rfl)
theorem dX3_isDigit_53 : decode cX3_isDigit 53 = .ok (.iconst 0, 1) := dk_3 (dk_at dksX3_isDigit_2 7 rfl rfl)
theorem dX3_isDigit_54 : decode cX3_isDigit 54 = .ok (.ireturn, 1) := dk_172 (dk_at dksX3_isDigit_2 8 rfl rfl)
abbrev cX3_here : ByteArray := prog_14_method_27_code
def yX3_here : MethodName := ⟨RX3, "here", "()I"⟩
def dkwX3_here_1 : List UInt8 := [51, 17, 0, 255, 126, 167, 0, 4, 2, 172]
abbrev dktX3_here_1 : List UInt8 := dkwX3_here_1 ++ []
def dkwX3_here_0 : List UInt8 := [42, 180, 0, 122, 42, 180, 0, 125, 162, 0, 24, 42, 180, 0, 23, 42, 180, 0, 128, 42, 180, 0, 122, 96]
abbrev dktX3_here_0 : List UInt8 := dkwX3_here_0 ++ dktX3_here_1
theorem dksX3_here_0 : cX3_here.data.toList.drop 0 = dktX3_here_0 := by decide +kernel
theorem dksX3_here_1 : cX3_here.data.toList.drop 24 = dktX3_here_1 := dk_seg dksX3_here_0 24 rfl rfl
theorem dX3_here_0 : decode cX3_here 0 = .ok (.aload_n 0, 1) := dk_42 (dk_at dksX3_here_0 0 rfl rfl)
theorem dX3_here_1 : decode cX3_here 1 = .ok (.getfield 122, 3) := dk_180 0 122 (dk_at dksX3_here_0 1 rfl rfl)
theorem dX3_here_4 : decode cX3_here 4 = .ok (.aload_n 0, 1) := dk_42 (dk_at dksX3_here_0 4 rfl rfl)
theorem dX3_here_5 : decode cX3_here 5 = .ok (.getfield 125, 3) := dk_180 0 125 (dk_at dksX3_here_0 5 rfl rfl)
theorem dX3_here_8 : decode cX3_here 8 = .ok (.if_icmp .ge 24, 3) := dk_162 0 24 (dk_at dksX3_here_0 8 rfl rfl)
theorem dX3_here_11 : decode cX3_here 11 = .ok (.aload_n 0, 1) := dk_42 (dk_at dksX3_here_0 11 rfl rfl)
theorem dX3_here_12 : decode cX3_here 12 = .ok (.getfield 23, 3) := dk_180 0 23 (dk_at dksX3_here_0 12 rfl rfl)
theorem dX3_here_15 : decode cX3_here 15 = .ok (.aload_n 0, 1) := dk_42 (dk_at dksX3_here_0 15 rfl rfl)
theorem dX3_here_16 : decode cX3_here 16 = .ok (.getfield 128, 3) := dk_180 0 128 (dk_at dksX3_here_0 16 rfl rfl)
theorem dX3_here_19 : decode cX3_here 19 = .ok (.aload_n 0, 1) := dk_42 (dk_at dksX3_here_0 19 rfl rfl)
theorem dX3_here_20 : decode cX3_here 20 = .ok (.getfield 122, 3) := dk_180 0 122 (dk_at dksX3_here_0 20 rfl rfl)
theorem dX3_here_23 : decode cX3_here 23 = .ok (.iadd, 1) := dk_96 (dk_at dksX3_here_0 23 rfl rfl)
theorem dX3_here_24 : decode cX3_here 24 = .ok (.baload, 1) := dk_51 (dk_at dksX3_here_1 0 rfl rfl)
theorem dX3_here_25 : decode cX3_here 25 = .ok (.sipush 255, 3) := dk_17 0 255 (dk_at dksX3_here_1 1 rfl rfl)
theorem dX3_here_28 : decode cX3_here 28 = .ok (.iand, 1) := dk_126 (dk_at dksX3_here_1 4 rfl rfl)
theorem dX3_here_29 : decode cX3_here 29 = .ok (.goto 4, 3) := dk_167 0 4 (dk_at dksX3_here_1 5 rfl rfl)
theorem dX3_here_32 : decode cX3_here 32 = .ok (.iconst (-1), 1) := dk_2 (dk_at dksX3_here_1 8 rfl rfl)
theorem dX3_here_33 : decode cX3_here 33 = .ok (.ireturn, 1) := dk_172 (dk_at dksX3_here_1 9 rfl rfl)
abbrev cX3_isWhole : ByteArray := prog_14_method_34_code
def yX3_isWhole : MethodName := ⟨RX3, "isWhole", "()Z"⟩
def dkwX3_isWhole_3 : List UInt8 := [158, 0, 7, 4, 167, 0, 4, 3, 172]
abbrev dktX3_isWhole_3 : List UInt8 := dkwX3_isWhole_3 ++ []
def dkwX3_isWhole_2 : List UInt8 := [160, 0, 5, 3, 172, 132, 1, 1, 167, 255, 202, 42, 180, 0, 241, 4, 164, 0, 14, 42, 180, 0, 244]
abbrev dktX3_isWhole_2 : List UInt8 := dkwX3_isWhole_2 ++ dktX3_isWhole_3
def dkwX3_isWhole_1 : List UInt8 := [27, 104, 4, 96, 46, 62, 28, 42, 180, 0, 241, 162, 0, 16, 29, 42, 180, 0, 241, 162, 0, 8, 28, 29]
abbrev dktX3_isWhole_1 : List UInt8 := dkwX3_isWhole_1 ++ dktX3_isWhole_2
def dkwX3_isWhole_0 : List UInt8 := [3, 60, 27, 42, 180, 0, 244, 162, 0, 52, 42, 180, 0, 52, 7, 27, 104, 46, 61, 42, 180, 0, 52, 7]
abbrev dktX3_isWhole_0 : List UInt8 := dkwX3_isWhole_0 ++ dktX3_isWhole_1
theorem dksX3_isWhole_0 : cX3_isWhole.data.toList.drop 0 = dktX3_isWhole_0 := by decide +kernel
theorem dksX3_isWhole_1 : cX3_isWhole.data.toList.drop 24 = dktX3_isWhole_1 := dk_seg dksX3_isWhole_0 24 rfl rfl
theorem dksX3_isWhole_2 : cX3_isWhole.data.toList.drop 48 = dktX3_isWhole_2 := dk_seg dksX3_isWhole_1 24 rfl rfl
theorem dksX3_isWhole_3 : cX3_isWhole.data.toList.drop 71 = dktX3_isWhole_3 := dk_seg dksX3_isWhole_2 23 rfl rfl
theorem dX3_isWhole_0 : decode cX3_isWhole 0 = .ok (.iconst 0, 1) := dk_3 (dk_at dksX3_isWhole_0 0 rfl rfl)
theorem dX3_isWhole_1 : decode cX3_isWhole 1 = .ok (.istore_n 1, 1) := dk_60 (dk_at dksX3_isWhole_0 1 rfl rfl)
theorem dX3_isWhole_2 : decode cX3_isWhole 2 = .ok (.iload_n 1, 1) := dk_27 (dk_at dksX3_isWhole_0 2 rfl rfl)
theorem dX3_isWhole_3 : decode cX3_isWhole 3 = .ok (.aload_n 0, 1) := dk_42 (dk_at dksX3_isWhole_0 3 rfl rfl)
theorem dX3_isWhole_4 : decode cX3_isWhole 4 = .ok (.getfield 244, 3) := dk_180 0 244 (dk_at dksX3_isWhole_0 4 rfl rfl)
theorem dX3_isWhole_7 : decode cX3_isWhole 7 = .ok (.if_icmp .ge 52, 3) := dk_162 0 52 (dk_at dksX3_isWhole_0 7 rfl rfl)
theorem dX3_isWhole_10 : decode cX3_isWhole 10 = .ok (.aload_n 0, 1) := dk_42 (dk_at dksX3_isWhole_0 10 rfl rfl)
theorem dX3_isWhole_11 : decode cX3_isWhole 11 = .ok (.getfield 52, 3) := dk_180 0 52 (dk_at dksX3_isWhole_0 11 rfl rfl)
theorem dX3_isWhole_14 : decode cX3_isWhole 14 = .ok (.iconst 4, 1) := dk_7 (dk_at dksX3_isWhole_0 14 rfl rfl)
theorem dX3_isWhole_15 : decode cX3_isWhole 15 = .ok (.iload_n 1, 1) := dk_27 (dk_at dksX3_isWhole_0 15 rfl rfl)
theorem dX3_isWhole_16 : decode cX3_isWhole 16 = .ok (.imul, 1) := dk_104 (dk_at dksX3_isWhole_0 16 rfl rfl)
theorem dX3_isWhole_17 : decode cX3_isWhole 17 = .ok (.iaload, 1) := dk_46 (dk_at dksX3_isWhole_0 17 rfl rfl)
theorem dX3_isWhole_18 : decode cX3_isWhole 18 = .ok (.istore_n 2, 1) := dk_61 (dk_at dksX3_isWhole_0 18 rfl rfl)
theorem dX3_isWhole_19 : decode cX3_isWhole 19 = .ok (.aload_n 0, 1) := dk_42 (dk_at dksX3_isWhole_0 19 rfl rfl)
theorem dX3_isWhole_20 : decode cX3_isWhole 20 = .ok (.getfield 52, 3) := dk_180 0 52 (dk_at dksX3_isWhole_0 20 rfl rfl)
theorem dX3_isWhole_23 : decode cX3_isWhole 23 = .ok (.iconst 4, 1) := dk_7 (dk_at dksX3_isWhole_0 23 rfl rfl)
theorem dX3_isWhole_24 : decode cX3_isWhole 24 = .ok (.iload_n 1, 1) := dk_27 (dk_at dksX3_isWhole_1 0 rfl rfl)
theorem dX3_isWhole_25 : decode cX3_isWhole 25 = .ok (.imul, 1) := dk_104 (dk_at dksX3_isWhole_1 1 rfl rfl)
theorem dX3_isWhole_26 : decode cX3_isWhole 26 = .ok (.iconst 1, 1) := dk_4 (dk_at dksX3_isWhole_1 2 rfl rfl)
theorem dX3_isWhole_27 : decode cX3_isWhole 27 = .ok (.iadd, 1) := dk_96 (dk_at dksX3_isWhole_1 3 rfl rfl)
theorem dX3_isWhole_28 : decode cX3_isWhole 28 = .ok (.iaload, 1) := dk_46 (dk_at dksX3_isWhole_1 4 rfl rfl)
theorem dX3_isWhole_29 : decode cX3_isWhole 29 = .ok (.istore_n 3, 1) := dk_62 (dk_at dksX3_isWhole_1 5 rfl rfl)
theorem dX3_isWhole_30 : decode cX3_isWhole 30 = .ok (.iload_n 2, 1) := dk_28 (dk_at dksX3_isWhole_1 6 rfl rfl)
theorem dX3_isWhole_31 : decode cX3_isWhole 31 = .ok (.aload_n 0, 1) := dk_42 (dk_at dksX3_isWhole_1 7 rfl rfl)
theorem dX3_isWhole_32 : decode cX3_isWhole 32 = .ok (.getfield 241, 3) := dk_180 0 241 (dk_at dksX3_isWhole_1 8 rfl rfl)
theorem dX3_isWhole_35 : decode cX3_isWhole 35 = .ok (.if_icmp .ge 16, 3) := dk_162 0 16 (dk_at dksX3_isWhole_1 11 rfl rfl)
theorem dX3_isWhole_38 : decode cX3_isWhole 38 = .ok (.iload_n 3, 1) := dk_29 (dk_at dksX3_isWhole_1 14 rfl rfl)
theorem dX3_isWhole_39 : decode cX3_isWhole 39 = .ok (.aload_n 0, 1) := dk_42 (dk_at dksX3_isWhole_1 15 rfl rfl)
theorem dX3_isWhole_40 : decode cX3_isWhole 40 = .ok (.getfield 241, 3) := dk_180 0 241 (dk_at dksX3_isWhole_1 16 rfl rfl)
theorem dX3_isWhole_43 : decode cX3_isWhole 43 = .ok (.if_icmp .ge 8, 3) := dk_162 0 8 (dk_at dksX3_isWhole_1 19 rfl rfl)
theorem dX3_isWhole_46 : decode cX3_isWhole 46 = .ok (.iload_n 2, 1) := dk_28 (dk_at dksX3_isWhole_1 22 rfl rfl)
theorem dX3_isWhole_47 : decode cX3_isWhole 47 = .ok (.iload_n 3, 1) := dk_29 (dk_at dksX3_isWhole_1 23 rfl rfl)
theorem dX3_isWhole_48 : decode cX3_isWhole 48 = .ok (.if_icmp .ne 5, 3) := dk_160 0 5 (dk_at dksX3_isWhole_2 0 rfl rfl)
theorem dX3_isWhole_51 : decode cX3_isWhole 51 = .ok (.iconst 0, 1) := dk_3 (dk_at dksX3_isWhole_2 3 rfl rfl)
theorem dX3_isWhole_52 : decode cX3_isWhole 52 = .ok (.ireturn, 1) := dk_172 (dk_at dksX3_isWhole_2 4 rfl rfl)
theorem dX3_isWhole_53 : decode cX3_isWhole 53 = .ok (.iinc 1 1, 3) := dk_132 1 1 (dk_at dksX3_isWhole_2 5 rfl rfl)
theorem dX3_isWhole_56 : decode cX3_isWhole 56 = .ok (.goto (-54), 3) := dk_167 255 202 (dk_at dksX3_isWhole_2 8 rfl rfl)
theorem dX3_isWhole_59 : decode cX3_isWhole 59 = .ok (.aload_n 0, 1) := dk_42 (dk_at dksX3_isWhole_2 11 rfl rfl)
theorem dX3_isWhole_60 : decode cX3_isWhole 60 = .ok (.getfield 241, 3) := dk_180 0 241 (dk_at dksX3_isWhole_2 12 rfl rfl)
theorem dX3_isWhole_63 : decode cX3_isWhole 63 = .ok (.iconst 1, 1) := dk_4 (dk_at dksX3_isWhole_2 15 rfl rfl)
theorem dX3_isWhole_64 : decode cX3_isWhole 64 = .ok (.if_icmp .le 14, 3) := dk_164 0 14 (dk_at dksX3_isWhole_2 16 rfl rfl)
theorem dX3_isWhole_67 : decode cX3_isWhole 67 = .ok (.aload_n 0, 1) := dk_42 (dk_at dksX3_isWhole_2 19 rfl rfl)
theorem dX3_isWhole_68 : decode cX3_isWhole 68 = .ok (.getfield 244, 3) := dk_180 0 244 (dk_at dksX3_isWhole_2 20 rfl rfl)
theorem dX3_isWhole_71 : decode cX3_isWhole 71 = .ok (.ifCond .le 7, 3) := dk_158 0 7 (dk_at dksX3_isWhole_3 0 rfl rfl)
theorem dX3_isWhole_74 : decode cX3_isWhole 74 = .ok (.iconst 1, 1) := dk_4 (dk_at dksX3_isWhole_3 3 rfl rfl)
theorem dX3_isWhole_75 : decode cX3_isWhole 75 = .ok (.goto 4, 3) := dk_167 0 4 (dk_at dksX3_isWhole_3 4 rfl rfl)
theorem dX3_isWhole_78 : decode cX3_isWhole 78 = .ok (.iconst 0, 1) := dk_3 (dk_at dksX3_isWhole_3 7 rfl rfl)
theorem dX3_isWhole_79 : decode cX3_isWhole 79 = .ok (.ireturn, 1) := dk_172 (dk_at dksX3_isWhole_3 8 rfl rfl)
abbrev cX3_goThrough : ByteArray := prog_14_method_26_code
def yX3_goThrough : MethodName := ⟨RX3, "goThrough", "([BII)V"⟩
def dkwX3_goThrough_3 : List UInt8 := [2, 160, 0, 16, 42, 182, 0, 141, 2, 159, 0, 8, 42, 182, 0, 137, 87, 177]
abbrev dktX3_goThrough_3 : List UInt8 := dkwX3_goThrough_3 ++ []
def dkwX3_goThrough_2 : List UInt8 := [160, 0, 20, 42, 89, 180, 0, 122, 4, 96, 181, 0, 122, 42, 182, 0, 214, 167, 255, 225, 42, 180, 0, 131]
abbrev dktX3_goThrough_2 : List UInt8 := dkwX3_goThrough_2 ++ dktX3_goThrough_3
def dkwX3_goThrough_1 : List UInt8 := [3, 181, 0, 207, 42, 182, 0, 214, 42, 180, 0, 131, 2, 160, 0, 29, 42, 182, 0, 141, 16, 59]
abbrev dktX3_goThrough_1 : List UInt8 := dkwX3_goThrough_1 ++ dktX3_goThrough_2
def dkwX3_goThrough_0 : List UInt8 := [42, 43, 28, 29, 182, 0, 210, 42, 16, 121, 181, 0, 204, 42, 3, 181, 0, 134, 42, 3, 181, 0, 200, 42]
abbrev dktX3_goThrough_0 : List UInt8 := dkwX3_goThrough_0 ++ dktX3_goThrough_1
theorem dksX3_goThrough_0 : cX3_goThrough.data.toList.drop 0 = dktX3_goThrough_0 := by decide +kernel
theorem dksX3_goThrough_1 : cX3_goThrough.data.toList.drop 24 = dktX3_goThrough_1 := dk_seg dksX3_goThrough_0 24 rfl rfl
theorem dksX3_goThrough_2 : cX3_goThrough.data.toList.drop 46 = dktX3_goThrough_2 := dk_seg dksX3_goThrough_1 22 rfl rfl
theorem dksX3_goThrough_3 : cX3_goThrough.data.toList.drop 70 = dktX3_goThrough_3 := dk_seg dksX3_goThrough_2 24 rfl rfl
theorem dX3_goThrough_0 : decode cX3_goThrough 0 = .ok (.aload_n 0, 1) := dk_42 (dk_at dksX3_goThrough_0 0 rfl rfl)
theorem dX3_goThrough_1 : decode cX3_goThrough 1 = .ok (.aload_n 1, 1) := dk_43 (dk_at dksX3_goThrough_0 1 rfl rfl)
theorem dX3_goThrough_2 : decode cX3_goThrough 2 = .ok (.iload_n 2, 1) := dk_28 (dk_at dksX3_goThrough_0 2 rfl rfl)
theorem dX3_goThrough_3 : decode cX3_goThrough 3 = .ok (.iload_n 3, 1) := dk_29 (dk_at dksX3_goThrough_0 3 rfl rfl)
theorem dX3_goThrough_4 : decode cX3_goThrough 4 = .ok (.invokevirtual 210, 3) := dk_182 0 210 (dk_at dksX3_goThrough_0 4 rfl rfl)
theorem dX3_goThrough_7 : decode cX3_goThrough 7 = .ok (.aload_n 0, 1) := dk_42 (dk_at dksX3_goThrough_0 7 rfl rfl)
theorem dX3_goThrough_8 : decode cX3_goThrough 8 = .ok (.bipush 121, 2) := dk_16 121 (dk_at dksX3_goThrough_0 8 rfl rfl)
theorem dX3_goThrough_10 : decode cX3_goThrough 10 = .ok (.putfield 204, 3) := dk_181 0 204 (dk_at dksX3_goThrough_0 10 rfl rfl)
theorem dX3_goThrough_13 : decode cX3_goThrough 13 = .ok (.aload_n 0, 1) := dk_42 (dk_at dksX3_goThrough_0 13 rfl rfl)
theorem dX3_goThrough_14 : decode cX3_goThrough 14 = .ok (.iconst 0, 1) := dk_3 (dk_at dksX3_goThrough_0 14 rfl rfl)
theorem dX3_goThrough_15 : decode cX3_goThrough 15 = .ok (.putfield 134, 3) := dk_181 0 134 (dk_at dksX3_goThrough_0 15 rfl rfl)
theorem dX3_goThrough_18 : decode cX3_goThrough 18 = .ok (.aload_n 0, 1) := dk_42 (dk_at dksX3_goThrough_0 18 rfl rfl)
theorem dX3_goThrough_19 : decode cX3_goThrough 19 = .ok (.iconst 0, 1) := dk_3 (dk_at dksX3_goThrough_0 19 rfl rfl)
theorem dX3_goThrough_20 : decode cX3_goThrough 20 = .ok (.putfield 200, 3) := dk_181 0 200 (dk_at dksX3_goThrough_0 20 rfl rfl)
theorem dX3_goThrough_23 : decode cX3_goThrough 23 = .ok (.aload_n 0, 1) := dk_42 (dk_at dksX3_goThrough_0 23 rfl rfl)
theorem dX3_goThrough_24 : decode cX3_goThrough 24 = .ok (.iconst 0, 1) := dk_3 (dk_at dksX3_goThrough_1 0 rfl rfl)
theorem dX3_goThrough_25 : decode cX3_goThrough 25 = .ok (.putfield 207, 3) := dk_181 0 207 (dk_at dksX3_goThrough_1 1 rfl rfl)
theorem dX3_goThrough_28 : decode cX3_goThrough 28 = .ok (.aload_n 0, 1) := dk_42 (dk_at dksX3_goThrough_1 4 rfl rfl)
theorem dX3_goThrough_29 : decode cX3_goThrough 29 = .ok (.invokevirtual 214, 3) := dk_182 0 214 (dk_at dksX3_goThrough_1 5 rfl rfl)
theorem dX3_goThrough_32 : decode cX3_goThrough 32 = .ok (.aload_n 0, 1) := dk_42 (dk_at dksX3_goThrough_1 8 rfl rfl)
theorem dX3_goThrough_33 : decode cX3_goThrough 33 = .ok (.getfield 131, 3) := dk_180 0 131 (dk_at dksX3_goThrough_1 9 rfl rfl)
theorem dX3_goThrough_36 : decode cX3_goThrough 36 = .ok (.iconst (-1), 1) := dk_2 (dk_at dksX3_goThrough_1 12 rfl rfl)
theorem dX3_goThrough_37 : decode cX3_goThrough 37 = .ok (.if_icmp .ne 29, 3) := dk_160 0 29 (dk_at dksX3_goThrough_1 13 rfl rfl)
theorem dX3_goThrough_40 : decode cX3_goThrough 40 = .ok (.aload_n 0, 1) := dk_42 (dk_at dksX3_goThrough_1 16 rfl rfl)
theorem dX3_goThrough_41 : decode cX3_goThrough 41 = .ok (.invokevirtual 141, 3) := dk_182 0 141 (dk_at dksX3_goThrough_1 17 rfl rfl)
theorem dX3_goThrough_44 : decode cX3_goThrough 44 = .ok (.bipush 59, 2) := dk_16 59 (dk_at dksX3_goThrough_1 20 rfl rfl)
theorem dX3_goThrough_46 : decode cX3_goThrough 46 = .ok (.if_icmp .ne 20, 3) := dk_160 0 20 (dk_at dksX3_goThrough_2 0 rfl rfl)
theorem dX3_goThrough_49 : decode cX3_goThrough 49 = .ok (.aload_n 0, 1) := dk_42 (dk_at dksX3_goThrough_2 3 rfl rfl)
theorem dX3_goThrough_50 : decode cX3_goThrough 50 = .ok (.dup, 1) := dk_89 (dk_at dksX3_goThrough_2 4 rfl rfl)
theorem dX3_goThrough_51 : decode cX3_goThrough 51 = .ok (.getfield 122, 3) := dk_180 0 122 (dk_at dksX3_goThrough_2 5 rfl rfl)
theorem dX3_goThrough_54 : decode cX3_goThrough 54 = .ok (.iconst 1, 1) := dk_4 (dk_at dksX3_goThrough_2 8 rfl rfl)
theorem dX3_goThrough_55 : decode cX3_goThrough 55 = .ok (.iadd, 1) := dk_96 (dk_at dksX3_goThrough_2 9 rfl rfl)
theorem dX3_goThrough_56 : decode cX3_goThrough 56 = .ok (.putfield 122, 3) := dk_181 0 122 (dk_at dksX3_goThrough_2 10 rfl rfl)
theorem dX3_goThrough_59 : decode cX3_goThrough 59 = .ok (.aload_n 0, 1) := dk_42 (dk_at dksX3_goThrough_2 13 rfl rfl)
theorem dX3_goThrough_60 : decode cX3_goThrough 60 = .ok (.invokevirtual 214, 3) := dk_182 0 214 (dk_at dksX3_goThrough_2 14 rfl rfl)
theorem dX3_goThrough_63 : decode cX3_goThrough 63 = .ok (.goto (-31), 3) := dk_167 255 225 (dk_at dksX3_goThrough_2 17 rfl rfl)
theorem dX3_goThrough_66 : decode cX3_goThrough 66 = .ok (.aload_n 0, 1) := dk_42 (dk_at dksX3_goThrough_2 20 rfl rfl)
theorem dX3_goThrough_67 : decode cX3_goThrough 67 = .ok (.getfield 131, 3) := dk_180 0 131 (dk_at dksX3_goThrough_2 21 rfl rfl)
theorem dX3_goThrough_70 : decode cX3_goThrough 70 = .ok (.iconst (-1), 1) := dk_2 (dk_at dksX3_goThrough_3 0 rfl rfl)
theorem dX3_goThrough_71 : decode cX3_goThrough 71 = .ok (.if_icmp .ne 16, 3) := dk_160 0 16 (dk_at dksX3_goThrough_3 1 rfl rfl)
theorem dX3_goThrough_74 : decode cX3_goThrough 74 = .ok (.aload_n 0, 1) := dk_42 (dk_at dksX3_goThrough_3 4 rfl rfl)
theorem dX3_goThrough_75 : decode cX3_goThrough 75 = .ok (.invokevirtual 141, 3) := dk_182 0 141 (dk_at dksX3_goThrough_3 5 rfl rfl)
theorem dX3_goThrough_78 : decode cX3_goThrough 78 = .ok (.iconst (-1), 1) := dk_2 (dk_at dksX3_goThrough_3 8 rfl rfl)
theorem dX3_goThrough_79 : decode cX3_goThrough 79 = .ok (.if_icmp .eq 8, 3) := dk_159 0 8 (dk_at dksX3_goThrough_3 9 rfl rfl)
theorem dX3_goThrough_82 : decode cX3_goThrough 82 = .ok (.aload_n 0, 1) := dk_42 (dk_at dksX3_goThrough_3 12 rfl rfl)
theorem dX3_goThrough_83 : decode cX3_goThrough 83 = .ok (.invokevirtual 137, 3) := dk_182 0 137 (dk_at dksX3_goThrough_3 13 rfl rfl)
theorem dX3_goThrough_86 : decode cX3_goThrough 86 = .ok (.pop, 1) := dk_87 (dk_at dksX3_goThrough_3 16 rfl rfl)
theorem dX3_goThrough_87 : decode cX3_goThrough 87 = .ok (.return_, 1) := dk_177 (dk_at dksX3_goThrough_3 17 rfl rfl)
abbrev cX3_clause : ByteArray := prog_14_method_24_code
def yX3_clause : MethodName := ⟨RX3, "clause", "()V"⟩
def dkwX3_clause_7 : List UInt8 := [42, 4, 181, 0, 200, 42, 29, 181, 0, 207, 177]
abbrev dktX3_clause_7 : List UInt8 := dkwX3_clause_7 ++ []
def dkwX3_clause_6 : List UInt8 := [2, 160, 0, 22, 42, 180, 0, 200, 154, 0, 15, 27, 42, 180, 0, 204, 160, 0, 7, 28, 154, 0, 4, 177]
abbrev dktX3_clause_6 : List UInt8 := dkwX3_clause_6 ++ dktX3_clause_7
def dkwX3_clause_5 : List UInt8 := [29, 182, 0, 190, 61, 42, 16, 63, 182, 0, 167, 154, 0, 4, 177, 42, 182, 0, 164, 62, 42, 180, 0, 131]
abbrev dktX3_clause_5 : List UInt8 := dkwX3_clause_5 ++ dktX3_clause_6
def dkwX3_clause_4 : List UInt8 := [182, 0, 164, 62, 42, 180, 0, 131, 2, 160, 0, 35, 42, 182, 0, 141, 184, 0, 184, 153, 0, 25, 42, 4]
abbrev dktX3_clause_4 : List UInt8 := dkwX3_clause_4 ++ dktX3_clause_5
def dkwX3_clause_3 : List UInt8 := [182, 0, 190, 61, 42, 16, 63, 182, 0, 167, 154, 0, 4, 177, 42, 182, 0, 164, 62, 167, 0, 48, 42]
abbrev dktX3_clause_3 : List UInt8 := dkwX3_clause_3 ++ dktX3_clause_4
def dkwX3_clause_2 : List UInt8 := [182, 0, 141, 54, 4, 21, 4, 16, 33, 159, 0, 10, 21, 4, 16, 40, 160, 0, 28, 42, 3, 3]
abbrev dktX3_clause_2 : List UInt8 := dkwX3_clause_2 ++ dktX3_clause_3
def dkwX3_clause_1 : List UInt8 := [180, 0, 122, 4, 96, 181, 0, 122, 42, 16, 58, 182, 0, 167, 154, 0, 4, 177, 4, 61, 3, 62, 42]
abbrev dktX3_clause_1 : List UInt8 := dkwX3_clause_1 ++ dktX3_clause_2
def dkwX3_clause_0 : List UInt8 := [42, 182, 0, 141, 60, 18, 26, 27, 184, 0, 157, 154, 0, 9, 42, 182, 0, 137, 87, 177, 42, 89]
abbrev dktX3_clause_0 : List UInt8 := dkwX3_clause_0 ++ dktX3_clause_1
theorem dksX3_clause_0 : cX3_clause.data.toList.drop 0 = dktX3_clause_0 := by decide +kernel
theorem dksX3_clause_1 : cX3_clause.data.toList.drop 22 = dktX3_clause_1 := dk_seg dksX3_clause_0 22 rfl rfl
theorem dksX3_clause_2 : cX3_clause.data.toList.drop 45 = dktX3_clause_2 := dk_seg dksX3_clause_1 23 rfl rfl
theorem dksX3_clause_3 : cX3_clause.data.toList.drop 67 = dktX3_clause_3 := dk_seg dksX3_clause_2 22 rfl rfl
theorem dksX3_clause_4 : cX3_clause.data.toList.drop 90 = dktX3_clause_4 := dk_seg dksX3_clause_3 23 rfl rfl
theorem dksX3_clause_5 : cX3_clause.data.toList.drop 114 = dktX3_clause_5 := dk_seg dksX3_clause_4 24 rfl rfl
theorem dksX3_clause_6 : cX3_clause.data.toList.drop 138 = dktX3_clause_6 := dk_seg dksX3_clause_5 24 rfl rfl
theorem dksX3_clause_7 : cX3_clause.data.toList.drop 162 = dktX3_clause_7 := dk_seg dksX3_clause_6 24 rfl rfl
theorem dX3_clause_0 : decode cX3_clause 0 = .ok (.aload_n 0, 1) := dk_42 (dk_at dksX3_clause_0 0 rfl rfl)
theorem dX3_clause_1 : decode cX3_clause 1 = .ok (.invokevirtual 141, 3) := dk_182 0 141 (dk_at dksX3_clause_0 1 rfl rfl)
theorem dX3_clause_4 : decode cX3_clause 4 = .ok (.istore_n 1, 1) := dk_60 (dk_at dksX3_clause_0 4 rfl rfl)
theorem dX3_clause_5 : decode cX3_clause 5 = .ok (.ldc 26, 2) := dk_18 26 (dk_at dksX3_clause_0 5 rfl rfl)
theorem dX3_clause_7 : decode cX3_clause 7 = .ok (.iload_n 1, 1) := dk_27 (dk_at dksX3_clause_0 7 rfl rfl)
theorem dX3_clause_8 : decode cX3_clause 8 = .ok (.invokestatic 157, 3) := dk_184 0 157 (dk_at dksX3_clause_0 8 rfl rfl)
theorem dX3_clause_11 : decode cX3_clause 11 = .ok (.ifCond .ne 9, 3) := dk_154 0 9 (dk_at dksX3_clause_0 11 rfl rfl)
theorem dX3_clause_14 : decode cX3_clause 14 = .ok (.aload_n 0, 1) := dk_42 (dk_at dksX3_clause_0 14 rfl rfl)
theorem dX3_clause_15 : decode cX3_clause 15 = .ok (.invokevirtual 137, 3) := dk_182 0 137 (dk_at dksX3_clause_0 15 rfl rfl)
theorem dX3_clause_18 : decode cX3_clause 18 = .ok (.pop, 1) := dk_87 (dk_at dksX3_clause_0 18 rfl rfl)
theorem dX3_clause_19 : decode cX3_clause 19 = .ok (.return_, 1) := dk_177 (dk_at dksX3_clause_0 19 rfl rfl)
theorem dX3_clause_20 : decode cX3_clause 20 = .ok (.aload_n 0, 1) := dk_42 (dk_at dksX3_clause_0 20 rfl rfl)
theorem dX3_clause_21 : decode cX3_clause 21 = .ok (.dup, 1) := dk_89 (dk_at dksX3_clause_0 21 rfl rfl)
theorem dX3_clause_22 : decode cX3_clause 22 = .ok (.getfield 122, 3) := dk_180 0 122 (dk_at dksX3_clause_1 0 rfl rfl)
theorem dX3_clause_25 : decode cX3_clause 25 = .ok (.iconst 1, 1) := dk_4 (dk_at dksX3_clause_1 3 rfl rfl)
theorem dX3_clause_26 : decode cX3_clause 26 = .ok (.iadd, 1) := dk_96 (dk_at dksX3_clause_1 4 rfl rfl)
theorem dX3_clause_27 : decode cX3_clause 27 = .ok (.putfield 122, 3) := dk_181 0 122 (dk_at dksX3_clause_1 5 rfl rfl)
theorem dX3_clause_30 : decode cX3_clause 30 = .ok (.aload_n 0, 1) := dk_42 (dk_at dksX3_clause_1 8 rfl rfl)
theorem dX3_clause_31 : decode cX3_clause 31 = .ok (.bipush 58, 2) := dk_16 58 (dk_at dksX3_clause_1 9 rfl rfl)
theorem dX3_clause_33 : decode cX3_clause 33 = .ok (.invokevirtual 167, 3) := dk_182 0 167 (dk_at dksX3_clause_1 11 rfl rfl)
theorem dX3_clause_36 : decode cX3_clause 36 = .ok (.ifCond .ne 4, 3) := dk_154 0 4 (dk_at dksX3_clause_1 14 rfl rfl)
theorem dX3_clause_39 : decode cX3_clause 39 = .ok (.return_, 1) := dk_177 (dk_at dksX3_clause_1 17 rfl rfl)
theorem dX3_clause_40 : decode cX3_clause 40 = .ok (.iconst 1, 1) := dk_4 (dk_at dksX3_clause_1 18 rfl rfl)
theorem dX3_clause_41 : decode cX3_clause 41 = .ok (.istore_n 2, 1) := dk_61 (dk_at dksX3_clause_1 19 rfl rfl)
theorem dX3_clause_42 : decode cX3_clause 42 = .ok (.iconst 0, 1) := dk_3 (dk_at dksX3_clause_1 20 rfl rfl)
theorem dX3_clause_43 : decode cX3_clause 43 = .ok (.istore_n 3, 1) := dk_62 (dk_at dksX3_clause_1 21 rfl rfl)
theorem dX3_clause_44 : decode cX3_clause 44 = .ok (.aload_n 0, 1) := dk_42 (dk_at dksX3_clause_1 22 rfl rfl)
theorem dX3_clause_45 : decode cX3_clause 45 = .ok (.invokevirtual 141, 3) := dk_182 0 141 (dk_at dksX3_clause_2 0 rfl rfl)
theorem dX3_clause_48 : decode cX3_clause 48 = .ok (.istore 4, 2) := dk_54 4 (dk_at dksX3_clause_2 3 rfl rfl)
theorem dX3_clause_50 : decode cX3_clause 50 = .ok (.iload 4, 2) := dk_21 4 (dk_at dksX3_clause_2 5 rfl rfl)
theorem dX3_clause_52 : decode cX3_clause 52 = .ok (.bipush 33, 2) := dk_16 33 (dk_at dksX3_clause_2 7 rfl rfl)
theorem dX3_clause_54 : decode cX3_clause 54 = .ok (.if_icmp .eq 10, 3) := dk_159 0 10 (dk_at dksX3_clause_2 9 rfl rfl)
theorem dX3_clause_57 : decode cX3_clause 57 = .ok (.iload 4, 2) := dk_21 4 (dk_at dksX3_clause_2 12 rfl rfl)
theorem dX3_clause_59 : decode cX3_clause 59 = .ok (.bipush 40, 2) := dk_16 40 (dk_at dksX3_clause_2 14 rfl rfl)
theorem dX3_clause_61 : decode cX3_clause 61 = .ok (.if_icmp .ne 28, 3) := dk_160 0 28 (dk_at dksX3_clause_2 16 rfl rfl)
theorem dX3_clause_64 : decode cX3_clause 64 = .ok (.aload_n 0, 1) := dk_42 (dk_at dksX3_clause_2 19 rfl rfl)
theorem dX3_clause_65 : decode cX3_clause 65 = .ok (.iconst 0, 1) := dk_3 (dk_at dksX3_clause_2 20 rfl rfl)
theorem dX3_clause_66 : decode cX3_clause 66 = .ok (.iconst 0, 1) := dk_3 (dk_at dksX3_clause_2 21 rfl rfl)
theorem dX3_clause_67 : decode cX3_clause 67 = .ok (.invokevirtual 190, 3) := dk_182 0 190 (dk_at dksX3_clause_3 0 rfl rfl)
theorem dX3_clause_70 : decode cX3_clause 70 = .ok (.istore_n 2, 1) := dk_61 (dk_at dksX3_clause_3 3 rfl rfl)
theorem dX3_clause_71 : decode cX3_clause 71 = .ok (.aload_n 0, 1) := dk_42 (dk_at dksX3_clause_3 4 rfl rfl)
theorem dX3_clause_72 : decode cX3_clause 72 = .ok (.bipush 63, 2) := dk_16 63 (dk_at dksX3_clause_3 5 rfl rfl)
theorem dX3_clause_74 : decode cX3_clause 74 = .ok (.invokevirtual 167, 3) := dk_182 0 167 (dk_at dksX3_clause_3 7 rfl rfl)
theorem dX3_clause_77 : decode cX3_clause 77 = .ok (.ifCond .ne 4, 3) := dk_154 0 4 (dk_at dksX3_clause_3 10 rfl rfl)
theorem dX3_clause_80 : decode cX3_clause 80 = .ok (.return_, 1) := dk_177 (dk_at dksX3_clause_3 13 rfl rfl)
theorem dX3_clause_81 : decode cX3_clause 81 = .ok (.aload_n 0, 1) := dk_42 (dk_at dksX3_clause_3 14 rfl rfl)
theorem dX3_clause_82 : decode cX3_clause 82 = .ok (.invokevirtual 164, 3) := dk_182 0 164 (dk_at dksX3_clause_3 15 rfl rfl)
theorem dX3_clause_85 : decode cX3_clause 85 = .ok (.istore_n 3, 1) := dk_62 (dk_at dksX3_clause_3 18 rfl rfl)
theorem dX3_clause_86 : decode cX3_clause 86 = .ok (.goto 48, 3) := dk_167 0 48 (dk_at dksX3_clause_3 19 rfl rfl)
theorem dX3_clause_89 : decode cX3_clause 89 = .ok (.aload_n 0, 1) := dk_42 (dk_at dksX3_clause_3 22 rfl rfl)
theorem dX3_clause_90 : decode cX3_clause 90 = .ok (.invokevirtual 164, 3) := dk_182 0 164 (dk_at dksX3_clause_4 0 rfl rfl)
theorem dX3_clause_93 : decode cX3_clause 93 = .ok (.istore_n 3, 1) := dk_62 (dk_at dksX3_clause_4 3 rfl rfl)
theorem dX3_clause_94 : decode cX3_clause 94 = .ok (.aload_n 0, 1) := dk_42 (dk_at dksX3_clause_4 4 rfl rfl)
theorem dX3_clause_95 : decode cX3_clause 95 = .ok (.getfield 131, 3) := dk_180 0 131 (dk_at dksX3_clause_4 5 rfl rfl)
theorem dX3_clause_98 : decode cX3_clause 98 = .ok (.iconst (-1), 1) := dk_2 (dk_at dksX3_clause_4 8 rfl rfl)
theorem dX3_clause_99 : decode cX3_clause 99 = .ok (.if_icmp .ne 35, 3) := dk_160 0 35 (dk_at dksX3_clause_4 9 rfl rfl)
theorem dX3_clause_102 : decode cX3_clause 102 = .ok (.aload_n 0, 1) := dk_42 (dk_at dksX3_clause_4 12 rfl rfl)
theorem dX3_clause_103 : decode cX3_clause 103 = .ok (.invokevirtual 141, 3) := dk_182 0 141 (dk_at dksX3_clause_4 13 rfl rfl)
theorem dX3_clause_106 : decode cX3_clause 106 = .ok (.invokestatic 184, 3) := dk_184 0 184 (dk_at dksX3_clause_4 16 rfl rfl)
theorem dX3_clause_109 : decode cX3_clause 109 = .ok (.ifCond .eq 25, 3) := dk_153 0 25 (dk_at dksX3_clause_4 19 rfl rfl)
theorem dX3_clause_112 : decode cX3_clause 112 = .ok (.aload_n 0, 1) := dk_42 (dk_at dksX3_clause_4 22 rfl rfl)
theorem dX3_clause_113 : decode cX3_clause 113 = .ok (.iconst 1, 1) := dk_4 (dk_at dksX3_clause_4 23 rfl rfl)
theorem dX3_clause_114 : decode cX3_clause 114 = .ok (.iload_n 3, 1) := dk_29 (dk_at dksX3_clause_5 0 rfl rfl)
theorem dX3_clause_115 : decode cX3_clause 115 = .ok (.invokevirtual 190, 3) := dk_182 0 190 (dk_at dksX3_clause_5 1 rfl rfl)
theorem dX3_clause_118 : decode cX3_clause 118 = .ok (.istore_n 2, 1) := dk_61 (dk_at dksX3_clause_5 4 rfl rfl)
theorem dX3_clause_119 : decode cX3_clause 119 = .ok (.aload_n 0, 1) := dk_42 (dk_at dksX3_clause_5 5 rfl rfl)
theorem dX3_clause_120 : decode cX3_clause 120 = .ok (.bipush 63, 2) := dk_16 63 (dk_at dksX3_clause_5 6 rfl rfl)
theorem dX3_clause_122 : decode cX3_clause 122 = .ok (.invokevirtual 167, 3) := dk_182 0 167 (dk_at dksX3_clause_5 8 rfl rfl)
theorem dX3_clause_125 : decode cX3_clause 125 = .ok (.ifCond .ne 4, 3) := dk_154 0 4 (dk_at dksX3_clause_5 11 rfl rfl)
theorem dX3_clause_128 : decode cX3_clause 128 = .ok (.return_, 1) := dk_177 (dk_at dksX3_clause_5 14 rfl rfl)
theorem dX3_clause_129 : decode cX3_clause 129 = .ok (.aload_n 0, 1) := dk_42 (dk_at dksX3_clause_5 15 rfl rfl)
theorem dX3_clause_130 : decode cX3_clause 130 = .ok (.invokevirtual 164, 3) := dk_182 0 164 (dk_at dksX3_clause_5 16 rfl rfl)
theorem dX3_clause_133 : decode cX3_clause 133 = .ok (.istore_n 3, 1) := dk_62 (dk_at dksX3_clause_5 19 rfl rfl)
theorem dX3_clause_134 : decode cX3_clause 134 = .ok (.aload_n 0, 1) := dk_42 (dk_at dksX3_clause_5 20 rfl rfl)
theorem dX3_clause_135 : decode cX3_clause 135 = .ok (.getfield 131, 3) := dk_180 0 131 (dk_at dksX3_clause_5 21 rfl rfl)
theorem dX3_clause_138 : decode cX3_clause 138 = .ok (.iconst (-1), 1) := dk_2 (dk_at dksX3_clause_6 0 rfl rfl)
theorem dX3_clause_139 : decode cX3_clause 139 = .ok (.if_icmp .ne 22, 3) := dk_160 0 22 (dk_at dksX3_clause_6 1 rfl rfl)
theorem dX3_clause_142 : decode cX3_clause 142 = .ok (.aload_n 0, 1) := dk_42 (dk_at dksX3_clause_6 4 rfl rfl)
theorem dX3_clause_143 : decode cX3_clause 143 = .ok (.getfield 200, 3) := dk_180 0 200 (dk_at dksX3_clause_6 5 rfl rfl)
theorem dX3_clause_146 : decode cX3_clause 146 = .ok (.ifCond .ne 15, 3) := dk_154 0 15 (dk_at dksX3_clause_6 8 rfl rfl)
theorem dX3_clause_149 : decode cX3_clause 149 = .ok (.iload_n 1, 1) := dk_27 (dk_at dksX3_clause_6 11 rfl rfl)
theorem dX3_clause_150 : decode cX3_clause 150 = .ok (.aload_n 0, 1) := dk_42 (dk_at dksX3_clause_6 12 rfl rfl)
theorem dX3_clause_151 : decode cX3_clause 151 = .ok (.getfield 204, 3) := dk_180 0 204 (dk_at dksX3_clause_6 13 rfl rfl)
theorem dX3_clause_154 : decode cX3_clause 154 = .ok (.if_icmp .ne 7, 3) := dk_160 0 7 (dk_at dksX3_clause_6 16 rfl rfl)
theorem dX3_clause_157 : decode cX3_clause 157 = .ok (.iload_n 2, 1) := dk_28 (dk_at dksX3_clause_6 19 rfl rfl)
theorem dX3_clause_158 : decode cX3_clause 158 = .ok (.ifCond .ne 4, 3) := dk_154 0 4 (dk_at dksX3_clause_6 20 rfl rfl)
theorem dX3_clause_161 : decode cX3_clause 161 = .ok (.return_, 1) := dk_177 (dk_at dksX3_clause_6 23 rfl rfl)
theorem dX3_clause_162 : decode cX3_clause 162 = .ok (.aload_n 0, 1) := dk_42 (dk_at dksX3_clause_7 0 rfl rfl)
theorem dX3_clause_163 : decode cX3_clause 163 = .ok (.iconst 1, 1) := dk_4 (dk_at dksX3_clause_7 1 rfl rfl)
theorem dX3_clause_164 : decode cX3_clause 164 = .ok (.putfield 200, 3) := dk_181 0 200 (dk_at dksX3_clause_7 2 rfl rfl)
theorem dX3_clause_167 : decode cX3_clause 167 = .ok (.aload_n 0, 1) := dk_42 (dk_at dksX3_clause_7 5 rfl rfl)
theorem dX3_clause_168 : decode cX3_clause 168 = .ok (.iload_n 3, 1) := dk_29 (dk_at dksX3_clause_7 6 rfl rfl)
theorem dX3_clause_169 : decode cX3_clause 169 = .ok (.putfield 207, 3) := dk_181 0 207 (dk_at dksX3_clause_7 7 rfl rfl)
theorem dX3_clause_172 : decode cX3_clause 172 = .ok (.return_, 1) := dk_177 (dk_at dksX3_clause_7 10 rfl rfl)
abbrev cX3_isAmong : ByteArray := prog_14_method_5_code
def yX3_isAmong : MethodName := ⟨RX3, "isAmong", "(Ljava/lang/String;I)Z"⟩
def dkwX3_isAmong_1 : List UInt8 := [167, 255, 234, 3, 172]
abbrev dktX3_isAmong_1 : List UInt8 := dkwX3_isAmong_1 ++ []
def dkwX3_isAmong_0 : List UInt8 := [3, 61, 28, 42, 182, 0, 102, 162, 0, 20, 42, 28, 182, 0, 108, 27, 160, 0, 5, 4, 172, 132, 2, 1]
abbrev dktX3_isAmong_0 : List UInt8 := dkwX3_isAmong_0 ++ dktX3_isAmong_1
theorem dksX3_isAmong_0 : cX3_isAmong.data.toList.drop 0 = dktX3_isAmong_0 := by decide +kernel
theorem dksX3_isAmong_1 : cX3_isAmong.data.toList.drop 24 = dktX3_isAmong_1 := dk_seg dksX3_isAmong_0 24 rfl rfl
theorem dX3_isAmong_0 : decode cX3_isAmong 0 = .ok (.iconst 0, 1) := dk_3 (dk_at dksX3_isAmong_0 0 rfl rfl)
theorem dX3_isAmong_1 : decode cX3_isAmong 1 = .ok (.istore_n 2, 1) := dk_61 (dk_at dksX3_isAmong_0 1 rfl rfl)
theorem dX3_isAmong_2 : decode cX3_isAmong 2 = .ok (.iload_n 2, 1) := dk_28 (dk_at dksX3_isAmong_0 2 rfl rfl)
theorem dX3_isAmong_3 : decode cX3_isAmong 3 = .ok (.aload_n 0, 1) := dk_42 (dk_at dksX3_isAmong_0 3 rfl rfl)
theorem dX3_isAmong_4 : decode cX3_isAmong 4 = .ok (.invokevirtual 102, 3) := dk_182 0 102 (dk_at dksX3_isAmong_0 4 rfl rfl)
theorem dX3_isAmong_7 : decode cX3_isAmong 7 = .ok (.if_icmp .ge 20, 3) := dk_162 0 20 (dk_at dksX3_isAmong_0 7 rfl rfl)
theorem dX3_isAmong_10 : decode cX3_isAmong 10 = .ok (.aload_n 0, 1) := dk_42 (dk_at dksX3_isAmong_0 10 rfl rfl)
theorem dX3_isAmong_11 : decode cX3_isAmong 11 = .ok (.iload_n 2, 1) := dk_28 (dk_at dksX3_isAmong_0 11 rfl rfl)
theorem dX3_isAmong_12 : decode cX3_isAmong 12 = .ok (.invokevirtual 108, 3) := dk_182 0 108 (dk_at dksX3_isAmong_0 12 rfl rfl)
theorem dX3_isAmong_15 : decode cX3_isAmong 15 = .ok (.iload_n 1, 1) := dk_27 (dk_at dksX3_isAmong_0 15 rfl rfl)
theorem dX3_isAmong_16 : decode cX3_isAmong 16 = .ok (.if_icmp .ne 5, 3) := dk_160 0 5 (dk_at dksX3_isAmong_0 16 rfl rfl)
theorem dX3_isAmong_19 : decode cX3_isAmong 19 = .ok (.iconst 1, 1) := dk_4 (dk_at dksX3_isAmong_0 19 rfl rfl)
theorem dX3_isAmong_20 : decode cX3_isAmong 20 = .ok (.ireturn, 1) := dk_172 (dk_at dksX3_isAmong_0 20 rfl rfl)
theorem dX3_isAmong_21 : decode cX3_isAmong 21 = .ok (.iinc 2 1, 3) := dk_132 2 1 (dk_at dksX3_isAmong_0 21 rfl rfl)
theorem dX3_isAmong_24 : decode cX3_isAmong 24 = .ok (.goto (-22), 3) := dk_167 255 234 (dk_at dksX3_isAmong_1 0 rfl rfl)
theorem dX3_isAmong_27 : decode cX3_isAmong 27 = .ok (.iconst 0, 1) := dk_3 (dk_at dksX3_isAmong_1 3 rfl rfl)
theorem dX3_isAmong_28 : decode cX3_isAmong 28 = .ok (.ireturn, 1) := dk_172 (dk_at dksX3_isAmong_1 4 rfl rfl)
abbrev cX3_takes : ByteArray := prog_14_method_13_code
def yX3_takes : MethodName := ⟨RX3, "takes", "(I)Z"⟩
def dkwX3_takes_1 : List UInt8 := [180, 0, 122, 4, 96, 181, 0, 122, 4, 172]
abbrev dktX3_takes_1 : List UInt8 := dkwX3_takes_1 ++ []
def dkwX3_takes_0 : List UInt8 := [42, 180, 0, 131, 2, 160, 0, 11, 42, 182, 0, 141, 27, 159, 0, 8, 42, 182, 0, 137, 172, 42, 89]
abbrev dktX3_takes_0 : List UInt8 := dkwX3_takes_0 ++ dktX3_takes_1
theorem dksX3_takes_0 : cX3_takes.data.toList.drop 0 = dktX3_takes_0 := by decide +kernel
theorem dksX3_takes_1 : cX3_takes.data.toList.drop 23 = dktX3_takes_1 := dk_seg dksX3_takes_0 23 rfl rfl
theorem dX3_takes_0 : decode cX3_takes 0 = .ok (.aload_n 0, 1) := dk_42 (dk_at dksX3_takes_0 0 rfl rfl)
theorem dX3_takes_1 : decode cX3_takes 1 = .ok (.getfield 131, 3) := dk_180 0 131 (dk_at dksX3_takes_0 1 rfl rfl)
theorem dX3_takes_4 : decode cX3_takes 4 = .ok (.iconst (-1), 1) := dk_2 (dk_at dksX3_takes_0 4 rfl rfl)
theorem dX3_takes_5 : decode cX3_takes 5 = .ok (.if_icmp .ne 11, 3) := dk_160 0 11 (dk_at dksX3_takes_0 5 rfl rfl)
theorem dX3_takes_8 : decode cX3_takes 8 = .ok (.aload_n 0, 1) := dk_42 (dk_at dksX3_takes_0 8 rfl rfl)
theorem dX3_takes_9 : decode cX3_takes 9 = .ok (.invokevirtual 141, 3) := dk_182 0 141 (dk_at dksX3_takes_0 9 rfl rfl)
theorem dX3_takes_12 : decode cX3_takes 12 = .ok (.iload_n 1, 1) := dk_27 (dk_at dksX3_takes_0 12 rfl rfl)
theorem dX3_takes_13 : decode cX3_takes 13 = .ok (.if_icmp .eq 8, 3) := dk_159 0 8 (dk_at dksX3_takes_0 13 rfl rfl)
theorem dX3_takes_16 : decode cX3_takes 16 = .ok (.aload_n 0, 1) := dk_42 (dk_at dksX3_takes_0 16 rfl rfl)
theorem dX3_takes_17 : decode cX3_takes 17 = .ok (.invokevirtual 137, 3) := dk_182 0 137 (dk_at dksX3_takes_0 17 rfl rfl)
theorem dX3_takes_20 : decode cX3_takes 20 = .ok (.ireturn, 1) := dk_172 (dk_at dksX3_takes_0 20 rfl rfl)
theorem dX3_takes_21 : decode cX3_takes 21 = .ok (.aload_n 0, 1) := dk_42 (dk_at dksX3_takes_0 21 rfl rfl)
theorem dX3_takes_22 : decode cX3_takes 22 = .ok (.dup, 1) := dk_89 (dk_at dksX3_takes_0 22 rfl rfl)
theorem dX3_takes_23 : decode cX3_takes 23 = .ok (.getfield 122, 3) := dk_180 0 122 (dk_at dksX3_takes_1 0 rfl rfl)
theorem dX3_takes_26 : decode cX3_takes 26 = .ok (.iconst 1, 1) := dk_4 (dk_at dksX3_takes_1 3 rfl rfl)
theorem dX3_takes_27 : decode cX3_takes 27 = .ok (.iadd, 1) := dk_96 (dk_at dksX3_takes_1 4 rfl rfl)
theorem dX3_takes_28 : decode cX3_takes 28 = .ok (.putfield 122, 3) := dk_181 0 122 (dk_at dksX3_takes_1 5 rfl rfl)
theorem dX3_takes_31 : decode cX3_takes 31 = .ok (.iconst 1, 1) := dk_4 (dk_at dksX3_takes_1 8 rfl rfl)
theorem dX3_takes_32 : decode cX3_takes 32 = .ok (.ireturn, 1) := dk_172 (dk_at dksX3_takes_1 9 rfl rfl)
abbrev cX3_condition : ByteArray := prog_14_method_23_code
def yX3_condition : MethodName := ⟨RX3, "condition", "(ZI)Z"⟩
def dkwX3_condition_2 : List UInt8 := [153, 0, 7, 4, 167, 0, 4, 3, 62, 167, 255, 206, 29, 172]
abbrev dktX3_condition_2 : List UInt8 := dkwX3_condition_2 ++ []
def dkwX3_condition_1 : List UInt8 := [42, 89, 180, 0, 122, 4, 96, 181, 0, 122, 42, 3, 3, 182, 0, 197, 54, 4, 29, 154, 0, 8, 21, 4]
abbrev dktX3_condition_1 : List UInt8 := dkwX3_condition_1 ++ dktX3_condition_2
def dkwX3_condition_0 : List UInt8 := [42, 27, 28, 182, 0, 197, 62, 42, 180, 0, 131, 2, 160, 0, 48, 42, 182, 0, 141, 16, 124, 160, 0, 39]
abbrev dktX3_condition_0 : List UInt8 := dkwX3_condition_0 ++ dktX3_condition_1
theorem dksX3_condition_0 : cX3_condition.data.toList.drop 0 = dktX3_condition_0 := by decide +kernel
theorem dksX3_condition_1 : cX3_condition.data.toList.drop 24 = dktX3_condition_1 := dk_seg dksX3_condition_0 24 rfl rfl
theorem dksX3_condition_2 : cX3_condition.data.toList.drop 48 = dktX3_condition_2 := dk_seg dksX3_condition_1 24 rfl rfl
theorem dX3_condition_0 : decode cX3_condition 0 = .ok (.aload_n 0, 1) := dk_42 (dk_at dksX3_condition_0 0 rfl rfl)
theorem dX3_condition_1 : decode cX3_condition 1 = .ok (.iload_n 1, 1) := dk_27 (dk_at dksX3_condition_0 1 rfl rfl)
theorem dX3_condition_2 : decode cX3_condition 2 = .ok (.iload_n 2, 1) := dk_28 (dk_at dksX3_condition_0 2 rfl rfl)
theorem dX3_condition_3 : decode cX3_condition 3 = .ok (.invokevirtual 197, 3) := dk_182 0 197 (dk_at dksX3_condition_0 3 rfl rfl)
theorem dX3_condition_6 : decode cX3_condition 6 = .ok (.istore_n 3, 1) := dk_62 (dk_at dksX3_condition_0 6 rfl rfl)
theorem dX3_condition_7 : decode cX3_condition 7 = .ok (.aload_n 0, 1) := dk_42 (dk_at dksX3_condition_0 7 rfl rfl)
theorem dX3_condition_8 : decode cX3_condition 8 = .ok (.getfield 131, 3) := dk_180 0 131 (dk_at dksX3_condition_0 8 rfl rfl)
theorem dX3_condition_11 : decode cX3_condition 11 = .ok (.iconst (-1), 1) := dk_2 (dk_at dksX3_condition_0 11 rfl rfl)
theorem dX3_condition_12 : decode cX3_condition 12 = .ok (.if_icmp .ne 48, 3) := dk_160 0 48 (dk_at dksX3_condition_0 12 rfl rfl)
theorem dX3_condition_15 : decode cX3_condition 15 = .ok (.aload_n 0, 1) := dk_42 (dk_at dksX3_condition_0 15 rfl rfl)
theorem dX3_condition_16 : decode cX3_condition 16 = .ok (.invokevirtual 141, 3) := dk_182 0 141 (dk_at dksX3_condition_0 16 rfl rfl)
theorem dX3_condition_19 : decode cX3_condition 19 = .ok (.bipush 124, 2) := dk_16 124 (dk_at dksX3_condition_0 19 rfl rfl)
theorem dX3_condition_21 : decode cX3_condition 21 = .ok (.if_icmp .ne 39, 3) := dk_160 0 39 (dk_at dksX3_condition_0 21 rfl rfl)
theorem dX3_condition_24 : decode cX3_condition 24 = .ok (.aload_n 0, 1) := dk_42 (dk_at dksX3_condition_1 0 rfl rfl)
theorem dX3_condition_25 : decode cX3_condition 25 = .ok (.dup, 1) := dk_89 (dk_at dksX3_condition_1 1 rfl rfl)
theorem dX3_condition_26 : decode cX3_condition 26 = .ok (.getfield 122, 3) := dk_180 0 122 (dk_at dksX3_condition_1 2 rfl rfl)
theorem dX3_condition_29 : decode cX3_condition 29 = .ok (.iconst 1, 1) := dk_4 (dk_at dksX3_condition_1 5 rfl rfl)
theorem dX3_condition_30 : decode cX3_condition 30 = .ok (.iadd, 1) := dk_96 (dk_at dksX3_condition_1 6 rfl rfl)
theorem dX3_condition_31 : decode cX3_condition 31 = .ok (.putfield 122, 3) := dk_181 0 122 (dk_at dksX3_condition_1 7 rfl rfl)
theorem dX3_condition_34 : decode cX3_condition 34 = .ok (.aload_n 0, 1) := dk_42 (dk_at dksX3_condition_1 10 rfl rfl)
theorem dX3_condition_35 : decode cX3_condition 35 = .ok (.iconst 0, 1) := dk_3 (dk_at dksX3_condition_1 11 rfl rfl)
theorem dX3_condition_36 : decode cX3_condition 36 = .ok (.iconst 0, 1) := dk_3 (dk_at dksX3_condition_1 12 rfl rfl)
theorem dX3_condition_37 : decode cX3_condition 37 = .ok (.invokevirtual 197, 3) := dk_182 0 197 (dk_at dksX3_condition_1 13 rfl rfl)
theorem dX3_condition_40 : decode cX3_condition 40 = .ok (.istore 4, 2) := dk_54 4 (dk_at dksX3_condition_1 16 rfl rfl)
theorem dX3_condition_42 : decode cX3_condition 42 = .ok (.iload_n 3, 1) := dk_29 (dk_at dksX3_condition_1 18 rfl rfl)
theorem dX3_condition_43 : decode cX3_condition 43 = .ok (.ifCond .ne 8, 3) := dk_154 0 8 (dk_at dksX3_condition_1 19 rfl rfl)
theorem dX3_condition_46 : decode cX3_condition 46 = .ok (.iload 4, 2) := dk_21 4 (dk_at dksX3_condition_1 22 rfl rfl)
theorem dX3_condition_48 : decode cX3_condition 48 = .ok (.ifCond .eq 7, 3) := dk_153 0 7 (dk_at dksX3_condition_2 0 rfl rfl)
theorem dX3_condition_51 : decode cX3_condition 51 = .ok (.iconst 1, 1) := dk_4 (dk_at dksX3_condition_2 3 rfl rfl)
theorem dX3_condition_52 : decode cX3_condition 52 = .ok (.goto 4, 3) := dk_167 0 4 (dk_at dksX3_condition_2 4 rfl rfl)
theorem dX3_condition_55 : decode cX3_condition 55 = .ok (.iconst 0, 1) := dk_3 (dk_at dksX3_condition_2 7 rfl rfl)
theorem dX3_condition_56 : decode cX3_condition 56 = .ok (.istore_n 3, 1) := dk_62 (dk_at dksX3_condition_2 8 rfl rfl)
theorem dX3_condition_57 : decode cX3_condition 57 = .ok (.goto (-50), 3) := dk_167 255 206 (dk_at dksX3_condition_2 9 rfl rfl)
theorem dX3_condition_60 : decode cX3_condition 60 = .ok (.iload_n 3, 1) := dk_29 (dk_at dksX3_condition_2 12 rfl rfl)
theorem dX3_condition_61 : decode cX3_condition 61 = .ok (.ireturn, 1) := dk_172 (dk_at dksX3_condition_2 13 rfl rfl)
abbrev cX3_part : ByteArray := prog_14_method_22_code
def yX3_part : MethodName := ⟨RX3, "part", "(ZI)Z"⟩
def dkwX3_part_3 : List UInt8 := [172]
abbrev dktX3_part_3 : List UInt8 := dkwX3_part_3 ++ []
def dkwX3_part_2 : List UInt8 := [182, 0, 187, 54, 4, 29, 153, 0, 12, 21, 4, 153, 0, 7, 4, 167, 0, 4, 3, 62, 167, 255, 208, 29]
abbrev dktX3_part_2 : List UInt8 := dkwX3_part_2 ++ dktX3_part_3
def dkwX3_part_1 : List UInt8 := [160, 0, 46, 42, 182, 0, 141, 16, 38, 160, 0, 37, 42, 89, 180, 0, 122, 4, 96, 181, 0, 122, 42]
abbrev dktX3_part_1 : List UInt8 := dkwX3_part_1 ++ dktX3_part_2
def dkwX3_part_0 : List UInt8 := [27, 153, 0, 12, 42, 4, 28, 182, 0, 194, 167, 0, 7, 42, 182, 0, 187, 62, 42, 180, 0, 131, 2]
abbrev dktX3_part_0 : List UInt8 := dkwX3_part_0 ++ dktX3_part_1
theorem dksX3_part_0 : cX3_part.data.toList.drop 0 = dktX3_part_0 := by decide +kernel
theorem dksX3_part_1 : cX3_part.data.toList.drop 23 = dktX3_part_1 := dk_seg dksX3_part_0 23 rfl rfl
theorem dksX3_part_2 : cX3_part.data.toList.drop 46 = dktX3_part_2 := dk_seg dksX3_part_1 23 rfl rfl
theorem dksX3_part_3 : cX3_part.data.toList.drop 70 = dktX3_part_3 := dk_seg dksX3_part_2 24 rfl rfl
theorem dX3_part_0 : decode cX3_part 0 = .ok (.iload_n 1, 1) := dk_27 (dk_at dksX3_part_0 0 rfl rfl)
theorem dX3_part_1 : decode cX3_part 1 = .ok (.ifCond .eq 12, 3) := dk_153 0 12 (dk_at dksX3_part_0 1 rfl rfl)
theorem dX3_part_4 : decode cX3_part 4 = .ok (.aload_n 0, 1) := dk_42 (dk_at dksX3_part_0 4 rfl rfl)
theorem dX3_part_5 : decode cX3_part 5 = .ok (.iconst 1, 1) := dk_4 (dk_at dksX3_part_0 5 rfl rfl)
theorem dX3_part_6 : decode cX3_part 6 = .ok (.iload_n 2, 1) := dk_28 (dk_at dksX3_part_0 6 rfl rfl)
theorem dX3_part_7 : decode cX3_part 7 = .ok (.invokevirtual 194, 3) := dk_182 0 194 (dk_at dksX3_part_0 7 rfl rfl)
theorem dX3_part_10 : decode cX3_part 10 = .ok (.goto 7, 3) := dk_167 0 7 (dk_at dksX3_part_0 10 rfl rfl)
theorem dX3_part_13 : decode cX3_part 13 = .ok (.aload_n 0, 1) := dk_42 (dk_at dksX3_part_0 13 rfl rfl)
theorem dX3_part_14 : decode cX3_part 14 = .ok (.invokevirtual 187, 3) := dk_182 0 187 (dk_at dksX3_part_0 14 rfl rfl)
theorem dX3_part_17 : decode cX3_part 17 = .ok (.istore_n 3, 1) := dk_62 (dk_at dksX3_part_0 17 rfl rfl)
theorem dX3_part_18 : decode cX3_part 18 = .ok (.aload_n 0, 1) := dk_42 (dk_at dksX3_part_0 18 rfl rfl)
theorem dX3_part_19 : decode cX3_part 19 = .ok (.getfield 131, 3) := dk_180 0 131 (dk_at dksX3_part_0 19 rfl rfl)
theorem dX3_part_22 : decode cX3_part 22 = .ok (.iconst (-1), 1) := dk_2 (dk_at dksX3_part_0 22 rfl rfl)
theorem dX3_part_23 : decode cX3_part 23 = .ok (.if_icmp .ne 46, 3) := dk_160 0 46 (dk_at dksX3_part_1 0 rfl rfl)
theorem dX3_part_26 : decode cX3_part 26 = .ok (.aload_n 0, 1) := dk_42 (dk_at dksX3_part_1 3 rfl rfl)
theorem dX3_part_27 : decode cX3_part 27 = .ok (.invokevirtual 141, 3) := dk_182 0 141 (dk_at dksX3_part_1 4 rfl rfl)
theorem dX3_part_30 : decode cX3_part 30 = .ok (.bipush 38, 2) := dk_16 38 (dk_at dksX3_part_1 7 rfl rfl)
theorem dX3_part_32 : decode cX3_part 32 = .ok (.if_icmp .ne 37, 3) := dk_160 0 37 (dk_at dksX3_part_1 9 rfl rfl)
theorem dX3_part_35 : decode cX3_part 35 = .ok (.aload_n 0, 1) := dk_42 (dk_at dksX3_part_1 12 rfl rfl)
theorem dX3_part_36 : decode cX3_part 36 = .ok (.dup, 1) := dk_89 (dk_at dksX3_part_1 13 rfl rfl)
theorem dX3_part_37 : decode cX3_part 37 = .ok (.getfield 122, 3) := dk_180 0 122 (dk_at dksX3_part_1 14 rfl rfl)
theorem dX3_part_40 : decode cX3_part 40 = .ok (.iconst 1, 1) := dk_4 (dk_at dksX3_part_1 17 rfl rfl)
theorem dX3_part_41 : decode cX3_part 41 = .ok (.iadd, 1) := dk_96 (dk_at dksX3_part_1 18 rfl rfl)
theorem dX3_part_42 : decode cX3_part 42 = .ok (.putfield 122, 3) := dk_181 0 122 (dk_at dksX3_part_1 19 rfl rfl)
theorem dX3_part_45 : decode cX3_part 45 = .ok (.aload_n 0, 1) := dk_42 (dk_at dksX3_part_1 22 rfl rfl)
theorem dX3_part_46 : decode cX3_part 46 = .ok (.invokevirtual 187, 3) := dk_182 0 187 (dk_at dksX3_part_2 0 rfl rfl)
theorem dX3_part_49 : decode cX3_part 49 = .ok (.istore 4, 2) := dk_54 4 (dk_at dksX3_part_2 3 rfl rfl)
theorem dX3_part_51 : decode cX3_part 51 = .ok (.iload_n 3, 1) := dk_29 (dk_at dksX3_part_2 5 rfl rfl)
theorem dX3_part_52 : decode cX3_part 52 = .ok (.ifCond .eq 12, 3) := dk_153 0 12 (dk_at dksX3_part_2 6 rfl rfl)
theorem dX3_part_55 : decode cX3_part 55 = .ok (.iload 4, 2) := dk_21 4 (dk_at dksX3_part_2 9 rfl rfl)
theorem dX3_part_57 : decode cX3_part 57 = .ok (.ifCond .eq 7, 3) := dk_153 0 7 (dk_at dksX3_part_2 11 rfl rfl)
theorem dX3_part_60 : decode cX3_part 60 = .ok (.iconst 1, 1) := dk_4 (dk_at dksX3_part_2 14 rfl rfl)
theorem dX3_part_61 : decode cX3_part 61 = .ok (.goto 4, 3) := dk_167 0 4 (dk_at dksX3_part_2 15 rfl rfl)
theorem dX3_part_64 : decode cX3_part 64 = .ok (.iconst 0, 1) := dk_3 (dk_at dksX3_part_2 18 rfl rfl)
theorem dX3_part_65 : decode cX3_part 65 = .ok (.istore_n 3, 1) := dk_62 (dk_at dksX3_part_2 19 rfl rfl)
theorem dX3_part_66 : decode cX3_part 66 = .ok (.goto (-48), 3) := dk_167 255 208 (dk_at dksX3_part_2 20 rfl rfl)
theorem dX3_part_69 : decode cX3_part 69 = .ok (.iload_n 3, 1) := dk_29 (dk_at dksX3_part_2 23 rfl rfl)
theorem dX3_part_70 : decode cX3_part 70 = .ok (.ireturn, 1) := dk_172 (dk_at dksX3_part_3 0 rfl rfl)
abbrev cX3_compares : ByteArray := prog_14_method_20_code
def yX3_compares : MethodName := ⟨RX3, "compares", "(ZI)Z"⟩
def dkwX3_compares_4 : List UInt8 := [3, 167, 0, 14, 29, 21, 5, 164, 0, 7, 4, 167, 0, 4, 3, 172]
abbrev dktX3_compares_4 : List UInt8 := dkwX3_compares_4 ++ []
def dkwX3_compares_3 : List UInt8 := [167, 0, 39, 3, 167, 0, 35, 21, 4, 16, 60, 160, 0, 17, 29, 21, 5, 162, 0, 7, 4, 167, 0, 18]
abbrev dktX3_compares_3 : List UInt8 := dkwX3_compares_3 ++ dktX3_compares_4
def dkwX3_compares_2 : List UInt8 := [96, 181, 0, 122, 42, 182, 0, 164, 54, 5, 21, 4, 16, 61, 160, 0, 17, 29, 21, 5, 160, 0, 7, 4]
abbrev dktX3_compares_2 : List UInt8 := dkwX3_compares_2 ++ dktX3_compares_3
def dkwX3_compares_1 : List UInt8 := [182, 0, 141, 54, 4, 21, 4, 184, 0, 184, 154, 0, 8, 42, 182, 0, 137, 172, 42, 89, 180, 0, 122, 4]
abbrev dktX3_compares_1 : List UInt8 := dkwX3_compares_1 ++ dktX3_compares_2
def dkwX3_compares_0 : List UInt8 := [27, 153, 0, 7, 28, 167, 0, 7, 42, 182, 0, 164, 62, 42, 180, 0, 131, 2, 159, 0, 5, 3, 172, 42]
abbrev dktX3_compares_0 : List UInt8 := dkwX3_compares_0 ++ dktX3_compares_1
theorem dksX3_compares_0 : cX3_compares.data.toList.drop 0 = dktX3_compares_0 := by decide +kernel
theorem dksX3_compares_1 : cX3_compares.data.toList.drop 24 = dktX3_compares_1 := dk_seg dksX3_compares_0 24 rfl rfl
theorem dksX3_compares_2 : cX3_compares.data.toList.drop 48 = dktX3_compares_2 := dk_seg dksX3_compares_1 24 rfl rfl
theorem dksX3_compares_3 : cX3_compares.data.toList.drop 72 = dktX3_compares_3 := dk_seg dksX3_compares_2 24 rfl rfl
theorem dksX3_compares_4 : cX3_compares.data.toList.drop 96 = dktX3_compares_4 := dk_seg dksX3_compares_3 24 rfl rfl
theorem dX3_compares_0 : decode cX3_compares 0 = .ok (.iload_n 1, 1) := dk_27 (dk_at dksX3_compares_0 0 rfl rfl)
theorem dX3_compares_1 : decode cX3_compares 1 = .ok (.ifCond .eq 7, 3) := dk_153 0 7 (dk_at dksX3_compares_0 1 rfl rfl)
theorem dX3_compares_4 : decode cX3_compares 4 = .ok (.iload_n 2, 1) := dk_28 (dk_at dksX3_compares_0 4 rfl rfl)
theorem dX3_compares_5 : decode cX3_compares 5 = .ok (.goto 7, 3) := dk_167 0 7 (dk_at dksX3_compares_0 5 rfl rfl)
theorem dX3_compares_8 : decode cX3_compares 8 = .ok (.aload_n 0, 1) := dk_42 (dk_at dksX3_compares_0 8 rfl rfl)
theorem dX3_compares_9 : decode cX3_compares 9 = .ok (.invokevirtual 164, 3) := dk_182 0 164 (dk_at dksX3_compares_0 9 rfl rfl)
theorem dX3_compares_12 : decode cX3_compares 12 = .ok (.istore_n 3, 1) := dk_62 (dk_at dksX3_compares_0 12 rfl rfl)
theorem dX3_compares_13 : decode cX3_compares 13 = .ok (.aload_n 0, 1) := dk_42 (dk_at dksX3_compares_0 13 rfl rfl)
theorem dX3_compares_14 : decode cX3_compares 14 = .ok (.getfield 131, 3) := dk_180 0 131 (dk_at dksX3_compares_0 14 rfl rfl)
theorem dX3_compares_17 : decode cX3_compares 17 = .ok (.iconst (-1), 1) := dk_2 (dk_at dksX3_compares_0 17 rfl rfl)
theorem dX3_compares_18 : decode cX3_compares 18 = .ok (.if_icmp .eq 5, 3) := dk_159 0 5 (dk_at dksX3_compares_0 18 rfl rfl)
theorem dX3_compares_21 : decode cX3_compares 21 = .ok (.iconst 0, 1) := dk_3 (dk_at dksX3_compares_0 21 rfl rfl)
theorem dX3_compares_22 : decode cX3_compares 22 = .ok (.ireturn, 1) := dk_172 (dk_at dksX3_compares_0 22 rfl rfl)
theorem dX3_compares_23 : decode cX3_compares 23 = .ok (.aload_n 0, 1) := dk_42 (dk_at dksX3_compares_0 23 rfl rfl)
theorem dX3_compares_24 : decode cX3_compares 24 = .ok (.invokevirtual 141, 3) := dk_182 0 141 (dk_at dksX3_compares_1 0 rfl rfl)
theorem dX3_compares_27 : decode cX3_compares 27 = .ok (.istore 4, 2) := dk_54 4 (dk_at dksX3_compares_1 3 rfl rfl)
theorem dX3_compares_29 : decode cX3_compares 29 = .ok (.iload 4, 2) := dk_21 4 (dk_at dksX3_compares_1 5 rfl rfl)
theorem dX3_compares_31 : decode cX3_compares 31 = .ok (.invokestatic 184, 3) := dk_184 0 184 (dk_at dksX3_compares_1 7 rfl rfl)
theorem dX3_compares_34 : decode cX3_compares 34 = .ok (.ifCond .ne 8, 3) := dk_154 0 8 (dk_at dksX3_compares_1 10 rfl rfl)
theorem dX3_compares_37 : decode cX3_compares 37 = .ok (.aload_n 0, 1) := dk_42 (dk_at dksX3_compares_1 13 rfl rfl)
theorem dX3_compares_38 : decode cX3_compares 38 = .ok (.invokevirtual 137, 3) := dk_182 0 137 (dk_at dksX3_compares_1 14 rfl rfl)
theorem dX3_compares_41 : decode cX3_compares 41 = .ok (.ireturn, 1) := dk_172 (dk_at dksX3_compares_1 17 rfl rfl)
theorem dX3_compares_42 : decode cX3_compares 42 = .ok (.aload_n 0, 1) := dk_42 (dk_at dksX3_compares_1 18 rfl rfl)
theorem dX3_compares_43 : decode cX3_compares 43 = .ok (.dup, 1) := dk_89 (dk_at dksX3_compares_1 19 rfl rfl)
theorem dX3_compares_44 : decode cX3_compares 44 = .ok (.getfield 122, 3) := dk_180 0 122 (dk_at dksX3_compares_1 20 rfl rfl)
theorem dX3_compares_47 : decode cX3_compares 47 = .ok (.iconst 1, 1) := dk_4 (dk_at dksX3_compares_1 23 rfl rfl)
theorem dX3_compares_48 : decode cX3_compares 48 = .ok (.iadd, 1) := dk_96 (dk_at dksX3_compares_2 0 rfl rfl)
theorem dX3_compares_49 : decode cX3_compares 49 = .ok (.putfield 122, 3) := dk_181 0 122 (dk_at dksX3_compares_2 1 rfl rfl)
theorem dX3_compares_52 : decode cX3_compares 52 = .ok (.aload_n 0, 1) := dk_42 (dk_at dksX3_compares_2 4 rfl rfl)
theorem dX3_compares_53 : decode cX3_compares 53 = .ok (.invokevirtual 164, 3) := dk_182 0 164 (dk_at dksX3_compares_2 5 rfl rfl)
theorem dX3_compares_56 : decode cX3_compares 56 = .ok (.istore 5, 2) := dk_54 5 (dk_at dksX3_compares_2 8 rfl rfl)
theorem dX3_compares_58 : decode cX3_compares 58 = .ok (.iload 4, 2) := dk_21 4 (dk_at dksX3_compares_2 10 rfl rfl)
theorem dX3_compares_60 : decode cX3_compares 60 = .ok (.bipush 61, 2) := dk_16 61 (dk_at dksX3_compares_2 12 rfl rfl)
theorem dX3_compares_62 : decode cX3_compares 62 = .ok (.if_icmp .ne 17, 3) := dk_160 0 17 (dk_at dksX3_compares_2 14 rfl rfl)
theorem dX3_compares_65 : decode cX3_compares 65 = .ok (.iload_n 3, 1) := dk_29 (dk_at dksX3_compares_2 17 rfl rfl)
theorem dX3_compares_66 : decode cX3_compares 66 = .ok (.iload 5, 2) := dk_21 5 (dk_at dksX3_compares_2 18 rfl rfl)
theorem dX3_compares_68 : decode cX3_compares 68 = .ok (.if_icmp .ne 7, 3) := dk_160 0 7 (dk_at dksX3_compares_2 20 rfl rfl)
theorem dX3_compares_71 : decode cX3_compares 71 = .ok (.iconst 1, 1) := dk_4 (dk_at dksX3_compares_2 23 rfl rfl)
theorem dX3_compares_72 : decode cX3_compares 72 = .ok (.goto 39, 3) := dk_167 0 39 (dk_at dksX3_compares_3 0 rfl rfl)
theorem dX3_compares_75 : decode cX3_compares 75 = .ok (.iconst 0, 1) := dk_3 (dk_at dksX3_compares_3 3 rfl rfl)
theorem dX3_compares_76 : decode cX3_compares 76 = .ok (.goto 35, 3) := dk_167 0 35 (dk_at dksX3_compares_3 4 rfl rfl)
theorem dX3_compares_79 : decode cX3_compares 79 = .ok (.iload 4, 2) := dk_21 4 (dk_at dksX3_compares_3 7 rfl rfl)
theorem dX3_compares_81 : decode cX3_compares 81 = .ok (.bipush 60, 2) := dk_16 60 (dk_at dksX3_compares_3 9 rfl rfl)
theorem dX3_compares_83 : decode cX3_compares 83 = .ok (.if_icmp .ne 17, 3) := dk_160 0 17 (dk_at dksX3_compares_3 11 rfl rfl)
theorem dX3_compares_86 : decode cX3_compares 86 = .ok (.iload_n 3, 1) := dk_29 (dk_at dksX3_compares_3 14 rfl rfl)
theorem dX3_compares_87 : decode cX3_compares 87 = .ok (.iload 5, 2) := dk_21 5 (dk_at dksX3_compares_3 15 rfl rfl)
theorem dX3_compares_89 : decode cX3_compares 89 = .ok (.if_icmp .ge 7, 3) := dk_162 0 7 (dk_at dksX3_compares_3 17 rfl rfl)
theorem dX3_compares_92 : decode cX3_compares 92 = .ok (.iconst 1, 1) := dk_4 (dk_at dksX3_compares_3 20 rfl rfl)
theorem dX3_compares_93 : decode cX3_compares 93 = .ok (.goto 18, 3) := dk_167 0 18 (dk_at dksX3_compares_3 21 rfl rfl)
theorem dX3_compares_96 : decode cX3_compares 96 = .ok (.iconst 0, 1) := dk_3 (dk_at dksX3_compares_4 0 rfl rfl)
theorem dX3_compares_97 : decode cX3_compares 97 = .ok (.goto 14, 3) := dk_167 0 14 (dk_at dksX3_compares_4 1 rfl rfl)
theorem dX3_compares_100 : decode cX3_compares 100 = .ok (.iload_n 3, 1) := dk_29 (dk_at dksX3_compares_4 4 rfl rfl)
theorem dX3_compares_101 : decode cX3_compares 101 = .ok (.iload 5, 2) := dk_21 5 (dk_at dksX3_compares_4 5 rfl rfl)
theorem dX3_compares_103 : decode cX3_compares 103 = .ok (.if_icmp .le 7, 3) := dk_164 0 7 (dk_at dksX3_compares_4 7 rfl rfl)
theorem dX3_compares_106 : decode cX3_compares 106 = .ok (.iconst 1, 1) := dk_4 (dk_at dksX3_compares_4 10 rfl rfl)
theorem dX3_compares_107 : decode cX3_compares 107 = .ok (.goto 4, 3) := dk_167 0 4 (dk_at dksX3_compares_4 11 rfl rfl)
theorem dX3_compares_110 : decode cX3_compares 110 = .ok (.iconst 0, 1) := dk_3 (dk_at dksX3_compares_4 14 rfl rfl)
theorem dX3_compares_111 : decode cX3_compares 111 = .ok (.ireturn, 1) := dk_172 (dk_at dksX3_compares_4 15 rfl rfl)
abbrev cX3_sum : ByteArray := prog_14_method_18_code
def yX3_sum : MethodName := ⟨RX3, "sum", "()I"⟩
def dkwX3_sum_3 : List UInt8 := [167, 0, 7, 27, 133, 33, 101, 184, 0, 177, 60, 167, 255, 180, 27, 172]
abbrev dktX3_sum_3 : List UInt8 := dkwX3_sum_3 ++ []
def dkwX3_sum_2 : List UInt8 := [89, 180, 0, 122, 4, 96, 181, 0, 122, 42, 182, 0, 181, 133, 66, 28, 153, 0, 10, 27, 133, 33, 97]
abbrev dktX3_sum_2 : List UInt8 := dkwX3_sum_2 ++ dktX3_sum_3
def dkwX3_sum_1 : List UInt8 := [182, 0, 141, 16, 45, 160, 0, 56, 42, 182, 0, 141, 16, 43, 160, 0, 7, 4, 167, 0, 4, 3, 61, 42]
abbrev dktX3_sum_1 : List UInt8 := dkwX3_sum_1 ++ dktX3_sum_2
def dkwX3_sum_0 : List UInt8 := [42, 182, 0, 181, 60, 42, 180, 0, 131, 2, 160, 0, 74, 42, 182, 0, 141, 16, 43, 159, 0, 12, 42]
abbrev dktX3_sum_0 : List UInt8 := dkwX3_sum_0 ++ dktX3_sum_1
theorem dksX3_sum_0 : cX3_sum.data.toList.drop 0 = dktX3_sum_0 := by decide +kernel
theorem dksX3_sum_1 : cX3_sum.data.toList.drop 23 = dktX3_sum_1 := dk_seg dksX3_sum_0 23 rfl rfl
theorem dksX3_sum_2 : cX3_sum.data.toList.drop 47 = dktX3_sum_2 := dk_seg dksX3_sum_1 24 rfl rfl
theorem dksX3_sum_3 : cX3_sum.data.toList.drop 70 = dktX3_sum_3 := dk_seg dksX3_sum_2 23 rfl rfl
theorem dX3_sum_0 : decode cX3_sum 0 = .ok (.aload_n 0, 1) := dk_42 (dk_at dksX3_sum_0 0 rfl rfl)
theorem dX3_sum_1 : decode cX3_sum 1 = .ok (.invokevirtual 181, 3) := dk_182 0 181 (dk_at dksX3_sum_0 1 rfl rfl)
theorem dX3_sum_4 : decode cX3_sum 4 = .ok (.istore_n 1, 1) := dk_60 (dk_at dksX3_sum_0 4 rfl rfl)
theorem dX3_sum_5 : decode cX3_sum 5 = .ok (.aload_n 0, 1) := dk_42 (dk_at dksX3_sum_0 5 rfl rfl)
theorem dX3_sum_6 : decode cX3_sum 6 = .ok (.getfield 131, 3) := dk_180 0 131 (dk_at dksX3_sum_0 6 rfl rfl)
theorem dX3_sum_9 : decode cX3_sum 9 = .ok (.iconst (-1), 1) := dk_2 (dk_at dksX3_sum_0 9 rfl rfl)
theorem dX3_sum_10 : decode cX3_sum 10 = .ok (.if_icmp .ne 74, 3) := dk_160 0 74 (dk_at dksX3_sum_0 10 rfl rfl)
theorem dX3_sum_13 : decode cX3_sum 13 = .ok (.aload_n 0, 1) := dk_42 (dk_at dksX3_sum_0 13 rfl rfl)
theorem dX3_sum_14 : decode cX3_sum 14 = .ok (.invokevirtual 141, 3) := dk_182 0 141 (dk_at dksX3_sum_0 14 rfl rfl)
theorem dX3_sum_17 : decode cX3_sum 17 = .ok (.bipush 43, 2) := dk_16 43 (dk_at dksX3_sum_0 17 rfl rfl)
theorem dX3_sum_19 : decode cX3_sum 19 = .ok (.if_icmp .eq 12, 3) := dk_159 0 12 (dk_at dksX3_sum_0 19 rfl rfl)
theorem dX3_sum_22 : decode cX3_sum 22 = .ok (.aload_n 0, 1) := dk_42 (dk_at dksX3_sum_0 22 rfl rfl)
theorem dX3_sum_23 : decode cX3_sum 23 = .ok (.invokevirtual 141, 3) := dk_182 0 141 (dk_at dksX3_sum_1 0 rfl rfl)
theorem dX3_sum_26 : decode cX3_sum 26 = .ok (.bipush 45, 2) := dk_16 45 (dk_at dksX3_sum_1 3 rfl rfl)
theorem dX3_sum_28 : decode cX3_sum 28 = .ok (.if_icmp .ne 56, 3) := dk_160 0 56 (dk_at dksX3_sum_1 5 rfl rfl)
theorem dX3_sum_31 : decode cX3_sum 31 = .ok (.aload_n 0, 1) := dk_42 (dk_at dksX3_sum_1 8 rfl rfl)
theorem dX3_sum_32 : decode cX3_sum 32 = .ok (.invokevirtual 141, 3) := dk_182 0 141 (dk_at dksX3_sum_1 9 rfl rfl)
theorem dX3_sum_35 : decode cX3_sum 35 = .ok (.bipush 43, 2) := dk_16 43 (dk_at dksX3_sum_1 12 rfl rfl)
theorem dX3_sum_37 : decode cX3_sum 37 = .ok (.if_icmp .ne 7, 3) := dk_160 0 7 (dk_at dksX3_sum_1 14 rfl rfl)
theorem dX3_sum_40 : decode cX3_sum 40 = .ok (.iconst 1, 1) := dk_4 (dk_at dksX3_sum_1 17 rfl rfl)
theorem dX3_sum_41 : decode cX3_sum 41 = .ok (.goto 4, 3) := dk_167 0 4 (dk_at dksX3_sum_1 18 rfl rfl)
theorem dX3_sum_44 : decode cX3_sum 44 = .ok (.iconst 0, 1) := dk_3 (dk_at dksX3_sum_1 21 rfl rfl)
theorem dX3_sum_45 : decode cX3_sum 45 = .ok (.istore_n 2, 1) := dk_61 (dk_at dksX3_sum_1 22 rfl rfl)
theorem dX3_sum_46 : decode cX3_sum 46 = .ok (.aload_n 0, 1) := dk_42 (dk_at dksX3_sum_1 23 rfl rfl)
theorem dX3_sum_47 : decode cX3_sum 47 = .ok (.dup, 1) := dk_89 (dk_at dksX3_sum_2 0 rfl rfl)
theorem dX3_sum_48 : decode cX3_sum 48 = .ok (.getfield 122, 3) := dk_180 0 122 (dk_at dksX3_sum_2 1 rfl rfl)
theorem dX3_sum_51 : decode cX3_sum 51 = .ok (.iconst 1, 1) := dk_4 (dk_at dksX3_sum_2 4 rfl rfl)
theorem dX3_sum_52 : decode cX3_sum 52 = .ok (.iadd, 1) := dk_96 (dk_at dksX3_sum_2 5 rfl rfl)
theorem dX3_sum_53 : decode cX3_sum 53 = .ok (.putfield 122, 3) := dk_181 0 122 (dk_at dksX3_sum_2 6 rfl rfl)
theorem dX3_sum_56 : decode cX3_sum 56 = .ok (.aload_n 0, 1) := dk_42 (dk_at dksX3_sum_2 9 rfl rfl)
theorem dX3_sum_57 : decode cX3_sum 57 = .ok (.invokevirtual 181, 3) := dk_182 0 181 (dk_at dksX3_sum_2 10 rfl rfl)
theorem dX3_sum_60 : decode cX3_sum 60 = .ok (.i2l, 1) := dk_133 (dk_at dksX3_sum_2 13 rfl rfl)
theorem dX3_sum_61 : decode cX3_sum 61 = .ok (.lstore_n 3, 1) := dk_66 (dk_at dksX3_sum_2 14 rfl rfl)
theorem dX3_sum_62 : decode cX3_sum 62 = .ok (.iload_n 2, 1) := dk_28 (dk_at dksX3_sum_2 15 rfl rfl)
theorem dX3_sum_63 : decode cX3_sum 63 = .ok (.ifCond .eq 10, 3) := dk_153 0 10 (dk_at dksX3_sum_2 16 rfl rfl)
theorem dX3_sum_66 : decode cX3_sum 66 = .ok (.iload_n 1, 1) := dk_27 (dk_at dksX3_sum_2 19 rfl rfl)
theorem dX3_sum_67 : decode cX3_sum 67 = .ok (.i2l, 1) := dk_133 (dk_at dksX3_sum_2 20 rfl rfl)
theorem dX3_sum_68 : decode cX3_sum 68 = .ok (.lload_n 3, 1) := dk_33 (dk_at dksX3_sum_2 21 rfl rfl)
theorem dX3_sum_69 : decode cX3_sum 69 = .ok (.ladd, 1) := dk_97 (dk_at dksX3_sum_2 22 rfl rfl)
theorem dX3_sum_70 : decode cX3_sum 70 = .ok (.goto 7, 3) := dk_167 0 7 (dk_at dksX3_sum_3 0 rfl rfl)
theorem dX3_sum_73 : decode cX3_sum 73 = .ok (.iload_n 1, 1) := dk_27 (dk_at dksX3_sum_3 3 rfl rfl)
theorem dX3_sum_74 : decode cX3_sum 74 = .ok (.i2l, 1) := dk_133 (dk_at dksX3_sum_3 4 rfl rfl)
theorem dX3_sum_75 : decode cX3_sum 75 = .ok (.lload_n 3, 1) := dk_33 (dk_at dksX3_sum_3 5 rfl rfl)
theorem dX3_sum_76 : decode cX3_sum 76 = .ok (.lsub, 1) := dk_101 (dk_at dksX3_sum_3 6 rfl rfl)
theorem dX3_sum_77 : decode cX3_sum 77 = .ok (.invokestatic 177, 3) := dk_184 0 177 (dk_at dksX3_sum_3 7 rfl rfl)
theorem dX3_sum_80 : decode cX3_sum 80 = .ok (.istore_n 1, 1) := dk_60 (dk_at dksX3_sum_3 10 rfl rfl)
theorem dX3_sum_81 : decode cX3_sum 81 = .ok (.goto (-76), 3) := dk_167 255 180 (dk_at dksX3_sum_3 11 rfl rfl)
theorem dX3_sum_84 : decode cX3_sum 84 = .ok (.iload_n 1, 1) := dk_27 (dk_at dksX3_sum_3 14 rfl rfl)
theorem dX3_sum_85 : decode cX3_sum 85 = .ok (.ireturn, 1) := dk_172 (dk_at dksX3_sum_3 15 rfl rfl)
abbrev cX3_term : ByteArray := prog_14_method_17_code
def yX3_term : MethodName := ⟨RX3, "term", "()I"⟩
def dkwX3_term_4 : List UInt8 := [27, 172]
abbrev dktX3_term_4 : List UInt8 := dkwX3_term_4 ++ []
def dkwX3_term_3 : List UInt8 := [167, 0, 17, 33, 9, 148, 154, 0, 7, 9, 167, 0, 7, 27, 133, 33, 109, 184, 0, 177, 60, 167, 255, 170]
abbrev dktX3_term_3 : List UInt8 := dkwX3_term_3 ++ dktX3_term_4
def dkwX3_term_2 : List UInt8 := [89, 180, 0, 122, 4, 96, 181, 0, 122, 42, 182, 0, 174, 133, 66, 28, 153, 0, 10, 27, 133, 33, 105]
abbrev dktX3_term_2 : List UInt8 := dkwX3_term_2 ++ dktX3_term_3
def dkwX3_term_1 : List UInt8 := [182, 0, 141, 16, 47, 160, 0, 66, 42, 182, 0, 141, 16, 42, 160, 0, 7, 4, 167, 0, 4, 3, 61, 42]
abbrev dktX3_term_1 : List UInt8 := dkwX3_term_1 ++ dktX3_term_2
def dkwX3_term_0 : List UInt8 := [42, 182, 0, 174, 60, 42, 180, 0, 131, 2, 160, 0, 84, 42, 182, 0, 141, 16, 42, 159, 0, 12, 42]
abbrev dktX3_term_0 : List UInt8 := dkwX3_term_0 ++ dktX3_term_1
theorem dksX3_term_0 : cX3_term.data.toList.drop 0 = dktX3_term_0 := by decide +kernel
theorem dksX3_term_1 : cX3_term.data.toList.drop 23 = dktX3_term_1 := dk_seg dksX3_term_0 23 rfl rfl
theorem dksX3_term_2 : cX3_term.data.toList.drop 47 = dktX3_term_2 := dk_seg dksX3_term_1 24 rfl rfl
theorem dksX3_term_3 : cX3_term.data.toList.drop 70 = dktX3_term_3 := dk_seg dksX3_term_2 23 rfl rfl
theorem dksX3_term_4 : cX3_term.data.toList.drop 94 = dktX3_term_4 := dk_seg dksX3_term_3 24 rfl rfl
theorem dX3_term_0 : decode cX3_term 0 = .ok (.aload_n 0, 1) := dk_42 (dk_at dksX3_term_0 0 rfl rfl)
theorem dX3_term_1 : decode cX3_term 1 = .ok (.invokevirtual 174, 3) := dk_182 0 174 (dk_at dksX3_term_0 1 rfl rfl)
theorem dX3_term_4 : decode cX3_term 4 = .ok (.istore_n 1, 1) := dk_60 (dk_at dksX3_term_0 4 rfl rfl)
theorem dX3_term_5 : decode cX3_term 5 = .ok (.aload_n 0, 1) := dk_42 (dk_at dksX3_term_0 5 rfl rfl)
theorem dX3_term_6 : decode cX3_term 6 = .ok (.getfield 131, 3) := dk_180 0 131 (dk_at dksX3_term_0 6 rfl rfl)
theorem dX3_term_9 : decode cX3_term 9 = .ok (.iconst (-1), 1) := dk_2 (dk_at dksX3_term_0 9 rfl rfl)
theorem dX3_term_10 : decode cX3_term 10 = .ok (.if_icmp .ne 84, 3) := dk_160 0 84 (dk_at dksX3_term_0 10 rfl rfl)
theorem dX3_term_13 : decode cX3_term 13 = .ok (.aload_n 0, 1) := dk_42 (dk_at dksX3_term_0 13 rfl rfl)
theorem dX3_term_14 : decode cX3_term 14 = .ok (.invokevirtual 141, 3) := dk_182 0 141 (dk_at dksX3_term_0 14 rfl rfl)
theorem dX3_term_17 : decode cX3_term 17 = .ok (.bipush 42, 2) := dk_16 42 (dk_at dksX3_term_0 17 rfl rfl)
theorem dX3_term_19 : decode cX3_term 19 = .ok (.if_icmp .eq 12, 3) := dk_159 0 12 (dk_at dksX3_term_0 19 rfl rfl)
theorem dX3_term_22 : decode cX3_term 22 = .ok (.aload_n 0, 1) := dk_42 (dk_at dksX3_term_0 22 rfl rfl)
theorem dX3_term_23 : decode cX3_term 23 = .ok (.invokevirtual 141, 3) := dk_182 0 141 (dk_at dksX3_term_1 0 rfl rfl)
theorem dX3_term_26 : decode cX3_term 26 = .ok (.bipush 47, 2) := dk_16 47 (dk_at dksX3_term_1 3 rfl rfl)
theorem dX3_term_28 : decode cX3_term 28 = .ok (.if_icmp .ne 66, 3) := dk_160 0 66 (dk_at dksX3_term_1 5 rfl rfl)
theorem dX3_term_31 : decode cX3_term 31 = .ok (.aload_n 0, 1) := dk_42 (dk_at dksX3_term_1 8 rfl rfl)
theorem dX3_term_32 : decode cX3_term 32 = .ok (.invokevirtual 141, 3) := dk_182 0 141 (dk_at dksX3_term_1 9 rfl rfl)
theorem dX3_term_35 : decode cX3_term 35 = .ok (.bipush 42, 2) := dk_16 42 (dk_at dksX3_term_1 12 rfl rfl)
theorem dX3_term_37 : decode cX3_term 37 = .ok (.if_icmp .ne 7, 3) := dk_160 0 7 (dk_at dksX3_term_1 14 rfl rfl)
theorem dX3_term_40 : decode cX3_term 40 = .ok (.iconst 1, 1) := dk_4 (dk_at dksX3_term_1 17 rfl rfl)
theorem dX3_term_41 : decode cX3_term 41 = .ok (.goto 4, 3) := dk_167 0 4 (dk_at dksX3_term_1 18 rfl rfl)
theorem dX3_term_44 : decode cX3_term 44 = .ok (.iconst 0, 1) := dk_3 (dk_at dksX3_term_1 21 rfl rfl)
theorem dX3_term_45 : decode cX3_term 45 = .ok (.istore_n 2, 1) := dk_61 (dk_at dksX3_term_1 22 rfl rfl)
theorem dX3_term_46 : decode cX3_term 46 = .ok (.aload_n 0, 1) := dk_42 (dk_at dksX3_term_1 23 rfl rfl)
theorem dX3_term_47 : decode cX3_term 47 = .ok (.dup, 1) := dk_89 (dk_at dksX3_term_2 0 rfl rfl)
theorem dX3_term_48 : decode cX3_term 48 = .ok (.getfield 122, 3) := dk_180 0 122 (dk_at dksX3_term_2 1 rfl rfl)
theorem dX3_term_51 : decode cX3_term 51 = .ok (.iconst 1, 1) := dk_4 (dk_at dksX3_term_2 4 rfl rfl)
theorem dX3_term_52 : decode cX3_term 52 = .ok (.iadd, 1) := dk_96 (dk_at dksX3_term_2 5 rfl rfl)
theorem dX3_term_53 : decode cX3_term 53 = .ok (.putfield 122, 3) := dk_181 0 122 (dk_at dksX3_term_2 6 rfl rfl)
theorem dX3_term_56 : decode cX3_term 56 = .ok (.aload_n 0, 1) := dk_42 (dk_at dksX3_term_2 9 rfl rfl)
theorem dX3_term_57 : decode cX3_term 57 = .ok (.invokevirtual 174, 3) := dk_182 0 174 (dk_at dksX3_term_2 10 rfl rfl)
theorem dX3_term_60 : decode cX3_term 60 = .ok (.i2l, 1) := dk_133 (dk_at dksX3_term_2 13 rfl rfl)
theorem dX3_term_61 : decode cX3_term 61 = .ok (.lstore_n 3, 1) := dk_66 (dk_at dksX3_term_2 14 rfl rfl)
theorem dX3_term_62 : decode cX3_term 62 = .ok (.iload_n 2, 1) := dk_28 (dk_at dksX3_term_2 15 rfl rfl)
theorem dX3_term_63 : decode cX3_term 63 = .ok (.ifCond .eq 10, 3) := dk_153 0 10 (dk_at dksX3_term_2 16 rfl rfl)
theorem dX3_term_66 : decode cX3_term 66 = .ok (.iload_n 1, 1) := dk_27 (dk_at dksX3_term_2 19 rfl rfl)
theorem dX3_term_67 : decode cX3_term 67 = .ok (.i2l, 1) := dk_133 (dk_at dksX3_term_2 20 rfl rfl)
theorem dX3_term_68 : decode cX3_term 68 = .ok (.lload_n 3, 1) := dk_33 (dk_at dksX3_term_2 21 rfl rfl)
theorem dX3_term_69 : decode cX3_term 69 = .ok (.lmul, 1) := dk_105 (dk_at dksX3_term_2 22 rfl rfl)
theorem dX3_term_70 : decode cX3_term 70 = .ok (.goto 17, 3) := dk_167 0 17 (dk_at dksX3_term_3 0 rfl rfl)
theorem dX3_term_73 : decode cX3_term 73 = .ok (.lload_n 3, 1) := dk_33 (dk_at dksX3_term_3 3 rfl rfl)
theorem dX3_term_74 : decode cX3_term 74 = .ok (.lconst 0, 1) := dk_9 (dk_at dksX3_term_3 4 rfl rfl)
theorem dX3_term_75 : decode cX3_term 75 = .ok (.lcmp, 1) := dk_148 (dk_at dksX3_term_3 5 rfl rfl)
theorem dX3_term_76 : decode cX3_term 76 = .ok (.ifCond .ne 7, 3) := dk_154 0 7 (dk_at dksX3_term_3 6 rfl rfl)
theorem dX3_term_79 : decode cX3_term 79 = .ok (.lconst 0, 1) := dk_9 (dk_at dksX3_term_3 9 rfl rfl)
theorem dX3_term_80 : decode cX3_term 80 = .ok (.goto 7, 3) := dk_167 0 7 (dk_at dksX3_term_3 10 rfl rfl)
theorem dX3_term_83 : decode cX3_term 83 = .ok (.iload_n 1, 1) := dk_27 (dk_at dksX3_term_3 13 rfl rfl)
theorem dX3_term_84 : decode cX3_term 84 = .ok (.i2l, 1) := dk_133 (dk_at dksX3_term_3 14 rfl rfl)
theorem dX3_term_85 : decode cX3_term 85 = .ok (.lload_n 3, 1) := dk_33 (dk_at dksX3_term_3 15 rfl rfl)
theorem dX3_term_86 : decode cX3_term 86 = .ok (.ldiv, 1) := dk_109 (dk_at dksX3_term_3 16 rfl rfl)
theorem dX3_term_87 : decode cX3_term 87 = .ok (.invokestatic 177, 3) := dk_184 0 177 (dk_at dksX3_term_3 17 rfl rfl)
theorem dX3_term_90 : decode cX3_term 90 = .ok (.istore_n 1, 1) := dk_60 (dk_at dksX3_term_3 20 rfl rfl)
theorem dX3_term_91 : decode cX3_term 91 = .ok (.goto (-86), 3) := dk_167 255 170 (dk_at dksX3_term_3 21 rfl rfl)
theorem dX3_term_94 : decode cX3_term 94 = .ok (.iload_n 1, 1) := dk_27 (dk_at dksX3_term_4 0 rfl rfl)
theorem dX3_term_95 : decode cX3_term 95 = .ok (.ireturn, 1) := dk_172 (dk_at dksX3_term_4 1 rfl rfl)
abbrev cX3_atom : ByteArray := prog_14_method_16_code
def yX3_atom : MethodName := ⟨RX3, "atom", "()I"⟩
def dkwX3_atom_6 : List UInt8 := [61, 42, 89, 180, 0, 122, 4, 96, 181, 0, 122, 132, 3, 1, 167, 255, 193, 28, 172]
abbrev dktX3_atom_6 : List UInt8 := dkwX3_atom_6 ++ []
def dkwX3_atom_5 : List UInt8 := [3, 172, 16, 10, 28, 104, 42, 180, 0, 23, 42, 180, 0, 128, 42, 180, 0, 122, 96, 51, 96, 16, 48, 100]
abbrev dktX3_atom_5 : List UInt8 := dkwX3_atom_5 ++ dktX3_atom_6
def dkwX3_atom_4 : List UInt8 := [182, 0, 171, 153, 0, 62, 42, 180, 0, 131, 2, 160, 0, 54, 29, 7, 160, 0, 10, 42, 182, 0, 137, 87]
abbrev dktX3_atom_4 : List UInt8 := dkwX3_atom_4 ++ dktX3_atom_5
def dkwX3_atom_3 : List UInt8 := [181, 0, 134, 28, 172, 42, 182, 0, 171, 154, 0, 8, 42, 182, 0, 137, 87, 3, 61, 3, 62, 42]
abbrev dktX3_atom_3 : List UInt8 := dkwX3_atom_3 ++ dktX3_atom_4
def dkwX3_atom_2 : List UInt8 := [182, 0, 164, 61, 42, 16, 93, 182, 0, 167, 154, 0, 5, 3, 172, 42, 89, 180, 0, 134, 4, 100]
abbrev dktX3_atom_2 : List UInt8 := dkwX3_atom_2 ++ dktX3_atom_3
def dkwX3_atom_1 : List UInt8 := [42, 180, 0, 20, 27, 46, 172, 27, 16, 91, 160, 0, 40, 42, 182, 0, 161, 154, 0, 5, 3, 172, 42]
abbrev dktX3_atom_1 : List UInt8 := dkwX3_atom_1 ++ dktX3_atom_2
def dkwX3_atom_0 : List UInt8 := [42, 182, 0, 141, 60, 18, 32, 27, 184, 0, 157, 153, 0, 20, 42, 89, 180, 0, 122, 4, 96, 181, 0, 122]
abbrev dktX3_atom_0 : List UInt8 := dkwX3_atom_0 ++ dktX3_atom_1
theorem dksX3_atom_0 : cX3_atom.data.toList.drop 0 = dktX3_atom_0 := by decide +kernel
theorem dksX3_atom_1 : cX3_atom.data.toList.drop 24 = dktX3_atom_1 := dk_seg dksX3_atom_0 24 rfl rfl
theorem dksX3_atom_2 : cX3_atom.data.toList.drop 47 = dktX3_atom_2 := dk_seg dksX3_atom_1 23 rfl rfl
theorem dksX3_atom_3 : cX3_atom.data.toList.drop 69 = dktX3_atom_3 := dk_seg dksX3_atom_2 22 rfl rfl
theorem dksX3_atom_4 : cX3_atom.data.toList.drop 91 = dktX3_atom_4 := dk_seg dksX3_atom_3 22 rfl rfl
theorem dksX3_atom_5 : cX3_atom.data.toList.drop 115 = dktX3_atom_5 := dk_seg dksX3_atom_4 24 rfl rfl
theorem dksX3_atom_6 : cX3_atom.data.toList.drop 139 = dktX3_atom_6 := dk_seg dksX3_atom_5 24 rfl rfl
theorem dX3_atom_0 : decode cX3_atom 0 = .ok (.aload_n 0, 1) := dk_42 (dk_at dksX3_atom_0 0 rfl rfl)
theorem dX3_atom_1 : decode cX3_atom 1 = .ok (.invokevirtual 141, 3) := dk_182 0 141 (dk_at dksX3_atom_0 1 rfl rfl)
theorem dX3_atom_4 : decode cX3_atom 4 = .ok (.istore_n 1, 1) := dk_60 (dk_at dksX3_atom_0 4 rfl rfl)
theorem dX3_atom_5 : decode cX3_atom 5 = .ok (.ldc 32, 2) := dk_18 32 (dk_at dksX3_atom_0 5 rfl rfl)
theorem dX3_atom_7 : decode cX3_atom 7 = .ok (.iload_n 1, 1) := dk_27 (dk_at dksX3_atom_0 7 rfl rfl)
theorem dX3_atom_8 : decode cX3_atom 8 = .ok (.invokestatic 157, 3) := dk_184 0 157 (dk_at dksX3_atom_0 8 rfl rfl)
theorem dX3_atom_11 : decode cX3_atom 11 = .ok (.ifCond .eq 20, 3) := dk_153 0 20 (dk_at dksX3_atom_0 11 rfl rfl)
theorem dX3_atom_14 : decode cX3_atom 14 = .ok (.aload_n 0, 1) := dk_42 (dk_at dksX3_atom_0 14 rfl rfl)
theorem dX3_atom_15 : decode cX3_atom 15 = .ok (.dup, 1) := dk_89 (dk_at dksX3_atom_0 15 rfl rfl)
theorem dX3_atom_16 : decode cX3_atom 16 = .ok (.getfield 122, 3) := dk_180 0 122 (dk_at dksX3_atom_0 16 rfl rfl)
theorem dX3_atom_19 : decode cX3_atom 19 = .ok (.iconst 1, 1) := dk_4 (dk_at dksX3_atom_0 19 rfl rfl)
theorem dX3_atom_20 : decode cX3_atom 20 = .ok (.iadd, 1) := dk_96 (dk_at dksX3_atom_0 20 rfl rfl)
theorem dX3_atom_21 : decode cX3_atom 21 = .ok (.putfield 122, 3) := dk_181 0 122 (dk_at dksX3_atom_0 21 rfl rfl)
theorem dX3_atom_24 : decode cX3_atom 24 = .ok (.aload_n 0, 1) := dk_42 (dk_at dksX3_atom_1 0 rfl rfl)
theorem dX3_atom_25 : decode cX3_atom 25 = .ok (.getfield 20, 3) := dk_180 0 20 (dk_at dksX3_atom_1 1 rfl rfl)
theorem dX3_atom_28 : decode cX3_atom 28 = .ok (.iload_n 1, 1) := dk_27 (dk_at dksX3_atom_1 4 rfl rfl)
theorem dX3_atom_29 : decode cX3_atom 29 = .ok (.iaload, 1) := dk_46 (dk_at dksX3_atom_1 5 rfl rfl)
theorem dX3_atom_30 : decode cX3_atom 30 = .ok (.ireturn, 1) := dk_172 (dk_at dksX3_atom_1 6 rfl rfl)
theorem dX3_atom_31 : decode cX3_atom 31 = .ok (.iload_n 1, 1) := dk_27 (dk_at dksX3_atom_1 7 rfl rfl)
theorem dX3_atom_32 : decode cX3_atom 32 = .ok (.bipush 91, 2) := dk_16 91 (dk_at dksX3_atom_1 8 rfl rfl)
theorem dX3_atom_34 : decode cX3_atom 34 = .ok (.if_icmp .ne 40, 3) := dk_160 0 40 (dk_at dksX3_atom_1 10 rfl rfl)
theorem dX3_atom_37 : decode cX3_atom 37 = .ok (.aload_n 0, 1) := dk_42 (dk_at dksX3_atom_1 13 rfl rfl)
theorem dX3_atom_38 : decode cX3_atom 38 = .ok (.invokevirtual 161, 3) := dk_182 0 161 (dk_at dksX3_atom_1 14 rfl rfl)
theorem dX3_atom_41 : decode cX3_atom 41 = .ok (.ifCond .ne 5, 3) := dk_154 0 5 (dk_at dksX3_atom_1 17 rfl rfl)
theorem dX3_atom_44 : decode cX3_atom 44 = .ok (.iconst 0, 1) := dk_3 (dk_at dksX3_atom_1 20 rfl rfl)
theorem dX3_atom_45 : decode cX3_atom 45 = .ok (.ireturn, 1) := dk_172 (dk_at dksX3_atom_1 21 rfl rfl)
theorem dX3_atom_46 : decode cX3_atom 46 = .ok (.aload_n 0, 1) := dk_42 (dk_at dksX3_atom_1 22 rfl rfl)
theorem dX3_atom_47 : decode cX3_atom 47 = .ok (.invokevirtual 164, 3) := dk_182 0 164 (dk_at dksX3_atom_2 0 rfl rfl)
theorem dX3_atom_50 : decode cX3_atom 50 = .ok (.istore_n 2, 1) := dk_61 (dk_at dksX3_atom_2 3 rfl rfl)
theorem dX3_atom_51 : decode cX3_atom 51 = .ok (.aload_n 0, 1) := dk_42 (dk_at dksX3_atom_2 4 rfl rfl)
theorem dX3_atom_52 : decode cX3_atom 52 = .ok (.bipush 93, 2) := dk_16 93 (dk_at dksX3_atom_2 5 rfl rfl)
theorem dX3_atom_54 : decode cX3_atom 54 = .ok (.invokevirtual 167, 3) := dk_182 0 167 (dk_at dksX3_atom_2 7 rfl rfl)
theorem dX3_atom_57 : decode cX3_atom 57 = .ok (.ifCond .ne 5, 3) := dk_154 0 5 (dk_at dksX3_atom_2 10 rfl rfl)
theorem dX3_atom_60 : decode cX3_atom 60 = .ok (.iconst 0, 1) := dk_3 (dk_at dksX3_atom_2 13 rfl rfl)
theorem dX3_atom_61 : decode cX3_atom 61 = .ok (.ireturn, 1) := dk_172 (dk_at dksX3_atom_2 14 rfl rfl)
theorem dX3_atom_62 : decode cX3_atom 62 = .ok (.aload_n 0, 1) := dk_42 (dk_at dksX3_atom_2 15 rfl rfl)
theorem dX3_atom_63 : decode cX3_atom 63 = .ok (.dup, 1) := dk_89 (dk_at dksX3_atom_2 16 rfl rfl)
theorem dX3_atom_64 : decode cX3_atom 64 = .ok (.getfield 134, 3) := dk_180 0 134 (dk_at dksX3_atom_2 17 rfl rfl)
theorem dX3_atom_67 : decode cX3_atom 67 = .ok (.iconst 1, 1) := dk_4 (dk_at dksX3_atom_2 20 rfl rfl)
theorem dX3_atom_68 : decode cX3_atom 68 = .ok (.isub, 1) := dk_100 (dk_at dksX3_atom_2 21 rfl rfl)
theorem dX3_atom_69 : decode cX3_atom 69 = .ok (.putfield 134, 3) := dk_181 0 134 (dk_at dksX3_atom_3 0 rfl rfl)
theorem dX3_atom_72 : decode cX3_atom 72 = .ok (.iload_n 2, 1) := dk_28 (dk_at dksX3_atom_3 3 rfl rfl)
theorem dX3_atom_73 : decode cX3_atom 73 = .ok (.ireturn, 1) := dk_172 (dk_at dksX3_atom_3 4 rfl rfl)
theorem dX3_atom_74 : decode cX3_atom 74 = .ok (.aload_n 0, 1) := dk_42 (dk_at dksX3_atom_3 5 rfl rfl)
theorem dX3_atom_75 : decode cX3_atom 75 = .ok (.invokevirtual 171, 3) := dk_182 0 171 (dk_at dksX3_atom_3 6 rfl rfl)
theorem dX3_atom_78 : decode cX3_atom 78 = .ok (.ifCond .ne 8, 3) := dk_154 0 8 (dk_at dksX3_atom_3 9 rfl rfl)
theorem dX3_atom_81 : decode cX3_atom 81 = .ok (.aload_n 0, 1) := dk_42 (dk_at dksX3_atom_3 12 rfl rfl)
theorem dX3_atom_82 : decode cX3_atom 82 = .ok (.invokevirtual 137, 3) := dk_182 0 137 (dk_at dksX3_atom_3 13 rfl rfl)
theorem dX3_atom_85 : decode cX3_atom 85 = .ok (.pop, 1) := dk_87 (dk_at dksX3_atom_3 16 rfl rfl)
theorem dX3_atom_86 : decode cX3_atom 86 = .ok (.iconst 0, 1) := dk_3 (dk_at dksX3_atom_3 17 rfl rfl)
theorem dX3_atom_87 : decode cX3_atom 87 = .ok (.istore_n 2, 1) := dk_61 (dk_at dksX3_atom_3 18 rfl rfl)
theorem dX3_atom_88 : decode cX3_atom 88 = .ok (.iconst 0, 1) := dk_3 (dk_at dksX3_atom_3 19 rfl rfl)
theorem dX3_atom_89 : decode cX3_atom 89 = .ok (.istore_n 3, 1) := dk_62 (dk_at dksX3_atom_3 20 rfl rfl)
theorem dX3_atom_90 : decode cX3_atom 90 = .ok (.aload_n 0, 1) := dk_42 (dk_at dksX3_atom_3 21 rfl rfl)
theorem dX3_atom_91 : decode cX3_atom 91 = .ok (.invokevirtual 171, 3) := dk_182 0 171 (dk_at dksX3_atom_4 0 rfl rfl)
theorem dX3_atom_94 : decode cX3_atom 94 = .ok (.ifCond .eq 62, 3) := dk_153 0 62 (dk_at dksX3_atom_4 3 rfl rfl)
theorem dX3_atom_97 : decode cX3_atom 97 = .ok (.aload_n 0, 1) := dk_42 (dk_at dksX3_atom_4 6 rfl rfl)
theorem dX3_atom_98 : decode cX3_atom 98 = .ok (.getfield 131, 3) := dk_180 0 131 (dk_at dksX3_atom_4 7 rfl rfl)
theorem dX3_atom_101 : decode cX3_atom 101 = .ok (.iconst (-1), 1) := dk_2 (dk_at dksX3_atom_4 10 rfl rfl)
theorem dX3_atom_102 : decode cX3_atom 102 = .ok (.if_icmp .ne 54, 3) := dk_160 0 54 (dk_at dksX3_atom_4 11 rfl rfl)
theorem dX3_atom_105 : decode cX3_atom 105 = .ok (.iload_n 3, 1) := dk_29 (dk_at dksX3_atom_4 14 rfl rfl)
theorem dX3_atom_106 : decode cX3_atom 106 = .ok (.iconst 4, 1) := dk_7 (dk_at dksX3_atom_4 15 rfl rfl)
theorem dX3_atom_107 : decode cX3_atom 107 = .ok (.if_icmp .ne 10, 3) := dk_160 0 10 (dk_at dksX3_atom_4 16 rfl rfl)
theorem dX3_atom_110 : decode cX3_atom 110 = .ok (.aload_n 0, 1) := dk_42 (dk_at dksX3_atom_4 19 rfl rfl)
theorem dX3_atom_111 : decode cX3_atom 111 = .ok (.invokevirtual 137, 3) := dk_182 0 137 (dk_at dksX3_atom_4 20 rfl rfl)
theorem dX3_atom_114 : decode cX3_atom 114 = .ok (.pop, 1) := dk_87 (dk_at dksX3_atom_4 23 rfl rfl)
theorem dX3_atom_115 : decode cX3_atom 115 = .ok (.iconst 0, 1) := dk_3 (dk_at dksX3_atom_5 0 rfl rfl)
theorem dX3_atom_116 : decode cX3_atom 116 = .ok (.ireturn, 1) := dk_172 (dk_at dksX3_atom_5 1 rfl rfl)
theorem dX3_atom_117 : decode cX3_atom 117 = .ok (.bipush 10, 2) := dk_16 10 (dk_at dksX3_atom_5 2 rfl rfl)
theorem dX3_atom_119 : decode cX3_atom 119 = .ok (.iload_n 2, 1) := dk_28 (dk_at dksX3_atom_5 4 rfl rfl)
theorem dX3_atom_120 : decode cX3_atom 120 = .ok (.imul, 1) := dk_104 (dk_at dksX3_atom_5 5 rfl rfl)
theorem dX3_atom_121 : decode cX3_atom 121 = .ok (.aload_n 0, 1) := dk_42 (dk_at dksX3_atom_5 6 rfl rfl)
theorem dX3_atom_122 : decode cX3_atom 122 = .ok (.getfield 23, 3) := dk_180 0 23 (dk_at dksX3_atom_5 7 rfl rfl)
theorem dX3_atom_125 : decode cX3_atom 125 = .ok (.aload_n 0, 1) := dk_42 (dk_at dksX3_atom_5 10 rfl rfl)
theorem dX3_atom_126 : decode cX3_atom 126 = .ok (.getfield 128, 3) := dk_180 0 128 (dk_at dksX3_atom_5 11 rfl rfl)
theorem dX3_atom_129 : decode cX3_atom 129 = .ok (.aload_n 0, 1) := dk_42 (dk_at dksX3_atom_5 14 rfl rfl)
theorem dX3_atom_130 : decode cX3_atom 130 = .ok (.getfield 122, 3) := dk_180 0 122 (dk_at dksX3_atom_5 15 rfl rfl)
theorem dX3_atom_133 : decode cX3_atom 133 = .ok (.iadd, 1) := dk_96 (dk_at dksX3_atom_5 18 rfl rfl)
theorem dX3_atom_134 : decode cX3_atom 134 = .ok (.baload, 1) := dk_51 (dk_at dksX3_atom_5 19 rfl rfl)
theorem dX3_atom_135 : decode cX3_atom 135 = .ok (.iadd, 1) := dk_96 (dk_at dksX3_atom_5 20 rfl rfl)
theorem dX3_atom_136 : decode cX3_atom 136 = .ok (.bipush 48, 2) := dk_16 48 (dk_at dksX3_atom_5 21 rfl rfl)
theorem dX3_atom_138 : decode cX3_atom 138 = .ok (.isub, 1) := dk_100 (dk_at dksX3_atom_5 23 rfl rfl)
theorem dX3_atom_139 : decode cX3_atom 139 = .ok (.istore_n 2, 1) := dk_61 (dk_at dksX3_atom_6 0 rfl rfl)
theorem dX3_atom_140 : decode cX3_atom 140 = .ok (.aload_n 0, 1) := dk_42 (dk_at dksX3_atom_6 1 rfl rfl)
theorem dX3_atom_141 : decode cX3_atom 141 = .ok (.dup, 1) := dk_89 (dk_at dksX3_atom_6 2 rfl rfl)
theorem dX3_atom_142 : decode cX3_atom 142 = .ok (.getfield 122, 3) := dk_180 0 122 (dk_at dksX3_atom_6 3 rfl rfl)
theorem dX3_atom_145 : decode cX3_atom 145 = .ok (.iconst 1, 1) := dk_4 (dk_at dksX3_atom_6 6 rfl rfl)
theorem dX3_atom_146 : decode cX3_atom 146 = .ok (.iadd, 1) := dk_96 (dk_at dksX3_atom_6 7 rfl rfl)
theorem dX3_atom_147 : decode cX3_atom 147 = .ok (.putfield 122, 3) := dk_181 0 122 (dk_at dksX3_atom_6 8 rfl rfl)
theorem dX3_atom_150 : decode cX3_atom 150 = .ok (.iinc 3 1, 3) := dk_132 3 1 (dk_at dksX3_atom_6 11 rfl rfl)
theorem dX3_atom_153 : decode cX3_atom 153 = .ok (.goto (-63), 3) := dk_167 255 193 (dk_at dksX3_atom_6 14 rfl rfl)
theorem dX3_atom_156 : decode cX3_atom 156 = .ok (.iload_n 2, 1) := dk_28 (dk_at dksX3_atom_6 17 rfl rfl)
theorem dX3_atom_157 : decode cX3_atom 157 = .ok (.ireturn, 1) := dk_172 (dk_at dksX3_atom_6 18 rfl rfl)
abbrev cX3_goesIn : ByteArray := prog_14_method_12_code
def yX3_goesIn : MethodName := ⟨RX3, "goesIn", "()Z"⟩
def dkwX3_goesIn_1 : List UInt8 := [42, 89, 180, 0, 122, 4, 96, 181, 0, 122, 4, 172]
abbrev dktX3_goesIn_1 : List UInt8 := dkwX3_goesIn_1 ++ []
def dkwX3_goesIn_0 : List UInt8 := [42, 180, 0, 134, 16, 6, 160, 0, 8, 42, 182, 0, 137, 172, 42, 89, 180, 0, 134, 4, 96, 181, 0, 134]
abbrev dktX3_goesIn_0 : List UInt8 := dkwX3_goesIn_0 ++ dktX3_goesIn_1
theorem dksX3_goesIn_0 : cX3_goesIn.data.toList.drop 0 = dktX3_goesIn_0 := by decide +kernel
theorem dksX3_goesIn_1 : cX3_goesIn.data.toList.drop 24 = dktX3_goesIn_1 := dk_seg dksX3_goesIn_0 24 rfl rfl
theorem dX3_goesIn_0 : decode cX3_goesIn 0 = .ok (.aload_n 0, 1) := dk_42 (dk_at dksX3_goesIn_0 0 rfl rfl)
theorem dX3_goesIn_1 : decode cX3_goesIn 1 = .ok (.getfield 134, 3) := dk_180 0 134 (dk_at dksX3_goesIn_0 1 rfl rfl)
theorem dX3_goesIn_4 : decode cX3_goesIn 4 = .ok (.bipush 6, 2) := dk_16 6 (dk_at dksX3_goesIn_0 4 rfl rfl)
theorem dX3_goesIn_6 : decode cX3_goesIn 6 = .ok (.if_icmp .ne 8, 3) := dk_160 0 8 (dk_at dksX3_goesIn_0 6 rfl rfl)
theorem dX3_goesIn_9 : decode cX3_goesIn 9 = .ok (.aload_n 0, 1) := dk_42 (dk_at dksX3_goesIn_0 9 rfl rfl)
theorem dX3_goesIn_10 : decode cX3_goesIn 10 = .ok (.invokevirtual 137, 3) := dk_182 0 137 (dk_at dksX3_goesIn_0 10 rfl rfl)
theorem dX3_goesIn_13 : decode cX3_goesIn 13 = .ok (.ireturn, 1) := dk_172 (dk_at dksX3_goesIn_0 13 rfl rfl)
theorem dX3_goesIn_14 : decode cX3_goesIn 14 = .ok (.aload_n 0, 1) := dk_42 (dk_at dksX3_goesIn_0 14 rfl rfl)
theorem dX3_goesIn_15 : decode cX3_goesIn 15 = .ok (.dup, 1) := dk_89 (dk_at dksX3_goesIn_0 15 rfl rfl)
theorem dX3_goesIn_16 : decode cX3_goesIn 16 = .ok (.getfield 134, 3) := dk_180 0 134 (dk_at dksX3_goesIn_0 16 rfl rfl)
theorem dX3_goesIn_19 : decode cX3_goesIn 19 = .ok (.iconst 1, 1) := dk_4 (dk_at dksX3_goesIn_0 19 rfl rfl)
theorem dX3_goesIn_20 : decode cX3_goesIn 20 = .ok (.iadd, 1) := dk_96 (dk_at dksX3_goesIn_0 20 rfl rfl)
theorem dX3_goesIn_21 : decode cX3_goesIn 21 = .ok (.putfield 134, 3) := dk_181 0 134 (dk_at dksX3_goesIn_0 21 rfl rfl)
theorem dX3_goesIn_24 : decode cX3_goesIn 24 = .ok (.aload_n 0, 1) := dk_42 (dk_at dksX3_goesIn_1 0 rfl rfl)
theorem dX3_goesIn_25 : decode cX3_goesIn 25 = .ok (.dup, 1) := dk_89 (dk_at dksX3_goesIn_1 1 rfl rfl)
theorem dX3_goesIn_26 : decode cX3_goesIn 26 = .ok (.getfield 122, 3) := dk_180 0 122 (dk_at dksX3_goesIn_1 2 rfl rfl)
theorem dX3_goesIn_29 : decode cX3_goesIn 29 = .ok (.iconst 1, 1) := dk_4 (dk_at dksX3_goesIn_1 5 rfl rfl)
theorem dX3_goesIn_30 : decode cX3_goesIn 30 = .ok (.iadd, 1) := dk_96 (dk_at dksX3_goesIn_1 6 rfl rfl)
theorem dX3_goesIn_31 : decode cX3_goesIn 31 = .ok (.putfield 122, 3) := dk_181 0 122 (dk_at dksX3_goesIn_1 7 rfl rfl)
theorem dX3_goesIn_34 : decode cX3_goesIn 34 = .ok (.iconst 1, 1) := dk_4 (dk_at dksX3_goesIn_1 10 rfl rfl)
theorem dX3_goesIn_35 : decode cX3_goesIn 35 = .ok (.ireturn, 1) := dk_172 (dk_at dksX3_goesIn_1 11 rfl rfl)
abbrev cX3_within : ByteArray := prog_14_method_15_code
def yX3_within : MethodName := ⟨RX3, "within", "(J)I"⟩
def dkwX3_within_0 : List UInt8 := [20, 0, 144, 20, 0, 146, 30, 184, 0, 148, 184, 0, 154, 136, 172]
abbrev dktX3_within_0 : List UInt8 := dkwX3_within_0 ++ []
theorem dksX3_within_0 : cX3_within.data.toList.drop 0 = dktX3_within_0 := by decide +kernel
theorem dX3_within_0 : decode cX3_within 0 = .ok (.ldc2_w 144, 3) := dk_20 0 144 (dk_at dksX3_within_0 0 rfl rfl)
theorem dX3_within_3 : decode cX3_within 3 = .ok (.ldc2_w 146, 3) := dk_20 0 146 (dk_at dksX3_within_0 3 rfl rfl)
theorem dX3_within_6 : decode cX3_within 6 = .ok (.lload_n 0, 1) := dk_30 (dk_at dksX3_within_0 6 rfl rfl)
theorem dX3_within_7 : decode cX3_within 7 = .ok (.invokestatic 148, 3) := dk_184 0 148 (dk_at dksX3_within_0 7 rfl rfl)
theorem dX3_within_10 : decode cX3_within 10 = .ok (.invokestatic 154, 3) := dk_184 0 154 (dk_at dksX3_within_0 10 rfl rfl)
theorem dX3_within_13 : decode cX3_within 13 = .ok (.l2i, 1) := dk_136 (dk_at dksX3_within_0 13 rfl rfl)
theorem dX3_within_14 : decode cX3_within 14 = .ok (.ireturn, 1) := dk_172 (dk_at dksX3_within_0 14 rfl rfl)
abbrev cX3_isSign : ByteArray := prog_14_method_19_code
def yX3_isSign : MethodName := ⟨RX3, "isSign", "(I)Z"⟩
def dkwX3_isSign_0 : List UInt8 := [26, 16, 61, 159, 0, 15, 26, 16, 60, 159, 0, 9, 26, 16, 62, 160, 0, 7, 4, 167, 0, 4, 3, 172]
abbrev dktX3_isSign_0 : List UInt8 := dkwX3_isSign_0 ++ []
theorem dksX3_isSign_0 : cX3_isSign.data.toList.drop 0 = dktX3_isSign_0 := by decide +kernel
theorem dX3_isSign_0 : decode cX3_isSign 0 = .ok (.iload_n 0, 1) := dk_26 (dk_at dksX3_isSign_0 0 rfl rfl)
theorem dX3_isSign_1 : decode cX3_isSign 1 = .ok (.bipush 61, 2) := dk_16 61 (dk_at dksX3_isSign_0 1 rfl rfl)
theorem dX3_isSign_3 : decode cX3_isSign 3 = .ok (.if_icmp .eq 15, 3) := dk_159 0 15 (dk_at dksX3_isSign_0 3 rfl rfl)
theorem dX3_isSign_6 : decode cX3_isSign 6 = .ok (.iload_n 0, 1) := dk_26 (dk_at dksX3_isSign_0 6 rfl rfl)
theorem dX3_isSign_7 : decode cX3_isSign 7 = .ok (.bipush 60, 2) := dk_16 60 (dk_at dksX3_isSign_0 7 rfl rfl)
theorem dX3_isSign_9 : decode cX3_isSign 9 = .ok (.if_icmp .eq 9, 3) := dk_159 0 9 (dk_at dksX3_isSign_0 9 rfl rfl)
theorem dX3_isSign_12 : decode cX3_isSign 12 = .ok (.iload_n 0, 1) := dk_26 (dk_at dksX3_isSign_0 12 rfl rfl)
theorem dX3_isSign_13 : decode cX3_isSign 13 = .ok (.bipush 62, 2) := dk_16 62 (dk_at dksX3_isSign_0 13 rfl rfl)
theorem dX3_isSign_15 : decode cX3_isSign 15 = .ok (.if_icmp .ne 7, 3) := dk_160 0 7 (dk_at dksX3_isSign_0 15 rfl rfl)
theorem dX3_isSign_18 : decode cX3_isSign 18 = .ok (.iconst 1, 1) := dk_4 (dk_at dksX3_isSign_0 18 rfl rfl)
theorem dX3_isSign_19 : decode cX3_isSign 19 = .ok (.goto 4, 3) := dk_167 0 4 (dk_at dksX3_isSign_0 19 rfl rfl)
theorem dX3_isSign_22 : decode cX3_isSign 22 = .ok (.iconst 0, 1) := dk_3 (dk_at dksX3_isSign_0 22 rfl rfl)
theorem dX3_isSign_23 : decode cX3_isSign 23 = .ok (.ireturn, 1) := dk_172 (dk_at dksX3_isSign_0 23 rfl rfl)
abbrev cX3_unit : ByteArray := prog_14_method_21_code
def yX3_unit : MethodName := ⟨RX3, "unit", "()Z"⟩
def dkwX3_unit_4 : List UInt8 := [182, 0, 194, 172]
abbrev dktX3_unit_4 : List UInt8 := dkwX3_unit_4 ++ []
def dkwX3_unit_3 : List UInt8 := [182, 0, 167, 154, 0, 5, 3, 172, 42, 89, 180, 0, 134, 4, 100, 181, 0, 134, 28, 172, 42, 3, 3]
abbrev dktX3_unit_3 : List UInt8 := dkwX3_unit_3 ++ dktX3_unit_4
def dkwX3_unit_2 : List UInt8 := [160, 0, 42, 42, 182, 0, 161, 154, 0, 5, 3, 172, 42, 3, 3, 182, 0, 190, 61, 42, 16, 41]
abbrev dktX3_unit_2 : List UInt8 := dkwX3_unit_2 ++ dktX3_unit_3
def dkwX3_unit_1 : List UInt8 := [61, 42, 89, 180, 0, 134, 4, 100, 181, 0, 134, 28, 154, 0, 7, 4, 167, 0, 4, 3, 172, 27, 16, 40]
abbrev dktX3_unit_1 : List UInt8 := dkwX3_unit_1 ++ dktX3_unit_2
def dkwX3_unit_0 : List UInt8 := [42, 182, 0, 141, 60, 27, 16, 33, 160, 0, 37, 42, 182, 0, 161, 154, 0, 5, 3, 172, 42, 182, 0, 187]
abbrev dktX3_unit_0 : List UInt8 := dkwX3_unit_0 ++ dktX3_unit_1
theorem dksX3_unit_0 : cX3_unit.data.toList.drop 0 = dktX3_unit_0 := by decide +kernel
theorem dksX3_unit_1 : cX3_unit.data.toList.drop 24 = dktX3_unit_1 := dk_seg dksX3_unit_0 24 rfl rfl
theorem dksX3_unit_2 : cX3_unit.data.toList.drop 48 = dktX3_unit_2 := dk_seg dksX3_unit_1 24 rfl rfl
theorem dksX3_unit_3 : cX3_unit.data.toList.drop 70 = dktX3_unit_3 := dk_seg dksX3_unit_2 22 rfl rfl
theorem dksX3_unit_4 : cX3_unit.data.toList.drop 93 = dktX3_unit_4 := dk_seg dksX3_unit_3 23 rfl rfl
theorem dX3_unit_0 : decode cX3_unit 0 = .ok (.aload_n 0, 1) := dk_42 (dk_at dksX3_unit_0 0 rfl rfl)
theorem dX3_unit_1 : decode cX3_unit 1 = .ok (.invokevirtual 141, 3) := dk_182 0 141 (dk_at dksX3_unit_0 1 rfl rfl)
theorem dX3_unit_4 : decode cX3_unit 4 = .ok (.istore_n 1, 1) := dk_60 (dk_at dksX3_unit_0 4 rfl rfl)
theorem dX3_unit_5 : decode cX3_unit 5 = .ok (.iload_n 1, 1) := dk_27 (dk_at dksX3_unit_0 5 rfl rfl)
theorem dX3_unit_6 : decode cX3_unit 6 = .ok (.bipush 33, 2) := dk_16 33 (dk_at dksX3_unit_0 6 rfl rfl)
theorem dX3_unit_8 : decode cX3_unit 8 = .ok (.if_icmp .ne 37, 3) := dk_160 0 37 (dk_at dksX3_unit_0 8 rfl rfl)
theorem dX3_unit_11 : decode cX3_unit 11 = .ok (.aload_n 0, 1) := dk_42 (dk_at dksX3_unit_0 11 rfl rfl)
theorem dX3_unit_12 : decode cX3_unit 12 = .ok (.invokevirtual 161, 3) := dk_182 0 161 (dk_at dksX3_unit_0 12 rfl rfl)
theorem dX3_unit_15 : decode cX3_unit 15 = .ok (.ifCond .ne 5, 3) := dk_154 0 5 (dk_at dksX3_unit_0 15 rfl rfl)
theorem dX3_unit_18 : decode cX3_unit 18 = .ok (.iconst 0, 1) := dk_3 (dk_at dksX3_unit_0 18 rfl rfl)
theorem dX3_unit_19 : decode cX3_unit 19 = .ok (.ireturn, 1) := dk_172 (dk_at dksX3_unit_0 19 rfl rfl)
theorem dX3_unit_20 : decode cX3_unit 20 = .ok (.aload_n 0, 1) := dk_42 (dk_at dksX3_unit_0 20 rfl rfl)
theorem dX3_unit_21 : decode cX3_unit 21 = .ok (.invokevirtual 187, 3) := dk_182 0 187 (dk_at dksX3_unit_0 21 rfl rfl)
theorem dX3_unit_24 : decode cX3_unit 24 = .ok (.istore_n 2, 1) := dk_61 (dk_at dksX3_unit_1 0 rfl rfl)
theorem dX3_unit_25 : decode cX3_unit 25 = .ok (.aload_n 0, 1) := dk_42 (dk_at dksX3_unit_1 1 rfl rfl)
theorem dX3_unit_26 : decode cX3_unit 26 = .ok (.dup, 1) := dk_89 (dk_at dksX3_unit_1 2 rfl rfl)
theorem dX3_unit_27 : decode cX3_unit 27 = .ok (.getfield 134, 3) := dk_180 0 134 (dk_at dksX3_unit_1 3 rfl rfl)
theorem dX3_unit_30 : decode cX3_unit 30 = .ok (.iconst 1, 1) := dk_4 (dk_at dksX3_unit_1 6 rfl rfl)
theorem dX3_unit_31 : decode cX3_unit 31 = .ok (.isub, 1) := dk_100 (dk_at dksX3_unit_1 7 rfl rfl)
theorem dX3_unit_32 : decode cX3_unit 32 = .ok (.putfield 134, 3) := dk_181 0 134 (dk_at dksX3_unit_1 8 rfl rfl)
theorem dX3_unit_35 : decode cX3_unit 35 = .ok (.iload_n 2, 1) := dk_28 (dk_at dksX3_unit_1 11 rfl rfl)
theorem dX3_unit_36 : decode cX3_unit 36 = .ok (.ifCond .ne 7, 3) := dk_154 0 7 (dk_at dksX3_unit_1 12 rfl rfl)
theorem dX3_unit_39 : decode cX3_unit 39 = .ok (.iconst 1, 1) := dk_4 (dk_at dksX3_unit_1 15 rfl rfl)
theorem dX3_unit_40 : decode cX3_unit 40 = .ok (.goto 4, 3) := dk_167 0 4 (dk_at dksX3_unit_1 16 rfl rfl)
theorem dX3_unit_43 : decode cX3_unit 43 = .ok (.iconst 0, 1) := dk_3 (dk_at dksX3_unit_1 19 rfl rfl)
theorem dX3_unit_44 : decode cX3_unit 44 = .ok (.ireturn, 1) := dk_172 (dk_at dksX3_unit_1 20 rfl rfl)
theorem dX3_unit_45 : decode cX3_unit 45 = .ok (.iload_n 1, 1) := dk_27 (dk_at dksX3_unit_1 21 rfl rfl)
theorem dX3_unit_46 : decode cX3_unit 46 = .ok (.bipush 40, 2) := dk_16 40 (dk_at dksX3_unit_1 22 rfl rfl)
theorem dX3_unit_48 : decode cX3_unit 48 = .ok (.if_icmp .ne 42, 3) := dk_160 0 42 (dk_at dksX3_unit_2 0 rfl rfl)
theorem dX3_unit_51 : decode cX3_unit 51 = .ok (.aload_n 0, 1) := dk_42 (dk_at dksX3_unit_2 3 rfl rfl)
theorem dX3_unit_52 : decode cX3_unit 52 = .ok (.invokevirtual 161, 3) := dk_182 0 161 (dk_at dksX3_unit_2 4 rfl rfl)
theorem dX3_unit_55 : decode cX3_unit 55 = .ok (.ifCond .ne 5, 3) := dk_154 0 5 (dk_at dksX3_unit_2 7 rfl rfl)
theorem dX3_unit_58 : decode cX3_unit 58 = .ok (.iconst 0, 1) := dk_3 (dk_at dksX3_unit_2 10 rfl rfl)
theorem dX3_unit_59 : decode cX3_unit 59 = .ok (.ireturn, 1) := dk_172 (dk_at dksX3_unit_2 11 rfl rfl)
theorem dX3_unit_60 : decode cX3_unit 60 = .ok (.aload_n 0, 1) := dk_42 (dk_at dksX3_unit_2 12 rfl rfl)
theorem dX3_unit_61 : decode cX3_unit 61 = .ok (.iconst 0, 1) := dk_3 (dk_at dksX3_unit_2 13 rfl rfl)
theorem dX3_unit_62 : decode cX3_unit 62 = .ok (.iconst 0, 1) := dk_3 (dk_at dksX3_unit_2 14 rfl rfl)
theorem dX3_unit_63 : decode cX3_unit 63 = .ok (.invokevirtual 190, 3) := dk_182 0 190 (dk_at dksX3_unit_2 15 rfl rfl)
theorem dX3_unit_66 : decode cX3_unit 66 = .ok (.istore_n 2, 1) := dk_61 (dk_at dksX3_unit_2 18 rfl rfl)
theorem dX3_unit_67 : decode cX3_unit 67 = .ok (.aload_n 0, 1) := dk_42 (dk_at dksX3_unit_2 19 rfl rfl)
theorem dX3_unit_68 : decode cX3_unit 68 = .ok (.bipush 41, 2) := dk_16 41 (dk_at dksX3_unit_2 20 rfl rfl)
theorem dX3_unit_70 : decode cX3_unit 70 = .ok (.invokevirtual 167, 3) := dk_182 0 167 (dk_at dksX3_unit_3 0 rfl rfl)
theorem dX3_unit_73 : decode cX3_unit 73 = .ok (.ifCond .ne 5, 3) := dk_154 0 5 (dk_at dksX3_unit_3 3 rfl rfl)
theorem dX3_unit_76 : decode cX3_unit 76 = .ok (.iconst 0, 1) := dk_3 (dk_at dksX3_unit_3 6 rfl rfl)
theorem dX3_unit_77 : decode cX3_unit 77 = .ok (.ireturn, 1) := dk_172 (dk_at dksX3_unit_3 7 rfl rfl)
theorem dX3_unit_78 : decode cX3_unit 78 = .ok (.aload_n 0, 1) := dk_42 (dk_at dksX3_unit_3 8 rfl rfl)
theorem dX3_unit_79 : decode cX3_unit 79 = .ok (.dup, 1) := dk_89 (dk_at dksX3_unit_3 9 rfl rfl)
theorem dX3_unit_80 : decode cX3_unit 80 = .ok (.getfield 134, 3) := dk_180 0 134 (dk_at dksX3_unit_3 10 rfl rfl)
theorem dX3_unit_83 : decode cX3_unit 83 = .ok (.iconst 1, 1) := dk_4 (dk_at dksX3_unit_3 13 rfl rfl)
theorem dX3_unit_84 : decode cX3_unit 84 = .ok (.isub, 1) := dk_100 (dk_at dksX3_unit_3 14 rfl rfl)
theorem dX3_unit_85 : decode cX3_unit 85 = .ok (.putfield 134, 3) := dk_181 0 134 (dk_at dksX3_unit_3 15 rfl rfl)
theorem dX3_unit_88 : decode cX3_unit 88 = .ok (.iload_n 2, 1) := dk_28 (dk_at dksX3_unit_3 18 rfl rfl)
theorem dX3_unit_89 : decode cX3_unit 89 = .ok (.ireturn, 1) := dk_172 (dk_at dksX3_unit_3 19 rfl rfl)
theorem dX3_unit_90 : decode cX3_unit 90 = .ok (.aload_n 0, 1) := dk_42 (dk_at dksX3_unit_3 20 rfl rfl)
theorem dX3_unit_91 : decode cX3_unit 91 = .ok (.iconst 0, 1) := dk_3 (dk_at dksX3_unit_3 21 rfl rfl)
theorem dX3_unit_92 : decode cX3_unit 92 = .ok (.iconst 0, 1) := dk_3 (dk_at dksX3_unit_3 22 rfl rfl)
theorem dX3_unit_93 : decode cX3_unit 93 = .ok (.invokevirtual 194, 3) := dk_182 0 194 (dk_at dksX3_unit_4 0 rfl rfl)
theorem dX3_unit_96 : decode cX3_unit 96 = .ok (.ireturn, 1) := dk_172 (dk_at dksX3_unit_4 3 rfl rfl)
abbrev cX3_readPlan : ByteArray := prog_14_method_37_code
def yX3_readPlan : MethodName := ⟨RX3, "readPlan", "()V"⟩
def dkwX3_readPlan_4 : List UInt8 := [180, 0, 58, 7, 27, 79, 42, 182, 0, 141, 2, 159, 0, 8, 42, 182, 0, 137, 87, 177]
abbrev dktX3_readPlan_4 : List UInt8 := dkwX3_readPlan_4 ++ []
def dkwX3_readPlan_3 : List UInt8 := [182, 0, 137, 87, 177, 28, 153, 255, 198, 42, 89, 180, 0, 122, 4, 96, 181, 0, 122, 167, 255, 185, 42]
abbrev dktX3_readPlan_3 : List UInt8 := dkwX3_readPlan_3 ++ dktX3_readPlan_4
def dkwX3_readPlan_2 : List UInt8 := [16, 59, 160, 0, 7, 4, 167, 0, 4, 3, 61, 28, 153, 0, 15, 27, 16, 16, 160, 0, 9, 42]
abbrev dktX3_readPlan_2 : List UInt8 := dkwX3_readPlan_2 ++ dktX3_readPlan_3
def dkwX3_readPlan_1 : List UInt8 := [16, 64, 27, 96, 104, 182, 1, 9, 42, 180, 0, 131, 2, 159, 0, 4, 177, 132, 1, 1, 42, 182, 0, 141]
abbrev dktX3_readPlan_1 : List UInt8 := dkwX3_readPlan_1 ++ dktX3_readPlan_2
def dkwX3_readPlan_0 : List UInt8 := [42, 42, 180, 0, 9, 3, 42, 180, 0, 112, 182, 0, 210, 3, 60, 4, 61, 28, 153, 0, 73, 42, 5]
abbrev dktX3_readPlan_0 : List UInt8 := dkwX3_readPlan_0 ++ dktX3_readPlan_1
theorem dksX3_readPlan_0 : cX3_readPlan.data.toList.drop 0 = dktX3_readPlan_0 := by decide +kernel
theorem dksX3_readPlan_1 : cX3_readPlan.data.toList.drop 23 = dktX3_readPlan_1 := dk_seg dksX3_readPlan_0 23 rfl rfl
theorem dksX3_readPlan_2 : cX3_readPlan.data.toList.drop 47 = dktX3_readPlan_2 := dk_seg dksX3_readPlan_1 24 rfl rfl
theorem dksX3_readPlan_3 : cX3_readPlan.data.toList.drop 69 = dktX3_readPlan_3 := dk_seg dksX3_readPlan_2 22 rfl rfl
theorem dksX3_readPlan_4 : cX3_readPlan.data.toList.drop 92 = dktX3_readPlan_4 := dk_seg dksX3_readPlan_3 23 rfl rfl
theorem dX3_readPlan_0 : decode cX3_readPlan 0 = .ok (.aload_n 0, 1) := dk_42 (dk_at dksX3_readPlan_0 0 rfl rfl)
theorem dX3_readPlan_1 : decode cX3_readPlan 1 = .ok (.aload_n 0, 1) := dk_42 (dk_at dksX3_readPlan_0 1 rfl rfl)
theorem dX3_readPlan_2 : decode cX3_readPlan 2 = .ok (.getfield 9, 3) := dk_180 0 9 (dk_at dksX3_readPlan_0 2 rfl rfl)
theorem dX3_readPlan_5 : decode cX3_readPlan 5 = .ok (.iconst 0, 1) := dk_3 (dk_at dksX3_readPlan_0 5 rfl rfl)
theorem dX3_readPlan_6 : decode cX3_readPlan 6 = .ok (.aload_n 0, 1) := dk_42 (dk_at dksX3_readPlan_0 6 rfl rfl)
theorem dX3_readPlan_7 : decode cX3_readPlan 7 = .ok (.getfield 112, 3) := dk_180 0 112 (dk_at dksX3_readPlan_0 7 rfl rfl)
theorem dX3_readPlan_10 : decode cX3_readPlan 10 = .ok (.invokevirtual 210, 3) := dk_182 0 210 (dk_at dksX3_readPlan_0 10 rfl rfl)
theorem dX3_readPlan_13 : decode cX3_readPlan 13 = .ok (.iconst 0, 1) := dk_3 (dk_at dksX3_readPlan_0 13 rfl rfl)
theorem dX3_readPlan_14 : decode cX3_readPlan 14 = .ok (.istore_n 1, 1) := dk_60 (dk_at dksX3_readPlan_0 14 rfl rfl)
theorem dX3_readPlan_15 : decode cX3_readPlan 15 = .ok (.iconst 1, 1) := dk_4 (dk_at dksX3_readPlan_0 15 rfl rfl)
theorem dX3_readPlan_16 : decode cX3_readPlan 16 = .ok (.istore_n 2, 1) := dk_61 (dk_at dksX3_readPlan_0 16 rfl rfl)
theorem dX3_readPlan_17 : decode cX3_readPlan 17 = .ok (.iload_n 2, 1) := dk_28 (dk_at dksX3_readPlan_0 17 rfl rfl)
theorem dX3_readPlan_18 : decode cX3_readPlan 18 = .ok (.ifCond .eq 73, 3) := dk_153 0 73 (dk_at dksX3_readPlan_0 18 rfl rfl)
theorem dX3_readPlan_21 : decode cX3_readPlan 21 = .ok (.aload_n 0, 1) := dk_42 (dk_at dksX3_readPlan_0 21 rfl rfl)
theorem dX3_readPlan_22 : decode cX3_readPlan 22 = .ok (.iconst 2, 1) := dk_5 (dk_at dksX3_readPlan_0 22 rfl rfl)
theorem dX3_readPlan_23 : decode cX3_readPlan 23 = .ok (.bipush 64, 2) := dk_16 64 (dk_at dksX3_readPlan_1 0 rfl rfl)
theorem dX3_readPlan_25 : decode cX3_readPlan 25 = .ok (.iload_n 1, 1) := dk_27 (dk_at dksX3_readPlan_1 2 rfl rfl)
theorem dX3_readPlan_26 : decode cX3_readPlan 26 = .ok (.iadd, 1) := dk_96 (dk_at dksX3_readPlan_1 3 rfl rfl)
theorem dX3_readPlan_27 : decode cX3_readPlan 27 = .ok (.imul, 1) := dk_104 (dk_at dksX3_readPlan_1 4 rfl rfl)
theorem dX3_readPlan_28 : decode cX3_readPlan 28 = .ok (.invokevirtual 265, 3) := dk_182 1 9 (dk_at dksX3_readPlan_1 5 rfl rfl)
theorem dX3_readPlan_31 : decode cX3_readPlan 31 = .ok (.aload_n 0, 1) := dk_42 (dk_at dksX3_readPlan_1 8 rfl rfl)
theorem dX3_readPlan_32 : decode cX3_readPlan 32 = .ok (.getfield 131, 3) := dk_180 0 131 (dk_at dksX3_readPlan_1 9 rfl rfl)
theorem dX3_readPlan_35 : decode cX3_readPlan 35 = .ok (.iconst (-1), 1) := dk_2 (dk_at dksX3_readPlan_1 12 rfl rfl)
theorem dX3_readPlan_36 : decode cX3_readPlan 36 = .ok (.if_icmp .eq 4, 3) := dk_159 0 4 (dk_at dksX3_readPlan_1 13 rfl rfl)
theorem dX3_readPlan_39 : decode cX3_readPlan 39 = .ok (.return_, 1) := dk_177 (dk_at dksX3_readPlan_1 16 rfl rfl)
theorem dX3_readPlan_40 : decode cX3_readPlan 40 = .ok (.iinc 1 1, 3) := dk_132 1 1 (dk_at dksX3_readPlan_1 17 rfl rfl)
theorem dX3_readPlan_43 : decode cX3_readPlan 43 = .ok (.aload_n 0, 1) := dk_42 (dk_at dksX3_readPlan_1 20 rfl rfl)
theorem dX3_readPlan_44 : decode cX3_readPlan 44 = .ok (.invokevirtual 141, 3) := dk_182 0 141 (dk_at dksX3_readPlan_1 21 rfl rfl)
theorem dX3_readPlan_47 : decode cX3_readPlan 47 = .ok (.bipush 59, 2) := dk_16 59 (dk_at dksX3_readPlan_2 0 rfl rfl)
theorem dX3_readPlan_49 : decode cX3_readPlan 49 = .ok (.if_icmp .ne 7, 3) := dk_160 0 7 (dk_at dksX3_readPlan_2 2 rfl rfl)
theorem dX3_readPlan_52 : decode cX3_readPlan 52 = .ok (.iconst 1, 1) := dk_4 (dk_at dksX3_readPlan_2 5 rfl rfl)
theorem dX3_readPlan_53 : decode cX3_readPlan 53 = .ok (.goto 4, 3) := dk_167 0 4 (dk_at dksX3_readPlan_2 6 rfl rfl)
theorem dX3_readPlan_56 : decode cX3_readPlan 56 = .ok (.iconst 0, 1) := dk_3 (dk_at dksX3_readPlan_2 9 rfl rfl)
theorem dX3_readPlan_57 : decode cX3_readPlan 57 = .ok (.istore_n 2, 1) := dk_61 (dk_at dksX3_readPlan_2 10 rfl rfl)
theorem dX3_readPlan_58 : decode cX3_readPlan 58 = .ok (.iload_n 2, 1) := dk_28 (dk_at dksX3_readPlan_2 11 rfl rfl)
theorem dX3_readPlan_59 : decode cX3_readPlan 59 = .ok (.ifCond .eq 15, 3) := dk_153 0 15 (dk_at dksX3_readPlan_2 12 rfl rfl)
theorem dX3_readPlan_62 : decode cX3_readPlan 62 = .ok (.iload_n 1, 1) := dk_27 (dk_at dksX3_readPlan_2 15 rfl rfl)
theorem dX3_readPlan_63 : decode cX3_readPlan 63 = .ok (.bipush 16, 2) := dk_16 16 (dk_at dksX3_readPlan_2 16 rfl rfl)
theorem dX3_readPlan_65 : decode cX3_readPlan 65 = .ok (.if_icmp .ne 9, 3) := dk_160 0 9 (dk_at dksX3_readPlan_2 18 rfl rfl)
theorem dX3_readPlan_68 : decode cX3_readPlan 68 = .ok (.aload_n 0, 1) := dk_42 (dk_at dksX3_readPlan_2 21 rfl rfl)
theorem dX3_readPlan_69 : decode cX3_readPlan 69 = .ok (.invokevirtual 137, 3) := dk_182 0 137 (dk_at dksX3_readPlan_3 0 rfl rfl)
theorem dX3_readPlan_72 : decode cX3_readPlan 72 = .ok (.pop, 1) := dk_87 (dk_at dksX3_readPlan_3 3 rfl rfl)
theorem dX3_readPlan_73 : decode cX3_readPlan 73 = .ok (.return_, 1) := dk_177 (dk_at dksX3_readPlan_3 4 rfl rfl)
theorem dX3_readPlan_74 : decode cX3_readPlan 74 = .ok (.iload_n 2, 1) := dk_28 (dk_at dksX3_readPlan_3 5 rfl rfl)
theorem dX3_readPlan_75 : decode cX3_readPlan 75 = .ok (.ifCond .eq (-58), 3) := dk_153 255 198 (dk_at dksX3_readPlan_3 6 rfl rfl)
theorem dX3_readPlan_78 : decode cX3_readPlan 78 = .ok (.aload_n 0, 1) := dk_42 (dk_at dksX3_readPlan_3 9 rfl rfl)
theorem dX3_readPlan_79 : decode cX3_readPlan 79 = .ok (.dup, 1) := dk_89 (dk_at dksX3_readPlan_3 10 rfl rfl)
theorem dX3_readPlan_80 : decode cX3_readPlan 80 = .ok (.getfield 122, 3) := dk_180 0 122 (dk_at dksX3_readPlan_3 11 rfl rfl)
theorem dX3_readPlan_83 : decode cX3_readPlan 83 = .ok (.iconst 1, 1) := dk_4 (dk_at dksX3_readPlan_3 14 rfl rfl)
theorem dX3_readPlan_84 : decode cX3_readPlan 84 = .ok (.iadd, 1) := dk_96 (dk_at dksX3_readPlan_3 15 rfl rfl)
theorem dX3_readPlan_85 : decode cX3_readPlan 85 = .ok (.putfield 122, 3) := dk_181 0 122 (dk_at dksX3_readPlan_3 16 rfl rfl)
theorem dX3_readPlan_88 : decode cX3_readPlan 88 = .ok (.goto (-71), 3) := dk_167 255 185 (dk_at dksX3_readPlan_3 19 rfl rfl)
theorem dX3_readPlan_91 : decode cX3_readPlan 91 = .ok (.aload_n 0, 1) := dk_42 (dk_at dksX3_readPlan_3 22 rfl rfl)
theorem dX3_readPlan_92 : decode cX3_readPlan 92 = .ok (.getfield 58, 3) := dk_180 0 58 (dk_at dksX3_readPlan_4 0 rfl rfl)
theorem dX3_readPlan_95 : decode cX3_readPlan 95 = .ok (.iconst 4, 1) := dk_7 (dk_at dksX3_readPlan_4 3 rfl rfl)
theorem dX3_readPlan_96 : decode cX3_readPlan 96 = .ok (.iload_n 1, 1) := dk_27 (dk_at dksX3_readPlan_4 4 rfl rfl)
theorem dX3_readPlan_97 : decode cX3_readPlan 97 = .ok (.iastore, 1) := dk_79 (dk_at dksX3_readPlan_4 5 rfl rfl)
theorem dX3_readPlan_98 : decode cX3_readPlan 98 = .ok (.aload_n 0, 1) := dk_42 (dk_at dksX3_readPlan_4 6 rfl rfl)
theorem dX3_readPlan_99 : decode cX3_readPlan 99 = .ok (.invokevirtual 141, 3) := dk_182 0 141 (dk_at dksX3_readPlan_4 7 rfl rfl)
theorem dX3_readPlan_102 : decode cX3_readPlan 102 = .ok (.iconst (-1), 1) := dk_2 (dk_at dksX3_readPlan_4 10 rfl rfl)
theorem dX3_readPlan_103 : decode cX3_readPlan 103 = .ok (.if_icmp .eq 8, 3) := dk_159 0 8 (dk_at dksX3_readPlan_4 11 rfl rfl)
theorem dX3_readPlan_106 : decode cX3_readPlan 106 = .ok (.aload_n 0, 1) := dk_42 (dk_at dksX3_readPlan_4 14 rfl rfl)
theorem dX3_readPlan_107 : decode cX3_readPlan 107 = .ok (.invokevirtual 137, 3) := dk_182 0 137 (dk_at dksX3_readPlan_4 15 rfl rfl)
theorem dX3_readPlan_110 : decode cX3_readPlan 110 = .ok (.pop, 1) := dk_87 (dk_at dksX3_readPlan_4 18 rfl rfl)
theorem dX3_readPlan_111 : decode cX3_readPlan 111 = .ok (.return_, 1) := dk_177 (dk_at dksX3_readPlan_4 19 rfl rfl)
abbrev cX3_readStep : ByteArray := prog_14_method_36_code
def yX3_readStep : MethodName := ⟨RX3, "readStep", "(I)V"⟩
def dkwX3_readStep_3 : List UInt8 := [180, 0, 55, 27, 4, 96, 29, 16, 48, 100, 79, 42, 89, 180, 0, 122, 4, 96, 181, 0, 122, 177]
abbrev dktX3_readStep_3 : List UInt8 := dkwX3_readStep_3 ++ []
def dkwX3_readStep_2 : List UInt8 := [28, 154, 0, 4, 177, 42, 182, 0, 141, 62, 42, 182, 0, 171, 154, 0, 9, 42, 182, 0, 137, 87, 177, 42]
abbrev dktX3_readStep_2 : List UInt8 := dkwX3_readStep_2 ++ dktX3_readStep_3
def dkwX3_readStep_1 : List UInt8 := [180, 0, 122, 4, 96, 181, 0, 122, 42, 180, 0, 55, 27, 28, 79, 42, 180, 0, 55, 27, 4, 96, 2, 79]
abbrev dktX3_readStep_1 : List UInt8 := dkwX3_readStep_1 ++ dktX3_readStep_2
def dkwX3_readStep_0 : List UInt8 := [19, 1, 7, 42, 182, 0, 141, 184, 0, 224, 61, 28, 2, 160, 0, 9, 42, 182, 0, 137, 87, 177, 42, 89]
abbrev dktX3_readStep_0 : List UInt8 := dkwX3_readStep_0 ++ dktX3_readStep_1
theorem dksX3_readStep_0 : cX3_readStep.data.toList.drop 0 = dktX3_readStep_0 := by decide +kernel
theorem dksX3_readStep_1 : cX3_readStep.data.toList.drop 24 = dktX3_readStep_1 := dk_seg dksX3_readStep_0 24 rfl rfl
theorem dksX3_readStep_2 : cX3_readStep.data.toList.drop 48 = dktX3_readStep_2 := dk_seg dksX3_readStep_1 24 rfl rfl
theorem dksX3_readStep_3 : cX3_readStep.data.toList.drop 72 = dktX3_readStep_3 := dk_seg dksX3_readStep_2 24 rfl rfl
theorem dX3_readStep_0 : decode cX3_readStep 0 = .ok (.ldc_w 263, 3) := dk_19 1 7 (dk_at dksX3_readStep_0 0 rfl rfl)
theorem dX3_readStep_3 : decode cX3_readStep 3 = .ok (.aload_n 0, 1) := dk_42 (dk_at dksX3_readStep_0 3 rfl rfl)
theorem dX3_readStep_4 : decode cX3_readStep 4 = .ok (.invokevirtual 141, 3) := dk_182 0 141 (dk_at dksX3_readStep_0 4 rfl rfl)
theorem dX3_readStep_7 : decode cX3_readStep 7 = .ok (.invokestatic 224, 3) := dk_184 0 224 (dk_at dksX3_readStep_0 7 rfl rfl)
theorem dX3_readStep_10 : decode cX3_readStep 10 = .ok (.istore_n 2, 1) := dk_61 (dk_at dksX3_readStep_0 10 rfl rfl)
theorem dX3_readStep_11 : decode cX3_readStep 11 = .ok (.iload_n 2, 1) := dk_28 (dk_at dksX3_readStep_0 11 rfl rfl)
theorem dX3_readStep_12 : decode cX3_readStep 12 = .ok (.iconst (-1), 1) := dk_2 (dk_at dksX3_readStep_0 12 rfl rfl)
theorem dX3_readStep_13 : decode cX3_readStep 13 = .ok (.if_icmp .ne 9, 3) := dk_160 0 9 (dk_at dksX3_readStep_0 13 rfl rfl)
theorem dX3_readStep_16 : decode cX3_readStep 16 = .ok (.aload_n 0, 1) := dk_42 (dk_at dksX3_readStep_0 16 rfl rfl)
theorem dX3_readStep_17 : decode cX3_readStep 17 = .ok (.invokevirtual 137, 3) := dk_182 0 137 (dk_at dksX3_readStep_0 17 rfl rfl)
theorem dX3_readStep_20 : decode cX3_readStep 20 = .ok (.pop, 1) := dk_87 (dk_at dksX3_readStep_0 20 rfl rfl)
theorem dX3_readStep_21 : decode cX3_readStep 21 = .ok (.return_, 1) := dk_177 (dk_at dksX3_readStep_0 21 rfl rfl)
theorem dX3_readStep_22 : decode cX3_readStep 22 = .ok (.aload_n 0, 1) := dk_42 (dk_at dksX3_readStep_0 22 rfl rfl)
theorem dX3_readStep_23 : decode cX3_readStep 23 = .ok (.dup, 1) := dk_89 (dk_at dksX3_readStep_0 23 rfl rfl)
theorem dX3_readStep_24 : decode cX3_readStep 24 = .ok (.getfield 122, 3) := dk_180 0 122 (dk_at dksX3_readStep_1 0 rfl rfl)
theorem dX3_readStep_27 : decode cX3_readStep 27 = .ok (.iconst 1, 1) := dk_4 (dk_at dksX3_readStep_1 3 rfl rfl)
theorem dX3_readStep_28 : decode cX3_readStep 28 = .ok (.iadd, 1) := dk_96 (dk_at dksX3_readStep_1 4 rfl rfl)
theorem dX3_readStep_29 : decode cX3_readStep 29 = .ok (.putfield 122, 3) := dk_181 0 122 (dk_at dksX3_readStep_1 5 rfl rfl)
theorem dX3_readStep_32 : decode cX3_readStep 32 = .ok (.aload_n 0, 1) := dk_42 (dk_at dksX3_readStep_1 8 rfl rfl)
theorem dX3_readStep_33 : decode cX3_readStep 33 = .ok (.getfield 55, 3) := dk_180 0 55 (dk_at dksX3_readStep_1 9 rfl rfl)
theorem dX3_readStep_36 : decode cX3_readStep 36 = .ok (.iload_n 1, 1) := dk_27 (dk_at dksX3_readStep_1 12 rfl rfl)
theorem dX3_readStep_37 : decode cX3_readStep 37 = .ok (.iload_n 2, 1) := dk_28 (dk_at dksX3_readStep_1 13 rfl rfl)
theorem dX3_readStep_38 : decode cX3_readStep 38 = .ok (.iastore, 1) := dk_79 (dk_at dksX3_readStep_1 14 rfl rfl)
theorem dX3_readStep_39 : decode cX3_readStep 39 = .ok (.aload_n 0, 1) := dk_42 (dk_at dksX3_readStep_1 15 rfl rfl)
theorem dX3_readStep_40 : decode cX3_readStep 40 = .ok (.getfield 55, 3) := dk_180 0 55 (dk_at dksX3_readStep_1 16 rfl rfl)
theorem dX3_readStep_43 : decode cX3_readStep 43 = .ok (.iload_n 1, 1) := dk_27 (dk_at dksX3_readStep_1 19 rfl rfl)
theorem dX3_readStep_44 : decode cX3_readStep 44 = .ok (.iconst 1, 1) := dk_4 (dk_at dksX3_readStep_1 20 rfl rfl)
theorem dX3_readStep_45 : decode cX3_readStep 45 = .ok (.iadd, 1) := dk_96 (dk_at dksX3_readStep_1 21 rfl rfl)
theorem dX3_readStep_46 : decode cX3_readStep 46 = .ok (.iconst (-1), 1) := dk_2 (dk_at dksX3_readStep_1 22 rfl rfl)
theorem dX3_readStep_47 : decode cX3_readStep 47 = .ok (.iastore, 1) := dk_79 (dk_at dksX3_readStep_1 23 rfl rfl)
theorem dX3_readStep_48 : decode cX3_readStep 48 = .ok (.iload_n 2, 1) := dk_28 (dk_at dksX3_readStep_2 0 rfl rfl)
theorem dX3_readStep_49 : decode cX3_readStep 49 = .ok (.ifCond .ne 4, 3) := dk_154 0 4 (dk_at dksX3_readStep_2 1 rfl rfl)
theorem dX3_readStep_52 : decode cX3_readStep 52 = .ok (.return_, 1) := dk_177 (dk_at dksX3_readStep_2 4 rfl rfl)
theorem dX3_readStep_53 : decode cX3_readStep 53 = .ok (.aload_n 0, 1) := dk_42 (dk_at dksX3_readStep_2 5 rfl rfl)
theorem dX3_readStep_54 : decode cX3_readStep 54 = .ok (.invokevirtual 141, 3) := dk_182 0 141 (dk_at dksX3_readStep_2 6 rfl rfl)
theorem dX3_readStep_57 : decode cX3_readStep 57 = .ok (.istore_n 3, 1) := dk_62 (dk_at dksX3_readStep_2 9 rfl rfl)
theorem dX3_readStep_58 : decode cX3_readStep 58 = .ok (.aload_n 0, 1) := dk_42 (dk_at dksX3_readStep_2 10 rfl rfl)
theorem dX3_readStep_59 : decode cX3_readStep 59 = .ok (.invokevirtual 171, 3) := dk_182 0 171 (dk_at dksX3_readStep_2 11 rfl rfl)
theorem dX3_readStep_62 : decode cX3_readStep 62 = .ok (.ifCond .ne 9, 3) := dk_154 0 9 (dk_at dksX3_readStep_2 14 rfl rfl)
theorem dX3_readStep_65 : decode cX3_readStep 65 = .ok (.aload_n 0, 1) := dk_42 (dk_at dksX3_readStep_2 17 rfl rfl)
theorem dX3_readStep_66 : decode cX3_readStep 66 = .ok (.invokevirtual 137, 3) := dk_182 0 137 (dk_at dksX3_readStep_2 18 rfl rfl)
theorem dX3_readStep_69 : decode cX3_readStep 69 = .ok (.pop, 1) := dk_87 (dk_at dksX3_readStep_2 21 rfl rfl)
theorem dX3_readStep_70 : decode cX3_readStep 70 = .ok (.return_, 1) := dk_177 (dk_at dksX3_readStep_2 22 rfl rfl)
theorem dX3_readStep_71 : decode cX3_readStep 71 = .ok (.aload_n 0, 1) := dk_42 (dk_at dksX3_readStep_2 23 rfl rfl)
theorem dX3_readStep_72 : decode cX3_readStep 72 = .ok (.getfield 55, 3) := dk_180 0 55 (dk_at dksX3_readStep_3 0 rfl rfl)
theorem dX3_readStep_75 : decode cX3_readStep 75 = .ok (.iload_n 1, 1) := dk_27 (dk_at dksX3_readStep_3 3 rfl rfl)
theorem dX3_readStep_76 : decode cX3_readStep 76 = .ok (.iconst 1, 1) := dk_4 (dk_at dksX3_readStep_3 4 rfl rfl)
theorem dX3_readStep_77 : decode cX3_readStep 77 = .ok (.iadd, 1) := dk_96 (dk_at dksX3_readStep_3 5 rfl rfl)
theorem dX3_readStep_78 : decode cX3_readStep 78 = .ok (.iload_n 3, 1) := dk_29 (dk_at dksX3_readStep_3 6 rfl rfl)
theorem dX3_readStep_79 : decode cX3_readStep 79 = .ok (.bipush 48, 2) := dk_16 48 (dk_at dksX3_readStep_3 7 rfl rfl)
theorem dX3_readStep_81 : decode cX3_readStep 81 = .ok (.isub, 1) := dk_100 (dk_at dksX3_readStep_3 9 rfl rfl)
theorem dX3_readStep_82 : decode cX3_readStep 82 = .ok (.iastore, 1) := dk_79 (dk_at dksX3_readStep_3 10 rfl rfl)
theorem dX3_readStep_83 : decode cX3_readStep 83 = .ok (.aload_n 0, 1) := dk_42 (dk_at dksX3_readStep_3 11 rfl rfl)
theorem dX3_readStep_84 : decode cX3_readStep 84 = .ok (.dup, 1) := dk_89 (dk_at dksX3_readStep_3 12 rfl rfl)
theorem dX3_readStep_85 : decode cX3_readStep 85 = .ok (.getfield 122, 3) := dk_180 0 122 (dk_at dksX3_readStep_3 13 rfl rfl)
theorem dX3_readStep_88 : decode cX3_readStep 88 = .ok (.iconst 1, 1) := dk_4 (dk_at dksX3_readStep_3 16 rfl rfl)
theorem dX3_readStep_89 : decode cX3_readStep 89 = .ok (.iadd, 1) := dk_96 (dk_at dksX3_readStep_3 17 rfl rfl)
theorem dX3_readStep_90 : decode cX3_readStep 90 = .ok (.putfield 122, 3) := dk_181 0 122 (dk_at dksX3_readStep_3 18 rfl rfl)
theorem dX3_readStep_93 : decode cX3_readStep 93 = .ok (.return_, 1) := dk_177 (dk_at dksX3_readStep_3 21 rfl rfl)
abbrev cX3_text : ByteArray := prog_14_method_39_code
def yX3_text : MethodName := ⟨RX3, "text", "(I)I"⟩
def dkwX3_text_17 : List UInt8 := [181, 1, 44, 42, 3, 181, 1, 47, 42, 180, 1, 35, 172]
abbrev dktX3_text_17 : List UInt8 := dkwX3_text_17 ++ []
def dkwX3_text_16 : List UInt8 := [167, 255, 208, 42, 180, 0, 61, 16, 17, 42, 180, 0, 37, 4, 46, 79, 42, 3, 181, 1, 41, 42, 3]
abbrev dktX3_text_16 : List UInt8 := dkwX3_text_16 ++ dktX3_text_17
def dkwX3_text_15 : List UInt8 := [21, 4, 96, 42, 180, 0, 43, 6, 29, 104, 21, 4, 96, 46, 79, 132, 4, 1, 167, 255, 225, 132, 3, 1]
abbrev dktX3_text_15 : List UInt8 := dkwX3_text_15 ++ dktX3_text_16
def dkwX3_text_14 : List UInt8 := [42, 180, 1, 35, 162, 0, 46, 3, 54, 4, 21, 4, 6, 162, 0, 31, 42, 180, 0, 61, 7, 29, 104]
abbrev dktX3_text_14 : List UInt8 := dkwX3_text_14 ++ dktX3_text_15
def dkwX3_text_13 : List UInt8 := [62, 29, 17, 1, 35, 162, 0, 16, 42, 180, 0, 61, 29, 3, 79, 132, 3, 1, 167, 255, 239, 3, 62, 29]
abbrev dktX3_text_13 : List UInt8 := dkwX3_text_13 ++ dktX3_text_14
def dkwX3_text_12 : List UInt8 := [16, 32, 162, 0, 21, 42, 180, 0, 49, 29, 42, 180, 0, 52, 29, 46, 79, 132, 3, 1, 167, 255, 235, 3]
abbrev dktX3_text_12 : List UInt8 := dkwX3_text_12 ++ dktX3_text_13
def dkwX3_text_11 : List UInt8 := [162, 0, 21, 42, 180, 0, 43, 29, 42, 180, 0, 46, 29, 46, 79, 132, 3, 1, 167, 255, 235, 3, 62, 29]
abbrev dktX3_text_11 : List UInt8 := dkwX3_text_11 ++ dktX3_text_12
def dkwX3_text_10 : List UInt8 := [180, 0, 37, 29, 42, 180, 0, 40, 29, 46, 79, 132, 3, 1, 167, 255, 236, 3, 62, 29, 16, 12]
abbrev dktX3_text_10 : List UInt8 := dkwX3_text_10 ++ dktX3_text_11
def dkwX3_text_9 : List UInt8 := [42, 180, 0, 241, 181, 1, 35, 42, 42, 180, 0, 244, 181, 1, 38, 3, 62, 29, 5, 162, 0, 21, 42]
abbrev dktX3_text_9 : List UInt8 := dkwX3_text_9 ++ dktX3_text_10
def dkwX3_text_8 : List UInt8 := [180, 0, 58, 7, 46, 79, 42, 89, 180, 1, 30, 4, 96, 181, 1, 30, 42, 180, 1, 30, 4, 100, 172, 42]
abbrev dktX3_text_8 : List UInt8 := dkwX3_text_8 ++ dktX3_text_9
def dkwX3_text_7 : List UInt8 := [17, 0, 128, 29, 96, 46, 79, 132, 3, 1, 167, 255, 223, 42, 180, 0, 58, 42, 180, 1, 30, 42]
abbrev dktX3_text_7 : List UInt8 := dkwX3_text_7 ++ dktX3_text_8
def dkwX3_text_6 : List UInt8 := [16, 32, 162, 0, 33, 42, 180, 0, 55, 16, 32, 42, 180, 1, 30, 104, 29, 96, 42, 180, 0, 55]
abbrev dktX3_text_6 : List UInt8 := dkwX3_text_6 ++ dktX3_text_7
def dkwX3_text_5 : List UInt8 := [180, 1, 27, 4, 96, 181, 1, 27, 42, 180, 1, 27, 4, 100, 172, 27, 5, 160, 0, 73, 3, 62, 29]
abbrev dktX3_text_5 : List UInt8 := dkwX3_text_5 ++ dktX3_text_6
def dkwX3_text_4 : List UInt8 := [180, 0, 9, 29, 51, 84, 132, 3, 1, 167, 255, 227, 42, 180, 0, 16, 42, 180, 1, 27, 28, 79, 42, 89]
abbrev dktX3_text_4 : List UInt8 := dkwX3_text_4 ++ dktX3_text_5
def dkwX3_text_3 : List UInt8 := [3, 62, 29, 28, 162, 0, 30, 42, 180, 0, 13, 17, 0, 240, 42, 180, 1, 27, 104, 29, 96, 42]
abbrev dktX3_text_3 : List UInt8 := dkwX3_text_3 ++ dktX3_text_4
def dkwX3_text_2 : List UInt8 := [182, 1, 33, 2, 159, 0, 5, 2, 172, 42, 180, 0, 112, 61, 42, 3, 181, 0, 112, 27, 4, 160, 0, 64]
abbrev dktX3_text_2 : List UInt8 := dkwX3_text_2 ++ dktX3_text_3
def dkwX3_text_1 : List UInt8 := [180, 1, 27, 7, 159, 0, 25, 27, 5, 160, 0, 11, 42, 180, 1, 30, 7, 159, 0, 12, 42, 27]
abbrev dktX3_text_1 : List UInt8 := dkwX3_text_1 ++ dktX3_text_2
def dkwX3_text_0 : List UInt8 := [42, 3, 181, 0, 99, 27, 133, 9, 20, 1, 12, 184, 1, 14, 153, 0, 38, 27, 4, 160, 0, 11, 42]
abbrev dktX3_text_0 : List UInt8 := dkwX3_text_0 ++ dktX3_text_1
theorem dksX3_text_0 : cX3_text.data.toList.drop 0 = dktX3_text_0 := by decide +kernel
theorem dksX3_text_1 : cX3_text.data.toList.drop 23 = dktX3_text_1 := dk_seg dksX3_text_0 23 rfl rfl
theorem dksX3_text_2 : cX3_text.data.toList.drop 45 = dktX3_text_2 := dk_seg dksX3_text_1 22 rfl rfl
theorem dksX3_text_3 : cX3_text.data.toList.drop 69 = dktX3_text_3 := dk_seg dksX3_text_2 24 rfl rfl
theorem dksX3_text_4 : cX3_text.data.toList.drop 91 = dktX3_text_4 := dk_seg dksX3_text_3 22 rfl rfl
theorem dksX3_text_5 : cX3_text.data.toList.drop 115 = dktX3_text_5 := dk_seg dksX3_text_4 24 rfl rfl
theorem dksX3_text_6 : cX3_text.data.toList.drop 138 = dktX3_text_6 := dk_seg dksX3_text_5 23 rfl rfl
theorem dksX3_text_7 : cX3_text.data.toList.drop 160 = dktX3_text_7 := dk_seg dksX3_text_6 22 rfl rfl
theorem dksX3_text_8 : cX3_text.data.toList.drop 182 = dktX3_text_8 := dk_seg dksX3_text_7 22 rfl rfl
theorem dksX3_text_9 : cX3_text.data.toList.drop 206 = dktX3_text_9 := dk_seg dksX3_text_8 24 rfl rfl
theorem dksX3_text_10 : cX3_text.data.toList.drop 229 = dktX3_text_10 := dk_seg dksX3_text_9 23 rfl rfl
theorem dksX3_text_11 : cX3_text.data.toList.drop 251 = dktX3_text_11 := dk_seg dksX3_text_10 22 rfl rfl
theorem dksX3_text_12 : cX3_text.data.toList.drop 275 = dktX3_text_12 := dk_seg dksX3_text_11 24 rfl rfl
theorem dksX3_text_13 : cX3_text.data.toList.drop 299 = dktX3_text_13 := dk_seg dksX3_text_12 24 rfl rfl
theorem dksX3_text_14 : cX3_text.data.toList.drop 323 = dktX3_text_14 := dk_seg dksX3_text_13 24 rfl rfl
theorem dksX3_text_15 : cX3_text.data.toList.drop 346 = dktX3_text_15 := dk_seg dksX3_text_14 23 rfl rfl
theorem dksX3_text_16 : cX3_text.data.toList.drop 370 = dktX3_text_16 := dk_seg dksX3_text_15 24 rfl rfl
theorem dksX3_text_17 : cX3_text.data.toList.drop 393 = dktX3_text_17 := dk_seg dksX3_text_16 23 rfl rfl
theorem dX3_text_0 : decode cX3_text 0 = .ok (.aload_n 0, 1) := dk_42 (dk_at dksX3_text_0 0 rfl rfl)
theorem dX3_text_1 : decode cX3_text 1 = .ok (.iconst 0, 1) := dk_3 (dk_at dksX3_text_0 1 rfl rfl)
theorem dX3_text_2 : decode cX3_text 2 = .ok (.putfield 99, 3) := dk_181 0 99 (dk_at dksX3_text_0 2 rfl rfl)
theorem dX3_text_5 : decode cX3_text 5 = .ok (.iload_n 1, 1) := dk_27 (dk_at dksX3_text_0 5 rfl rfl)
theorem dX3_text_6 : decode cX3_text 6 = .ok (.i2l, 1) := dk_133 (dk_at dksX3_text_0 6 rfl rfl)
theorem dX3_text_7 : decode cX3_text 7 = .ok (.lconst 0, 1) := dk_9 (dk_at dksX3_text_0 7 rfl rfl)
theorem dX3_text_8 : decode cX3_text 8 = .ok (.ldc2_w 268, 3) := dk_20 1 12 (dk_at dksX3_text_0 8 rfl rfl)
theorem dX3_text_11 : decode cX3_text 11 = .ok (.invokestatic 270, 3) := dk_184 1 14 (dk_at dksX3_text_0 11 rfl rfl)
theorem dX3_text_14 : decode cX3_text 14 = .ok (.ifCond .eq 38, 3) := dk_153 0 38 (dk_at dksX3_text_0 14 rfl rfl)
theorem dX3_text_17 : decode cX3_text 17 = .ok (.iload_n 1, 1) := dk_27 (dk_at dksX3_text_0 17 rfl rfl)
theorem dX3_text_18 : decode cX3_text 18 = .ok (.iconst 1, 1) := dk_4 (dk_at dksX3_text_0 18 rfl rfl)
theorem dX3_text_19 : decode cX3_text 19 = .ok (.if_icmp .ne 11, 3) := dk_160 0 11 (dk_at dksX3_text_0 19 rfl rfl)
theorem dX3_text_22 : decode cX3_text 22 = .ok (.aload_n 0, 1) := dk_42 (dk_at dksX3_text_0 22 rfl rfl)
theorem dX3_text_23 : decode cX3_text 23 = .ok (.getfield 283, 3) := dk_180 1 27 (dk_at dksX3_text_1 0 rfl rfl)
theorem dX3_text_26 : decode cX3_text 26 = .ok (.iconst 4, 1) := dk_7 (dk_at dksX3_text_1 3 rfl rfl)
theorem dX3_text_27 : decode cX3_text 27 = .ok (.if_icmp .eq 25, 3) := dk_159 0 25 (dk_at dksX3_text_1 4 rfl rfl)
theorem dX3_text_30 : decode cX3_text 30 = .ok (.iload_n 1, 1) := dk_27 (dk_at dksX3_text_1 7 rfl rfl)
theorem dX3_text_31 : decode cX3_text 31 = .ok (.iconst 2, 1) := dk_5 (dk_at dksX3_text_1 8 rfl rfl)
theorem dX3_text_32 : decode cX3_text 32 = .ok (.if_icmp .ne 11, 3) := dk_160 0 11 (dk_at dksX3_text_1 9 rfl rfl)
theorem dX3_text_35 : decode cX3_text 35 = .ok (.aload_n 0, 1) := dk_42 (dk_at dksX3_text_1 12 rfl rfl)
theorem dX3_text_36 : decode cX3_text 36 = .ok (.getfield 286, 3) := dk_180 1 30 (dk_at dksX3_text_1 13 rfl rfl)
theorem dX3_text_39 : decode cX3_text 39 = .ok (.iconst 4, 1) := dk_7 (dk_at dksX3_text_1 16 rfl rfl)
theorem dX3_text_40 : decode cX3_text 40 = .ok (.if_icmp .eq 12, 3) := dk_159 0 12 (dk_at dksX3_text_1 17 rfl rfl)
theorem dX3_text_43 : decode cX3_text 43 = .ok (.aload_n 0, 1) := dk_42 (dk_at dksX3_text_1 20 rfl rfl)
theorem dX3_text_44 : decode cX3_text 44 = .ok (.iload_n 1, 1) := dk_27 (dk_at dksX3_text_1 21 rfl rfl)
theorem dX3_text_45 : decode cX3_text 45 = .ok (.invokevirtual 289, 3) := dk_182 1 33 (dk_at dksX3_text_2 0 rfl rfl)
theorem dX3_text_48 : decode cX3_text 48 = .ok (.iconst (-1), 1) := dk_2 (dk_at dksX3_text_2 3 rfl rfl)
theorem dX3_text_49 : decode cX3_text 49 = .ok (.if_icmp .eq 5, 3) := dk_159 0 5 (dk_at dksX3_text_2 4 rfl rfl)
theorem dX3_text_52 : decode cX3_text 52 = .ok (.iconst (-1), 1) := dk_2 (dk_at dksX3_text_2 7 rfl rfl)
theorem dX3_text_53 : decode cX3_text 53 = .ok (.ireturn, 1) := dk_172 (dk_at dksX3_text_2 8 rfl rfl)
theorem dX3_text_54 : decode cX3_text 54 = .ok (.aload_n 0, 1) := dk_42 (dk_at dksX3_text_2 9 rfl rfl)
theorem dX3_text_55 : decode cX3_text 55 = .ok (.getfield 112, 3) := dk_180 0 112 (dk_at dksX3_text_2 10 rfl rfl)
theorem dX3_text_58 : decode cX3_text 58 = .ok (.istore_n 2, 1) := dk_61 (dk_at dksX3_text_2 13 rfl rfl)
theorem dX3_text_59 : decode cX3_text 59 = .ok (.aload_n 0, 1) := dk_42 (dk_at dksX3_text_2 14 rfl rfl)
theorem dX3_text_60 : decode cX3_text 60 = .ok (.iconst 0, 1) := dk_3 (dk_at dksX3_text_2 15 rfl rfl)
theorem dX3_text_61 : decode cX3_text 61 = .ok (.putfield 112, 3) := dk_181 0 112 (dk_at dksX3_text_2 16 rfl rfl)
theorem dX3_text_64 : decode cX3_text 64 = .ok (.iload_n 1, 1) := dk_27 (dk_at dksX3_text_2 19 rfl rfl)
theorem dX3_text_65 : decode cX3_text 65 = .ok (.iconst 1, 1) := dk_4 (dk_at dksX3_text_2 20 rfl rfl)
theorem dX3_text_66 : decode cX3_text 66 = .ok (.if_icmp .ne 64, 3) := dk_160 0 64 (dk_at dksX3_text_2 21 rfl rfl)
theorem dX3_text_69 : decode cX3_text 69 = .ok (.iconst 0, 1) := dk_3 (dk_at dksX3_text_3 0 rfl rfl)
theorem dX3_text_70 : decode cX3_text 70 = .ok (.istore_n 3, 1) := dk_62 (dk_at dksX3_text_3 1 rfl rfl)
theorem dX3_text_71 : decode cX3_text 71 = .ok (.iload_n 3, 1) := dk_29 (dk_at dksX3_text_3 2 rfl rfl)
theorem dX3_text_72 : decode cX3_text 72 = .ok (.iload_n 2, 1) := dk_28 (dk_at dksX3_text_3 3 rfl rfl)
theorem dX3_text_73 : decode cX3_text 73 = .ok (.if_icmp .ge 30, 3) := dk_162 0 30 (dk_at dksX3_text_3 4 rfl rfl)
theorem dX3_text_76 : decode cX3_text 76 = .ok (.aload_n 0, 1) := dk_42 (dk_at dksX3_text_3 7 rfl rfl)
theorem dX3_text_77 : decode cX3_text 77 = .ok (.getfield 13, 3) := dk_180 0 13 (dk_at dksX3_text_3 8 rfl rfl)
theorem dX3_text_80 : decode cX3_text 80 = .ok (.sipush 240, 3) := dk_17 0 240 (dk_at dksX3_text_3 11 rfl rfl)
theorem dX3_text_83 : decode cX3_text 83 = .ok (.aload_n 0, 1) := dk_42 (dk_at dksX3_text_3 14 rfl rfl)
theorem dX3_text_84 : decode cX3_text 84 = .ok (.getfield 283, 3) := dk_180 1 27 (dk_at dksX3_text_3 15 rfl rfl)
theorem dX3_text_87 : decode cX3_text 87 = .ok (.imul, 1) := dk_104 (dk_at dksX3_text_3 18 rfl rfl)
theorem dX3_text_88 : decode cX3_text 88 = .ok (.iload_n 3, 1) := dk_29 (dk_at dksX3_text_3 19 rfl rfl)
theorem dX3_text_89 : decode cX3_text 89 = .ok (.iadd, 1) := dk_96 (dk_at dksX3_text_3 20 rfl rfl)
theorem dX3_text_90 : decode cX3_text 90 = .ok (.aload_n 0, 1) := dk_42 (dk_at dksX3_text_3 21 rfl rfl)
theorem dX3_text_91 : decode cX3_text 91 = .ok (.getfield 9, 3) := dk_180 0 9 (dk_at dksX3_text_4 0 rfl rfl)
theorem dX3_text_94 : decode cX3_text 94 = .ok (.iload_n 3, 1) := dk_29 (dk_at dksX3_text_4 3 rfl rfl)
theorem dX3_text_95 : decode cX3_text 95 = .ok (.baload, 1) := dk_51 (dk_at dksX3_text_4 4 rfl rfl)
theorem dX3_text_96 : decode cX3_text 96 = .ok (.bastore, 1) := dk_84 (dk_at dksX3_text_4 5 rfl rfl)
theorem dX3_text_97 : decode cX3_text 97 = .ok (.iinc 3 1, 3) := dk_132 3 1 (dk_at dksX3_text_4 6 rfl rfl)
theorem dX3_text_100 : decode cX3_text 100 = .ok (.goto (-29), 3) := dk_167 255 227 (dk_at dksX3_text_4 9 rfl rfl)
theorem dX3_text_103 : decode cX3_text 103 = .ok (.aload_n 0, 1) := dk_42 (dk_at dksX3_text_4 12 rfl rfl)
theorem dX3_text_104 : decode cX3_text 104 = .ok (.getfield 16, 3) := dk_180 0 16 (dk_at dksX3_text_4 13 rfl rfl)
theorem dX3_text_107 : decode cX3_text 107 = .ok (.aload_n 0, 1) := dk_42 (dk_at dksX3_text_4 16 rfl rfl)
theorem dX3_text_108 : decode cX3_text 108 = .ok (.getfield 283, 3) := dk_180 1 27 (dk_at dksX3_text_4 17 rfl rfl)
theorem dX3_text_111 : decode cX3_text 111 = .ok (.iload_n 2, 1) := dk_28 (dk_at dksX3_text_4 20 rfl rfl)
theorem dX3_text_112 : decode cX3_text 112 = .ok (.iastore, 1) := dk_79 (dk_at dksX3_text_4 21 rfl rfl)
theorem dX3_text_113 : decode cX3_text 113 = .ok (.aload_n 0, 1) := dk_42 (dk_at dksX3_text_4 22 rfl rfl)
theorem dX3_text_114 : decode cX3_text 114 = .ok (.dup, 1) := dk_89 (dk_at dksX3_text_4 23 rfl rfl)
theorem dX3_text_115 : decode cX3_text 115 = .ok (.getfield 283, 3) := dk_180 1 27 (dk_at dksX3_text_5 0 rfl rfl)
theorem dX3_text_118 : decode cX3_text 118 = .ok (.iconst 1, 1) := dk_4 (dk_at dksX3_text_5 3 rfl rfl)
theorem dX3_text_119 : decode cX3_text 119 = .ok (.iadd, 1) := dk_96 (dk_at dksX3_text_5 4 rfl rfl)
theorem dX3_text_120 : decode cX3_text 120 = .ok (.putfield 283, 3) := dk_181 1 27 (dk_at dksX3_text_5 5 rfl rfl)
theorem dX3_text_123 : decode cX3_text 123 = .ok (.aload_n 0, 1) := dk_42 (dk_at dksX3_text_5 8 rfl rfl)
theorem dX3_text_124 : decode cX3_text 124 = .ok (.getfield 283, 3) := dk_180 1 27 (dk_at dksX3_text_5 9 rfl rfl)
theorem dX3_text_127 : decode cX3_text 127 = .ok (.iconst 1, 1) := dk_4 (dk_at dksX3_text_5 12 rfl rfl)
theorem dX3_text_128 : decode cX3_text 128 = .ok (.isub, 1) := dk_100 (dk_at dksX3_text_5 13 rfl rfl)
theorem dX3_text_129 : decode cX3_text 129 = .ok (.ireturn, 1) := dk_172 (dk_at dksX3_text_5 14 rfl rfl)
theorem dX3_text_130 : decode cX3_text 130 = .ok (.iload_n 1, 1) := dk_27 (dk_at dksX3_text_5 15 rfl rfl)
theorem dX3_text_131 : decode cX3_text 131 = .ok (.iconst 2, 1) := dk_5 (dk_at dksX3_text_5 16 rfl rfl)
theorem dX3_text_132 : decode cX3_text 132 = .ok (.if_icmp .ne 73, 3) := dk_160 0 73 (dk_at dksX3_text_5 17 rfl rfl)
theorem dX3_text_135 : decode cX3_text 135 = .ok (.iconst 0, 1) := dk_3 (dk_at dksX3_text_5 20 rfl rfl)
theorem dX3_text_136 : decode cX3_text 136 = .ok (.istore_n 3, 1) := dk_62 (dk_at dksX3_text_5 21 rfl rfl)
theorem dX3_text_137 : decode cX3_text 137 = .ok (.iload_n 3, 1) := dk_29 (dk_at dksX3_text_5 22 rfl rfl)
theorem dX3_text_138 : decode cX3_text 138 = .ok (.bipush 32, 2) := dk_16 32 (dk_at dksX3_text_6 0 rfl rfl)
theorem dX3_text_140 : decode cX3_text 140 = .ok (.if_icmp .ge 33, 3) := dk_162 0 33 (dk_at dksX3_text_6 2 rfl rfl)
theorem dX3_text_143 : decode cX3_text 143 = .ok (.aload_n 0, 1) := dk_42 (dk_at dksX3_text_6 5 rfl rfl)
theorem dX3_text_144 : decode cX3_text 144 = .ok (.getfield 55, 3) := dk_180 0 55 (dk_at dksX3_text_6 6 rfl rfl)
theorem dX3_text_147 : decode cX3_text 147 = .ok (.bipush 32, 2) := dk_16 32 (dk_at dksX3_text_6 9 rfl rfl)
theorem dX3_text_149 : decode cX3_text 149 = .ok (.aload_n 0, 1) := dk_42 (dk_at dksX3_text_6 11 rfl rfl)
theorem dX3_text_150 : decode cX3_text 150 = .ok (.getfield 286, 3) := dk_180 1 30 (dk_at dksX3_text_6 12 rfl rfl)
theorem dX3_text_153 : decode cX3_text 153 = .ok (.imul, 1) := dk_104 (dk_at dksX3_text_6 15 rfl rfl)
theorem dX3_text_154 : decode cX3_text 154 = .ok (.iload_n 3, 1) := dk_29 (dk_at dksX3_text_6 16 rfl rfl)
theorem dX3_text_155 : decode cX3_text 155 = .ok (.iadd, 1) := dk_96 (dk_at dksX3_text_6 17 rfl rfl)
theorem dX3_text_156 : decode cX3_text 156 = .ok (.aload_n 0, 1) := dk_42 (dk_at dksX3_text_6 18 rfl rfl)
theorem dX3_text_157 : decode cX3_text 157 = .ok (.getfield 55, 3) := dk_180 0 55 (dk_at dksX3_text_6 19 rfl rfl)
theorem dX3_text_160 : decode cX3_text 160 = .ok (.sipush 128, 3) := dk_17 0 128 (dk_at dksX3_text_7 0 rfl rfl)
theorem dX3_text_163 : decode cX3_text 163 = .ok (.iload_n 3, 1) := dk_29 (dk_at dksX3_text_7 3 rfl rfl)
theorem dX3_text_164 : decode cX3_text 164 = .ok (.iadd, 1) := dk_96 (dk_at dksX3_text_7 4 rfl rfl)
theorem dX3_text_165 : decode cX3_text 165 = .ok (.iaload, 1) := dk_46 (dk_at dksX3_text_7 5 rfl rfl)
theorem dX3_text_166 : decode cX3_text 166 = .ok (.iastore, 1) := dk_79 (dk_at dksX3_text_7 6 rfl rfl)
theorem dX3_text_167 : decode cX3_text 167 = .ok (.iinc 3 1, 3) := dk_132 3 1 (dk_at dksX3_text_7 7 rfl rfl)
theorem dX3_text_170 : decode cX3_text 170 = .ok (.goto (-33), 3) := dk_167 255 223 (dk_at dksX3_text_7 10 rfl rfl)
theorem dX3_text_173 : decode cX3_text 173 = .ok (.aload_n 0, 1) := dk_42 (dk_at dksX3_text_7 13 rfl rfl)
theorem dX3_text_174 : decode cX3_text 174 = .ok (.getfield 58, 3) := dk_180 0 58 (dk_at dksX3_text_7 14 rfl rfl)
theorem dX3_text_177 : decode cX3_text 177 = .ok (.aload_n 0, 1) := dk_42 (dk_at dksX3_text_7 17 rfl rfl)
theorem dX3_text_178 : decode cX3_text 178 = .ok (.getfield 286, 3) := dk_180 1 30 (dk_at dksX3_text_7 18 rfl rfl)
theorem dX3_text_181 : decode cX3_text 181 = .ok (.aload_n 0, 1) := dk_42 (dk_at dksX3_text_7 21 rfl rfl)
theorem dX3_text_182 : decode cX3_text 182 = .ok (.getfield 58, 3) := dk_180 0 58 (dk_at dksX3_text_8 0 rfl rfl)
theorem dX3_text_185 : decode cX3_text 185 = .ok (.iconst 4, 1) := dk_7 (dk_at dksX3_text_8 3 rfl rfl)
theorem dX3_text_186 : decode cX3_text 186 = .ok (.iaload, 1) := dk_46 (dk_at dksX3_text_8 4 rfl rfl)
theorem dX3_text_187 : decode cX3_text 187 = .ok (.iastore, 1) := dk_79 (dk_at dksX3_text_8 5 rfl rfl)
theorem dX3_text_188 : decode cX3_text 188 = .ok (.aload_n 0, 1) := dk_42 (dk_at dksX3_text_8 6 rfl rfl)
theorem dX3_text_189 : decode cX3_text 189 = .ok (.dup, 1) := dk_89 (dk_at dksX3_text_8 7 rfl rfl)
theorem dX3_text_190 : decode cX3_text 190 = .ok (.getfield 286, 3) := dk_180 1 30 (dk_at dksX3_text_8 8 rfl rfl)
theorem dX3_text_193 : decode cX3_text 193 = .ok (.iconst 1, 1) := dk_4 (dk_at dksX3_text_8 11 rfl rfl)
theorem dX3_text_194 : decode cX3_text 194 = .ok (.iadd, 1) := dk_96 (dk_at dksX3_text_8 12 rfl rfl)
theorem dX3_text_195 : decode cX3_text 195 = .ok (.putfield 286, 3) := dk_181 1 30 (dk_at dksX3_text_8 13 rfl rfl)
theorem dX3_text_198 : decode cX3_text 198 = .ok (.aload_n 0, 1) := dk_42 (dk_at dksX3_text_8 16 rfl rfl)
theorem dX3_text_199 : decode cX3_text 199 = .ok (.getfield 286, 3) := dk_180 1 30 (dk_at dksX3_text_8 17 rfl rfl)
theorem dX3_text_202 : decode cX3_text 202 = .ok (.iconst 1, 1) := dk_4 (dk_at dksX3_text_8 20 rfl rfl)
theorem dX3_text_203 : decode cX3_text 203 = .ok (.isub, 1) := dk_100 (dk_at dksX3_text_8 21 rfl rfl)
theorem dX3_text_204 : decode cX3_text 204 = .ok (.ireturn, 1) := dk_172 (dk_at dksX3_text_8 22 rfl rfl)
theorem dX3_text_205 : decode cX3_text 205 = .ok (.aload_n 0, 1) := dk_42 (dk_at dksX3_text_8 23 rfl rfl)
theorem dX3_text_206 : decode cX3_text 206 = .ok (.aload_n 0, 1) := dk_42 (dk_at dksX3_text_9 0 rfl rfl)
theorem dX3_text_207 : decode cX3_text 207 = .ok (.getfield 241, 3) := dk_180 0 241 (dk_at dksX3_text_9 1 rfl rfl)
theorem dX3_text_210 : decode cX3_text 210 = .ok (.putfield 291, 3) := dk_181 1 35 (dk_at dksX3_text_9 4 rfl rfl)
theorem dX3_text_213 : decode cX3_text 213 = .ok (.aload_n 0, 1) := dk_42 (dk_at dksX3_text_9 7 rfl rfl)
theorem dX3_text_214 : decode cX3_text 214 = .ok (.aload_n 0, 1) := dk_42 (dk_at dksX3_text_9 8 rfl rfl)
theorem dX3_text_215 : decode cX3_text 215 = .ok (.getfield 244, 3) := dk_180 0 244 (dk_at dksX3_text_9 9 rfl rfl)
theorem dX3_text_218 : decode cX3_text 218 = .ok (.putfield 294, 3) := dk_181 1 38 (dk_at dksX3_text_9 12 rfl rfl)
theorem dX3_text_221 : decode cX3_text 221 = .ok (.iconst 0, 1) := dk_3 (dk_at dksX3_text_9 15 rfl rfl)
theorem dX3_text_222 : decode cX3_text 222 = .ok (.istore_n 3, 1) := dk_62 (dk_at dksX3_text_9 16 rfl rfl)
theorem dX3_text_223 : decode cX3_text 223 = .ok (.iload_n 3, 1) := dk_29 (dk_at dksX3_text_9 17 rfl rfl)
theorem dX3_text_224 : decode cX3_text 224 = .ok (.iconst 2, 1) := dk_5 (dk_at dksX3_text_9 18 rfl rfl)
theorem dX3_text_225 : decode cX3_text 225 = .ok (.if_icmp .ge 21, 3) := dk_162 0 21 (dk_at dksX3_text_9 19 rfl rfl)
theorem dX3_text_228 : decode cX3_text 228 = .ok (.aload_n 0, 1) := dk_42 (dk_at dksX3_text_9 22 rfl rfl)
theorem dX3_text_229 : decode cX3_text 229 = .ok (.getfield 37, 3) := dk_180 0 37 (dk_at dksX3_text_10 0 rfl rfl)
theorem dX3_text_232 : decode cX3_text 232 = .ok (.iload_n 3, 1) := dk_29 (dk_at dksX3_text_10 3 rfl rfl)
theorem dX3_text_233 : decode cX3_text 233 = .ok (.aload_n 0, 1) := dk_42 (dk_at dksX3_text_10 4 rfl rfl)
theorem dX3_text_234 : decode cX3_text 234 = .ok (.getfield 40, 3) := dk_180 0 40 (dk_at dksX3_text_10 5 rfl rfl)
theorem dX3_text_237 : decode cX3_text 237 = .ok (.iload_n 3, 1) := dk_29 (dk_at dksX3_text_10 8 rfl rfl)
theorem dX3_text_238 : decode cX3_text 238 = .ok (.iaload, 1) := dk_46 (dk_at dksX3_text_10 9 rfl rfl)
theorem dX3_text_239 : decode cX3_text 239 = .ok (.iastore, 1) := dk_79 (dk_at dksX3_text_10 10 rfl rfl)
theorem dX3_text_240 : decode cX3_text 240 = .ok (.iinc 3 1, 3) := dk_132 3 1 (dk_at dksX3_text_10 11 rfl rfl)
theorem dX3_text_243 : decode cX3_text 243 = .ok (.goto (-20), 3) := dk_167 255 236 (dk_at dksX3_text_10 14 rfl rfl)
theorem dX3_text_246 : decode cX3_text 246 = .ok (.iconst 0, 1) := dk_3 (dk_at dksX3_text_10 17 rfl rfl)
theorem dX3_text_247 : decode cX3_text 247 = .ok (.istore_n 3, 1) := dk_62 (dk_at dksX3_text_10 18 rfl rfl)
theorem dX3_text_248 : decode cX3_text 248 = .ok (.iload_n 3, 1) := dk_29 (dk_at dksX3_text_10 19 rfl rfl)
theorem dX3_text_249 : decode cX3_text 249 = .ok (.bipush 12, 2) := dk_16 12 (dk_at dksX3_text_10 20 rfl rfl)
theorem dX3_text_251 : decode cX3_text 251 = .ok (.if_icmp .ge 21, 3) := dk_162 0 21 (dk_at dksX3_text_11 0 rfl rfl)
theorem dX3_text_254 : decode cX3_text 254 = .ok (.aload_n 0, 1) := dk_42 (dk_at dksX3_text_11 3 rfl rfl)
theorem dX3_text_255 : decode cX3_text 255 = .ok (.getfield 43, 3) := dk_180 0 43 (dk_at dksX3_text_11 4 rfl rfl)
theorem dX3_text_258 : decode cX3_text 258 = .ok (.iload_n 3, 1) := dk_29 (dk_at dksX3_text_11 7 rfl rfl)
theorem dX3_text_259 : decode cX3_text 259 = .ok (.aload_n 0, 1) := dk_42 (dk_at dksX3_text_11 8 rfl rfl)
theorem dX3_text_260 : decode cX3_text 260 = .ok (.getfield 46, 3) := dk_180 0 46 (dk_at dksX3_text_11 9 rfl rfl)
theorem dX3_text_263 : decode cX3_text 263 = .ok (.iload_n 3, 1) := dk_29 (dk_at dksX3_text_11 12 rfl rfl)
theorem dX3_text_264 : decode cX3_text 264 = .ok (.iaload, 1) := dk_46 (dk_at dksX3_text_11 13 rfl rfl)
theorem dX3_text_265 : decode cX3_text 265 = .ok (.iastore, 1) := dk_79 (dk_at dksX3_text_11 14 rfl rfl)
theorem dX3_text_266 : decode cX3_text 266 = .ok (.iinc 3 1, 3) := dk_132 3 1 (dk_at dksX3_text_11 15 rfl rfl)
theorem dX3_text_269 : decode cX3_text 269 = .ok (.goto (-21), 3) := dk_167 255 235 (dk_at dksX3_text_11 18 rfl rfl)
theorem dX3_text_272 : decode cX3_text 272 = .ok (.iconst 0, 1) := dk_3 (dk_at dksX3_text_11 21 rfl rfl)
theorem dX3_text_273 : decode cX3_text 273 = .ok (.istore_n 3, 1) := dk_62 (dk_at dksX3_text_11 22 rfl rfl)
theorem dX3_text_274 : decode cX3_text 274 = .ok (.iload_n 3, 1) := dk_29 (dk_at dksX3_text_11 23 rfl rfl)
theorem dX3_text_275 : decode cX3_text 275 = .ok (.bipush 32, 2) := dk_16 32 (dk_at dksX3_text_12 0 rfl rfl)
theorem dX3_text_277 : decode cX3_text 277 = .ok (.if_icmp .ge 21, 3) := dk_162 0 21 (dk_at dksX3_text_12 2 rfl rfl)
theorem dX3_text_280 : decode cX3_text 280 = .ok (.aload_n 0, 1) := dk_42 (dk_at dksX3_text_12 5 rfl rfl)
theorem dX3_text_281 : decode cX3_text 281 = .ok (.getfield 49, 3) := dk_180 0 49 (dk_at dksX3_text_12 6 rfl rfl)
theorem dX3_text_284 : decode cX3_text 284 = .ok (.iload_n 3, 1) := dk_29 (dk_at dksX3_text_12 9 rfl rfl)
theorem dX3_text_285 : decode cX3_text 285 = .ok (.aload_n 0, 1) := dk_42 (dk_at dksX3_text_12 10 rfl rfl)
theorem dX3_text_286 : decode cX3_text 286 = .ok (.getfield 52, 3) := dk_180 0 52 (dk_at dksX3_text_12 11 rfl rfl)
theorem dX3_text_289 : decode cX3_text 289 = .ok (.iload_n 3, 1) := dk_29 (dk_at dksX3_text_12 14 rfl rfl)
theorem dX3_text_290 : decode cX3_text 290 = .ok (.iaload, 1) := dk_46 (dk_at dksX3_text_12 15 rfl rfl)
theorem dX3_text_291 : decode cX3_text 291 = .ok (.iastore, 1) := dk_79 (dk_at dksX3_text_12 16 rfl rfl)
theorem dX3_text_292 : decode cX3_text 292 = .ok (.iinc 3 1, 3) := dk_132 3 1 (dk_at dksX3_text_12 17 rfl rfl)
theorem dX3_text_295 : decode cX3_text 295 = .ok (.goto (-21), 3) := dk_167 255 235 (dk_at dksX3_text_12 20 rfl rfl)
theorem dX3_text_298 : decode cX3_text 298 = .ok (.iconst 0, 1) := dk_3 (dk_at dksX3_text_12 23 rfl rfl)
theorem dX3_text_299 : decode cX3_text 299 = .ok (.istore_n 3, 1) := dk_62 (dk_at dksX3_text_13 0 rfl rfl)
theorem dX3_text_300 : decode cX3_text 300 = .ok (.iload_n 3, 1) := dk_29 (dk_at dksX3_text_13 1 rfl rfl)
theorem dX3_text_301 : decode cX3_text 301 = .ok (.sipush 291, 3) := dk_17 1 35 (dk_at dksX3_text_13 2 rfl rfl)
theorem dX3_text_304 : decode cX3_text 304 = .ok (.if_icmp .ge 16, 3) := dk_162 0 16 (dk_at dksX3_text_13 5 rfl rfl)
theorem dX3_text_307 : decode cX3_text 307 = .ok (.aload_n 0, 1) := dk_42 (dk_at dksX3_text_13 8 rfl rfl)
theorem dX3_text_308 : decode cX3_text 308 = .ok (.getfield 61, 3) := dk_180 0 61 (dk_at dksX3_text_13 9 rfl rfl)
theorem dX3_text_311 : decode cX3_text 311 = .ok (.iload_n 3, 1) := dk_29 (dk_at dksX3_text_13 12 rfl rfl)
theorem dX3_text_312 : decode cX3_text 312 = .ok (.iconst 0, 1) := dk_3 (dk_at dksX3_text_13 13 rfl rfl)
theorem dX3_text_313 : decode cX3_text 313 = .ok (.iastore, 1) := dk_79 (dk_at dksX3_text_13 14 rfl rfl)
theorem dX3_text_314 : decode cX3_text 314 = .ok (.iinc 3 1, 3) := dk_132 3 1 (dk_at dksX3_text_13 15 rfl rfl)
theorem dX3_text_317 : decode cX3_text 317 = .ok (.goto (-17), 3) := dk_167 255 239 (dk_at dksX3_text_13 18 rfl rfl)
theorem dX3_text_320 : decode cX3_text 320 = .ok (.iconst 0, 1) := dk_3 (dk_at dksX3_text_13 21 rfl rfl)
theorem dX3_text_321 : decode cX3_text 321 = .ok (.istore_n 3, 1) := dk_62 (dk_at dksX3_text_13 22 rfl rfl)
theorem dX3_text_322 : decode cX3_text 322 = .ok (.iload_n 3, 1) := dk_29 (dk_at dksX3_text_13 23 rfl rfl)
theorem dX3_text_323 : decode cX3_text 323 = .ok (.aload_n 0, 1) := dk_42 (dk_at dksX3_text_14 0 rfl rfl)
theorem dX3_text_324 : decode cX3_text 324 = .ok (.getfield 291, 3) := dk_180 1 35 (dk_at dksX3_text_14 1 rfl rfl)
theorem dX3_text_327 : decode cX3_text 327 = .ok (.if_icmp .ge 46, 3) := dk_162 0 46 (dk_at dksX3_text_14 4 rfl rfl)
theorem dX3_text_330 : decode cX3_text 330 = .ok (.iconst 0, 1) := dk_3 (dk_at dksX3_text_14 7 rfl rfl)
theorem dX3_text_331 : decode cX3_text 331 = .ok (.istore 4, 2) := dk_54 4 (dk_at dksX3_text_14 8 rfl rfl)
theorem dX3_text_333 : decode cX3_text 333 = .ok (.iload 4, 2) := dk_21 4 (dk_at dksX3_text_14 10 rfl rfl)
theorem dX3_text_335 : decode cX3_text 335 = .ok (.iconst 3, 1) := dk_6 (dk_at dksX3_text_14 12 rfl rfl)
theorem dX3_text_336 : decode cX3_text 336 = .ok (.if_icmp .ge 31, 3) := dk_162 0 31 (dk_at dksX3_text_14 13 rfl rfl)
theorem dX3_text_339 : decode cX3_text 339 = .ok (.aload_n 0, 1) := dk_42 (dk_at dksX3_text_14 16 rfl rfl)
theorem dX3_text_340 : decode cX3_text 340 = .ok (.getfield 61, 3) := dk_180 0 61 (dk_at dksX3_text_14 17 rfl rfl)
theorem dX3_text_343 : decode cX3_text 343 = .ok (.iconst 4, 1) := dk_7 (dk_at dksX3_text_14 20 rfl rfl)
theorem dX3_text_344 : decode cX3_text 344 = .ok (.iload_n 3, 1) := dk_29 (dk_at dksX3_text_14 21 rfl rfl)
theorem dX3_text_345 : decode cX3_text 345 = .ok (.imul, 1) := dk_104 (dk_at dksX3_text_14 22 rfl rfl)
theorem dX3_text_346 : decode cX3_text 346 = .ok (.iload 4, 2) := dk_21 4 (dk_at dksX3_text_15 0 rfl rfl)
theorem dX3_text_348 : decode cX3_text 348 = .ok (.iadd, 1) := dk_96 (dk_at dksX3_text_15 2 rfl rfl)
theorem dX3_text_349 : decode cX3_text 349 = .ok (.aload_n 0, 1) := dk_42 (dk_at dksX3_text_15 3 rfl rfl)
theorem dX3_text_350 : decode cX3_text 350 = .ok (.getfield 43, 3) := dk_180 0 43 (dk_at dksX3_text_15 4 rfl rfl)
theorem dX3_text_353 : decode cX3_text 353 = .ok (.iconst 3, 1) := dk_6 (dk_at dksX3_text_15 7 rfl rfl)
theorem dX3_text_354 : decode cX3_text 354 = .ok (.iload_n 3, 1) := dk_29 (dk_at dksX3_text_15 8 rfl rfl)
theorem dX3_text_355 : decode cX3_text 355 = .ok (.imul, 1) := dk_104 (dk_at dksX3_text_15 9 rfl rfl)
theorem dX3_text_356 : decode cX3_text 356 = .ok (.iload 4, 2) := dk_21 4 (dk_at dksX3_text_15 10 rfl rfl)
theorem dX3_text_358 : decode cX3_text 358 = .ok (.iadd, 1) := dk_96 (dk_at dksX3_text_15 12 rfl rfl)
theorem dX3_text_359 : decode cX3_text 359 = .ok (.iaload, 1) := dk_46 (dk_at dksX3_text_15 13 rfl rfl)
theorem dX3_text_360 : decode cX3_text 360 = .ok (.iastore, 1) := dk_79 (dk_at dksX3_text_15 14 rfl rfl)
theorem dX3_text_361 : decode cX3_text 361 = .ok (.iinc 4 1, 3) := dk_132 4 1 (dk_at dksX3_text_15 15 rfl rfl)
theorem dX3_text_364 : decode cX3_text 364 = .ok (.goto (-31), 3) := dk_167 255 225 (dk_at dksX3_text_15 18 rfl rfl)
theorem dX3_text_367 : decode cX3_text 367 = .ok (.iinc 3 1, 3) := dk_132 3 1 (dk_at dksX3_text_15 21 rfl rfl)
theorem dX3_text_370 : decode cX3_text 370 = .ok (.goto (-48), 3) := dk_167 255 208 (dk_at dksX3_text_16 0 rfl rfl)
theorem dX3_text_373 : decode cX3_text 373 = .ok (.aload_n 0, 1) := dk_42 (dk_at dksX3_text_16 3 rfl rfl)
theorem dX3_text_374 : decode cX3_text 374 = .ok (.getfield 61, 3) := dk_180 0 61 (dk_at dksX3_text_16 4 rfl rfl)
theorem dX3_text_377 : decode cX3_text 377 = .ok (.bipush 17, 2) := dk_16 17 (dk_at dksX3_text_16 7 rfl rfl)
theorem dX3_text_379 : decode cX3_text 379 = .ok (.aload_n 0, 1) := dk_42 (dk_at dksX3_text_16 9 rfl rfl)
theorem dX3_text_380 : decode cX3_text 380 = .ok (.getfield 37, 3) := dk_180 0 37 (dk_at dksX3_text_16 10 rfl rfl)
theorem dX3_text_383 : decode cX3_text 383 = .ok (.iconst 1, 1) := dk_4 (dk_at dksX3_text_16 13 rfl rfl)
theorem dX3_text_384 : decode cX3_text 384 = .ok (.iaload, 1) := dk_46 (dk_at dksX3_text_16 14 rfl rfl)
theorem dX3_text_385 : decode cX3_text 385 = .ok (.iastore, 1) := dk_79 (dk_at dksX3_text_16 15 rfl rfl)
theorem dX3_text_386 : decode cX3_text 386 = .ok (.aload_n 0, 1) := dk_42 (dk_at dksX3_text_16 16 rfl rfl)
theorem dX3_text_387 : decode cX3_text 387 = .ok (.iconst 0, 1) := dk_3 (dk_at dksX3_text_16 17 rfl rfl)
theorem dX3_text_388 : decode cX3_text 388 = .ok (.putfield 297, 3) := dk_181 1 41 (dk_at dksX3_text_16 18 rfl rfl)
theorem dX3_text_391 : decode cX3_text 391 = .ok (.aload_n 0, 1) := dk_42 (dk_at dksX3_text_16 21 rfl rfl)
theorem dX3_text_392 : decode cX3_text 392 = .ok (.iconst 0, 1) := dk_3 (dk_at dksX3_text_16 22 rfl rfl)
theorem dX3_text_393 : decode cX3_text 393 = .ok (.putfield 300, 3) := dk_181 1 44 (dk_at dksX3_text_17 0 rfl rfl)
theorem dX3_text_396 : decode cX3_text 396 = .ok (.aload_n 0, 1) := dk_42 (dk_at dksX3_text_17 3 rfl rfl)
theorem dX3_text_397 : decode cX3_text 397 = .ok (.iconst 0, 1) := dk_3 (dk_at dksX3_text_17 4 rfl rfl)
theorem dX3_text_398 : decode cX3_text 398 = .ok (.putfield 303, 3) := dk_181 1 47 (dk_at dksX3_text_17 5 rfl rfl)
theorem dX3_text_401 : decode cX3_text 401 = .ok (.aload_n 0, 1) := dk_42 (dk_at dksX3_text_17 8 rfl rfl)
theorem dX3_text_402 : decode cX3_text 402 = .ok (.getfield 291, 3) := dk_180 1 35 (dk_at dksX3_text_17 9 rfl rfl)
theorem dX3_text_405 : decode cX3_text 405 = .ok (.ireturn, 1) := dk_172 (dk_at dksX3_text_17 12 rfl rfl)
abbrev cX3_kingdom : ByteArray := prog_14_method_51_code
def yX3_kingdom : MethodName := ⟨RX3, "kingdom", "(II)I"⟩
def dkwX3_kingdom_3 : List UInt8 := [184, 1, 60, 167, 0, 14, 42, 180, 0, 61, 16, 16, 46, 27, 122, 4, 126, 172]
abbrev dktX3_kingdom_3 : List UInt8 := dkwX3_kingdom_3 ++ []
def dkwX3_kingdom_2 : List UInt8 := [180, 0, 61, 7, 27, 104, 28, 96, 46, 167, 0, 30, 28, 7, 160, 0, 14, 42, 180, 0, 61, 27]
abbrev dktX3_kingdom_2 : List UInt8 := dkwX3_kingdom_2 ++ dktX3_kingdom_3
def dkwX3_kingdom_1 : List UInt8 := [167, 0, 4, 4, 181, 0, 99, 42, 180, 0, 99, 158, 0, 5, 3, 172, 28, 7, 162, 0, 16, 42]
abbrev dktX3_kingdom_1 : List UInt8 := dkwX3_kingdom_1 ++ dktX3_kingdom_2
def dkwX3_kingdom_0 : List UInt8 := [42, 42, 27, 182, 1, 91, 153, 0, 19, 28, 133, 9, 20, 1, 94, 184, 1, 14, 153, 0, 7, 3]
abbrev dktX3_kingdom_0 : List UInt8 := dkwX3_kingdom_0 ++ dktX3_kingdom_1
theorem dksX3_kingdom_0 : cX3_kingdom.data.toList.drop 0 = dktX3_kingdom_0 := by decide +kernel
theorem dksX3_kingdom_1 : cX3_kingdom.data.toList.drop 22 = dktX3_kingdom_1 := dk_seg dksX3_kingdom_0 22 rfl rfl
theorem dksX3_kingdom_2 : cX3_kingdom.data.toList.drop 44 = dktX3_kingdom_2 := dk_seg dksX3_kingdom_1 22 rfl rfl
theorem dksX3_kingdom_3 : cX3_kingdom.data.toList.drop 66 = dktX3_kingdom_3 := dk_seg dksX3_kingdom_2 22 rfl rfl
theorem dX3_kingdom_0 : decode cX3_kingdom 0 = .ok (.aload_n 0, 1) := dk_42 (dk_at dksX3_kingdom_0 0 rfl rfl)
theorem dX3_kingdom_1 : decode cX3_kingdom 1 = .ok (.aload_n 0, 1) := dk_42 (dk_at dksX3_kingdom_0 1 rfl rfl)
theorem dX3_kingdom_2 : decode cX3_kingdom 2 = .ok (.iload_n 1, 1) := dk_27 (dk_at dksX3_kingdom_0 2 rfl rfl)
theorem dX3_kingdom_3 : decode cX3_kingdom 3 = .ok (.invokevirtual 347, 3) := dk_182 1 91 (dk_at dksX3_kingdom_0 3 rfl rfl)
theorem dX3_kingdom_6 : decode cX3_kingdom 6 = .ok (.ifCond .eq 19, 3) := dk_153 0 19 (dk_at dksX3_kingdom_0 6 rfl rfl)
theorem dX3_kingdom_9 : decode cX3_kingdom 9 = .ok (.iload_n 2, 1) := dk_28 (dk_at dksX3_kingdom_0 9 rfl rfl)
theorem dX3_kingdom_10 : decode cX3_kingdom 10 = .ok (.i2l, 1) := dk_133 (dk_at dksX3_kingdom_0 10 rfl rfl)
theorem dX3_kingdom_11 : decode cX3_kingdom 11 = .ok (.lconst 0, 1) := dk_9 (dk_at dksX3_kingdom_0 11 rfl rfl)
theorem dX3_kingdom_12 : decode cX3_kingdom 12 = .ok (.ldc2_w 350, 3) := dk_20 1 94 (dk_at dksX3_kingdom_0 12 rfl rfl)
theorem dX3_kingdom_15 : decode cX3_kingdom 15 = .ok (.invokestatic 270, 3) := dk_184 1 14 (dk_at dksX3_kingdom_0 15 rfl rfl)
theorem dX3_kingdom_18 : decode cX3_kingdom 18 = .ok (.ifCond .eq 7, 3) := dk_153 0 7 (dk_at dksX3_kingdom_0 18 rfl rfl)
theorem dX3_kingdom_21 : decode cX3_kingdom 21 = .ok (.iconst 0, 1) := dk_3 (dk_at dksX3_kingdom_0 21 rfl rfl)
theorem dX3_kingdom_22 : decode cX3_kingdom 22 = .ok (.goto 4, 3) := dk_167 0 4 (dk_at dksX3_kingdom_1 0 rfl rfl)
theorem dX3_kingdom_25 : decode cX3_kingdom 25 = .ok (.iconst 1, 1) := dk_4 (dk_at dksX3_kingdom_1 3 rfl rfl)
theorem dX3_kingdom_26 : decode cX3_kingdom 26 = .ok (.putfield 99, 3) := dk_181 0 99 (dk_at dksX3_kingdom_1 4 rfl rfl)
theorem dX3_kingdom_29 : decode cX3_kingdom 29 = .ok (.aload_n 0, 1) := dk_42 (dk_at dksX3_kingdom_1 7 rfl rfl)
theorem dX3_kingdom_30 : decode cX3_kingdom 30 = .ok (.getfield 99, 3) := dk_180 0 99 (dk_at dksX3_kingdom_1 8 rfl rfl)
theorem dX3_kingdom_33 : decode cX3_kingdom 33 = .ok (.ifCond .le 5, 3) := dk_158 0 5 (dk_at dksX3_kingdom_1 11 rfl rfl)
theorem dX3_kingdom_36 : decode cX3_kingdom 36 = .ok (.iconst 0, 1) := dk_3 (dk_at dksX3_kingdom_1 14 rfl rfl)
theorem dX3_kingdom_37 : decode cX3_kingdom 37 = .ok (.ireturn, 1) := dk_172 (dk_at dksX3_kingdom_1 15 rfl rfl)
theorem dX3_kingdom_38 : decode cX3_kingdom 38 = .ok (.iload_n 2, 1) := dk_28 (dk_at dksX3_kingdom_1 16 rfl rfl)
theorem dX3_kingdom_39 : decode cX3_kingdom 39 = .ok (.iconst 4, 1) := dk_7 (dk_at dksX3_kingdom_1 17 rfl rfl)
theorem dX3_kingdom_40 : decode cX3_kingdom 40 = .ok (.if_icmp .ge 16, 3) := dk_162 0 16 (dk_at dksX3_kingdom_1 18 rfl rfl)
theorem dX3_kingdom_43 : decode cX3_kingdom 43 = .ok (.aload_n 0, 1) := dk_42 (dk_at dksX3_kingdom_1 21 rfl rfl)
theorem dX3_kingdom_44 : decode cX3_kingdom 44 = .ok (.getfield 61, 3) := dk_180 0 61 (dk_at dksX3_kingdom_2 0 rfl rfl)
theorem dX3_kingdom_47 : decode cX3_kingdom 47 = .ok (.iconst 4, 1) := dk_7 (dk_at dksX3_kingdom_2 3 rfl rfl)
theorem dX3_kingdom_48 : decode cX3_kingdom 48 = .ok (.iload_n 1, 1) := dk_27 (dk_at dksX3_kingdom_2 4 rfl rfl)
theorem dX3_kingdom_49 : decode cX3_kingdom 49 = .ok (.imul, 1) := dk_104 (dk_at dksX3_kingdom_2 5 rfl rfl)
theorem dX3_kingdom_50 : decode cX3_kingdom 50 = .ok (.iload_n 2, 1) := dk_28 (dk_at dksX3_kingdom_2 6 rfl rfl)
theorem dX3_kingdom_51 : decode cX3_kingdom 51 = .ok (.iadd, 1) := dk_96 (dk_at dksX3_kingdom_2 7 rfl rfl)
theorem dX3_kingdom_52 : decode cX3_kingdom 52 = .ok (.iaload, 1) := dk_46 (dk_at dksX3_kingdom_2 8 rfl rfl)
theorem dX3_kingdom_53 : decode cX3_kingdom 53 = .ok (.goto 30, 3) := dk_167 0 30 (dk_at dksX3_kingdom_2 9 rfl rfl)
theorem dX3_kingdom_56 : decode cX3_kingdom 56 = .ok (.iload_n 2, 1) := dk_28 (dk_at dksX3_kingdom_2 12 rfl rfl)
theorem dX3_kingdom_57 : decode cX3_kingdom 57 = .ok (.iconst 4, 1) := dk_7 (dk_at dksX3_kingdom_2 13 rfl rfl)
theorem dX3_kingdom_58 : decode cX3_kingdom 58 = .ok (.if_icmp .ne 14, 3) := dk_160 0 14 (dk_at dksX3_kingdom_2 14 rfl rfl)
theorem dX3_kingdom_61 : decode cX3_kingdom 61 = .ok (.aload_n 0, 1) := dk_42 (dk_at dksX3_kingdom_2 17 rfl rfl)
theorem dX3_kingdom_62 : decode cX3_kingdom 62 = .ok (.getfield 61, 3) := dk_180 0 61 (dk_at dksX3_kingdom_2 18 rfl rfl)
theorem dX3_kingdom_65 : decode cX3_kingdom 65 = .ok (.iload_n 1, 1) := dk_27 (dk_at dksX3_kingdom_2 21 rfl rfl)
theorem dX3_kingdom_66 : decode cX3_kingdom 66 = .ok (.invokestatic 316, 3) := dk_184 1 60 (dk_at dksX3_kingdom_3 0 rfl rfl)
theorem dX3_kingdom_69 : decode cX3_kingdom 69 = .ok (.goto 14, 3) := dk_167 0 14 (dk_at dksX3_kingdom_3 3 rfl rfl)
theorem dX3_kingdom_72 : decode cX3_kingdom 72 = .ok (.aload_n 0, 1) := dk_42 (dk_at dksX3_kingdom_3 6 rfl rfl)
theorem dX3_kingdom_73 : decode cX3_kingdom 73 = .ok (.getfield 61, 3) := dk_180 0 61 (dk_at dksX3_kingdom_3 7 rfl rfl)
theorem dX3_kingdom_76 : decode cX3_kingdom 76 = .ok (.bipush 16, 2) := dk_16 16 (dk_at dksX3_kingdom_3 10 rfl rfl)
theorem dX3_kingdom_78 : decode cX3_kingdom 78 = .ok (.iaload, 1) := dk_46 (dk_at dksX3_kingdom_3 12 rfl rfl)
theorem dX3_kingdom_79 : decode cX3_kingdom 79 = .ok (.iload_n 1, 1) := dk_27 (dk_at dksX3_kingdom_3 13 rfl rfl)
theorem dX3_kingdom_80 : decode cX3_kingdom 80 = .ok (.ishr, 1) := dk_122 (dk_at dksX3_kingdom_3 14 rfl rfl)
theorem dX3_kingdom_81 : decode cX3_kingdom 81 = .ok (.iconst 1, 1) := dk_4 (dk_at dksX3_kingdom_3 15 rfl rfl)
theorem dX3_kingdom_82 : decode cX3_kingdom 82 = .ok (.iand, 1) := dk_126 (dk_at dksX3_kingdom_3 16 rfl rfl)
theorem dX3_kingdom_83 : decode cX3_kingdom 83 = .ok (.ireturn, 1) := dk_172 (dk_at dksX3_kingdom_3 17 rfl rfl)
abbrev cX3_isKingdom : ByteArray := prog_14_method_41_code
def yX3_isKingdom : MethodName := ⟨RX3, "isKingdom", "(I)Z"⟩
def dkwX3_isKingdom_0 : List UInt8 := [27, 155, 0, 15, 27, 42, 180, 1, 35, 162, 0, 7, 4, 167, 0, 4, 3, 172]
abbrev dktX3_isKingdom_0 : List UInt8 := dkwX3_isKingdom_0 ++ []
theorem dksX3_isKingdom_0 : cX3_isKingdom.data.toList.drop 0 = dktX3_isKingdom_0 := by decide +kernel
theorem dX3_isKingdom_0 : decode cX3_isKingdom 0 = .ok (.iload_n 1, 1) := dk_27 (dk_at dksX3_isKingdom_0 0 rfl rfl)
theorem dX3_isKingdom_1 : decode cX3_isKingdom 1 = .ok (.ifCond .lt 15, 3) := dk_155 0 15 (dk_at dksX3_isKingdom_0 1 rfl rfl)
theorem dX3_isKingdom_4 : decode cX3_isKingdom 4 = .ok (.iload_n 1, 1) := dk_27 (dk_at dksX3_isKingdom_0 4 rfl rfl)
theorem dX3_isKingdom_5 : decode cX3_isKingdom 5 = .ok (.aload_n 0, 1) := dk_42 (dk_at dksX3_isKingdom_0 5 rfl rfl)
theorem dX3_isKingdom_6 : decode cX3_isKingdom 6 = .ok (.getfield 291, 3) := dk_180 1 35 (dk_at dksX3_isKingdom_0 6 rfl rfl)
theorem dX3_isKingdom_9 : decode cX3_isKingdom 9 = .ok (.if_icmp .ge 7, 3) := dk_162 0 7 (dk_at dksX3_isKingdom_0 9 rfl rfl)
theorem dX3_isKingdom_12 : decode cX3_isKingdom 12 = .ok (.iconst 1, 1) := dk_4 (dk_at dksX3_isKingdom_0 12 rfl rfl)
theorem dX3_isKingdom_13 : decode cX3_isKingdom 13 = .ok (.goto 4, 3) := dk_167 0 4 (dk_at dksX3_isKingdom_0 13 rfl rfl)
theorem dX3_isKingdom_16 : decode cX3_isKingdom 16 = .ok (.iconst 0, 1) := dk_3 (dk_at dksX3_isKingdom_0 16 rfl rfl)
theorem dX3_isKingdom_17 : decode cX3_isKingdom 17 = .ok (.ireturn, 1) := dk_172 (dk_at dksX3_isKingdom_0 17 rfl rfl)
abbrev cX3_pagesOf : ByteArray := prog_14_method_43_code
def yX3_pagesOf : MethodName := ⟨RX3, "pagesOf", "([II)I"⟩
def dkwX3_pagesOf_1 : List UInt8 := [160, 0, 7, 4, 167, 0, 4, 3, 96, 61, 132, 3, 1, 167, 255, 225, 28, 172]
abbrev dktX3_pagesOf_1 : List UInt8 := dkwX3_pagesOf_1 ++ []
def dkwX3_pagesOf_0 : List UInt8 := [3, 61, 3, 62, 29, 42, 16, 19, 46, 162, 0, 29, 28, 42, 16, 21, 6, 29, 104, 96, 46, 27]
abbrev dktX3_pagesOf_0 : List UInt8 := dkwX3_pagesOf_0 ++ dktX3_pagesOf_1
theorem dksX3_pagesOf_0 : cX3_pagesOf.data.toList.drop 0 = dktX3_pagesOf_0 := by decide +kernel
theorem dksX3_pagesOf_1 : cX3_pagesOf.data.toList.drop 22 = dktX3_pagesOf_1 := dk_seg dksX3_pagesOf_0 22 rfl rfl
theorem dX3_pagesOf_0 : decode cX3_pagesOf 0 = .ok (.iconst 0, 1) := dk_3 (dk_at dksX3_pagesOf_0 0 rfl rfl)
theorem dX3_pagesOf_1 : decode cX3_pagesOf 1 = .ok (.istore_n 2, 1) := dk_61 (dk_at dksX3_pagesOf_0 1 rfl rfl)
theorem dX3_pagesOf_2 : decode cX3_pagesOf 2 = .ok (.iconst 0, 1) := dk_3 (dk_at dksX3_pagesOf_0 2 rfl rfl)
theorem dX3_pagesOf_3 : decode cX3_pagesOf 3 = .ok (.istore_n 3, 1) := dk_62 (dk_at dksX3_pagesOf_0 3 rfl rfl)
theorem dX3_pagesOf_4 : decode cX3_pagesOf 4 = .ok (.iload_n 3, 1) := dk_29 (dk_at dksX3_pagesOf_0 4 rfl rfl)
theorem dX3_pagesOf_5 : decode cX3_pagesOf 5 = .ok (.aload_n 0, 1) := dk_42 (dk_at dksX3_pagesOf_0 5 rfl rfl)
theorem dX3_pagesOf_6 : decode cX3_pagesOf 6 = .ok (.bipush 19, 2) := dk_16 19 (dk_at dksX3_pagesOf_0 6 rfl rfl)
theorem dX3_pagesOf_8 : decode cX3_pagesOf 8 = .ok (.iaload, 1) := dk_46 (dk_at dksX3_pagesOf_0 8 rfl rfl)
theorem dX3_pagesOf_9 : decode cX3_pagesOf 9 = .ok (.if_icmp .ge 29, 3) := dk_162 0 29 (dk_at dksX3_pagesOf_0 9 rfl rfl)
theorem dX3_pagesOf_12 : decode cX3_pagesOf 12 = .ok (.iload_n 2, 1) := dk_28 (dk_at dksX3_pagesOf_0 12 rfl rfl)
theorem dX3_pagesOf_13 : decode cX3_pagesOf 13 = .ok (.aload_n 0, 1) := dk_42 (dk_at dksX3_pagesOf_0 13 rfl rfl)
theorem dX3_pagesOf_14 : decode cX3_pagesOf 14 = .ok (.bipush 21, 2) := dk_16 21 (dk_at dksX3_pagesOf_0 14 rfl rfl)
theorem dX3_pagesOf_16 : decode cX3_pagesOf 16 = .ok (.iconst 3, 1) := dk_6 (dk_at dksX3_pagesOf_0 16 rfl rfl)
theorem dX3_pagesOf_17 : decode cX3_pagesOf 17 = .ok (.iload_n 3, 1) := dk_29 (dk_at dksX3_pagesOf_0 17 rfl rfl)
theorem dX3_pagesOf_18 : decode cX3_pagesOf 18 = .ok (.imul, 1) := dk_104 (dk_at dksX3_pagesOf_0 18 rfl rfl)
theorem dX3_pagesOf_19 : decode cX3_pagesOf 19 = .ok (.iadd, 1) := dk_96 (dk_at dksX3_pagesOf_0 19 rfl rfl)
theorem dX3_pagesOf_20 : decode cX3_pagesOf 20 = .ok (.iaload, 1) := dk_46 (dk_at dksX3_pagesOf_0 20 rfl rfl)
theorem dX3_pagesOf_21 : decode cX3_pagesOf 21 = .ok (.iload_n 1, 1) := dk_27 (dk_at dksX3_pagesOf_0 21 rfl rfl)
theorem dX3_pagesOf_22 : decode cX3_pagesOf 22 = .ok (.if_icmp .ne 7, 3) := dk_160 0 7 (dk_at dksX3_pagesOf_1 0 rfl rfl)
theorem dX3_pagesOf_25 : decode cX3_pagesOf 25 = .ok (.iconst 1, 1) := dk_4 (dk_at dksX3_pagesOf_1 3 rfl rfl)
theorem dX3_pagesOf_26 : decode cX3_pagesOf 26 = .ok (.goto 4, 3) := dk_167 0 4 (dk_at dksX3_pagesOf_1 4 rfl rfl)
theorem dX3_pagesOf_29 : decode cX3_pagesOf 29 = .ok (.iconst 0, 1) := dk_3 (dk_at dksX3_pagesOf_1 7 rfl rfl)
theorem dX3_pagesOf_30 : decode cX3_pagesOf 30 = .ok (.iadd, 1) := dk_96 (dk_at dksX3_pagesOf_1 8 rfl rfl)
theorem dX3_pagesOf_31 : decode cX3_pagesOf 31 = .ok (.istore_n 2, 1) := dk_61 (dk_at dksX3_pagesOf_1 9 rfl rfl)
theorem dX3_pagesOf_32 : decode cX3_pagesOf 32 = .ok (.iinc 3 1, 3) := dk_132 3 1 (dk_at dksX3_pagesOf_1 10 rfl rfl)
theorem dX3_pagesOf_35 : decode cX3_pagesOf 35 = .ok (.goto (-31), 3) := dk_167 255 225 (dk_at dksX3_pagesOf_1 13 rfl rfl)
theorem dX3_pagesOf_38 : decode cX3_pagesOf 38 = .ok (.iload_n 2, 1) := dk_28 (dk_at dksX3_pagesOf_1 16 rfl rfl)
theorem dX3_pagesOf_39 : decode cX3_pagesOf 39 = .ok (.ireturn, 1) := dk_172 (dk_at dksX3_pagesOf_1 17 rfl rfl)
abbrev cX3_field : ByteArray := prog_14_method_52_code
def yX3_field : MethodName := ⟨RX3, "field", "(II)I"⟩
def dkwX3_field_1 : List UInt8 := [153, 0, 16, 42, 180, 0, 49, 7, 27, 104, 28, 96, 46, 167, 0, 4, 2, 172]
abbrev dktX3_field_1 : List UInt8 := dkwX3_field_1 ++ []
def dkwX3_field_0 : List UInt8 := [42, 3, 181, 0, 99, 42, 27, 182, 1, 96, 153, 0, 28, 28, 133, 9, 20, 1, 99, 184, 1, 14]
abbrev dktX3_field_0 : List UInt8 := dkwX3_field_0 ++ dktX3_field_1
theorem dksX3_field_0 : cX3_field.data.toList.drop 0 = dktX3_field_0 := by decide +kernel
theorem dksX3_field_1 : cX3_field.data.toList.drop 22 = dktX3_field_1 := dk_seg dksX3_field_0 22 rfl rfl
theorem dX3_field_0 : decode cX3_field 0 = .ok (.aload_n 0, 1) := dk_42 (dk_at dksX3_field_0 0 rfl rfl)
theorem dX3_field_1 : decode cX3_field 1 = .ok (.iconst 0, 1) := dk_3 (dk_at dksX3_field_0 1 rfl rfl)
theorem dX3_field_2 : decode cX3_field 2 = .ok (.putfield 99, 3) := dk_181 0 99 (dk_at dksX3_field_0 2 rfl rfl)
theorem dX3_field_5 : decode cX3_field 5 = .ok (.aload_n 0, 1) := dk_42 (dk_at dksX3_field_0 5 rfl rfl)
theorem dX3_field_6 : decode cX3_field 6 = .ok (.iload_n 1, 1) := dk_27 (dk_at dksX3_field_0 6 rfl rfl)
theorem dX3_field_7 : decode cX3_field 7 = .ok (.invokevirtual 352, 3) := dk_182 1 96 (dk_at dksX3_field_0 7 rfl rfl)
theorem dX3_field_10 : decode cX3_field 10 = .ok (.ifCond .eq 28, 3) := dk_153 0 28 (dk_at dksX3_field_0 10 rfl rfl)
theorem dX3_field_13 : decode cX3_field 13 = .ok (.iload_n 2, 1) := dk_28 (dk_at dksX3_field_0 13 rfl rfl)
theorem dX3_field_14 : decode cX3_field 14 = .ok (.i2l, 1) := dk_133 (dk_at dksX3_field_0 14 rfl rfl)
theorem dX3_field_15 : decode cX3_field 15 = .ok (.lconst 0, 1) := dk_9 (dk_at dksX3_field_0 15 rfl rfl)
theorem dX3_field_16 : decode cX3_field 16 = .ok (.ldc2_w 355, 3) := dk_20 1 99 (dk_at dksX3_field_0 16 rfl rfl)
theorem dX3_field_19 : decode cX3_field 19 = .ok (.invokestatic 270, 3) := dk_184 1 14 (dk_at dksX3_field_0 19 rfl rfl)
theorem dX3_field_22 : decode cX3_field 22 = .ok (.ifCond .eq 16, 3) := dk_153 0 16 (dk_at dksX3_field_1 0 rfl rfl)
theorem dX3_field_25 : decode cX3_field 25 = .ok (.aload_n 0, 1) := dk_42 (dk_at dksX3_field_1 3 rfl rfl)
theorem dX3_field_26 : decode cX3_field 26 = .ok (.getfield 49, 3) := dk_180 0 49 (dk_at dksX3_field_1 4 rfl rfl)
theorem dX3_field_29 : decode cX3_field 29 = .ok (.iconst 4, 1) := dk_7 (dk_at dksX3_field_1 7 rfl rfl)
theorem dX3_field_30 : decode cX3_field 30 = .ok (.iload_n 1, 1) := dk_27 (dk_at dksX3_field_1 8 rfl rfl)
theorem dX3_field_31 : decode cX3_field 31 = .ok (.imul, 1) := dk_104 (dk_at dksX3_field_1 9 rfl rfl)
theorem dX3_field_32 : decode cX3_field 32 = .ok (.iload_n 2, 1) := dk_28 (dk_at dksX3_field_1 10 rfl rfl)
theorem dX3_field_33 : decode cX3_field 33 = .ok (.iadd, 1) := dk_96 (dk_at dksX3_field_1 11 rfl rfl)
theorem dX3_field_34 : decode cX3_field 34 = .ok (.iaload, 1) := dk_46 (dk_at dksX3_field_1 12 rfl rfl)
theorem dX3_field_35 : decode cX3_field 35 = .ok (.goto 4, 3) := dk_167 0 4 (dk_at dksX3_field_1 13 rfl rfl)
theorem dX3_field_38 : decode cX3_field 38 = .ok (.iconst (-1), 1) := dk_2 (dk_at dksX3_field_1 16 rfl rfl)
theorem dX3_field_39 : decode cX3_field 39 = .ok (.ireturn, 1) := dk_172 (dk_at dksX3_field_1 17 rfl rfl)
abbrev cX3_isField : ByteArray := prog_14_method_42_code
def yX3_isField : MethodName := ⟨RX3, "isField", "(I)Z"⟩
def dkwX3_isField_0 : List UInt8 := [27, 155, 0, 15, 27, 42, 180, 1, 38, 162, 0, 7, 4, 167, 0, 4, 3, 172]
abbrev dktX3_isField_0 : List UInt8 := dkwX3_isField_0 ++ []
theorem dksX3_isField_0 : cX3_isField.data.toList.drop 0 = dktX3_isField_0 := by decide +kernel
theorem dX3_isField_0 : decode cX3_isField 0 = .ok (.iload_n 1, 1) := dk_27 (dk_at dksX3_isField_0 0 rfl rfl)
theorem dX3_isField_1 : decode cX3_isField 1 = .ok (.ifCond .lt 15, 3) := dk_155 0 15 (dk_at dksX3_isField_0 1 rfl rfl)
theorem dX3_isField_4 : decode cX3_isField 4 = .ok (.iload_n 1, 1) := dk_27 (dk_at dksX3_isField_0 4 rfl rfl)
theorem dX3_isField_5 : decode cX3_isField 5 = .ok (.aload_n 0, 1) := dk_42 (dk_at dksX3_isField_0 5 rfl rfl)
theorem dX3_isField_6 : decode cX3_isField 6 = .ok (.getfield 294, 3) := dk_180 1 38 (dk_at dksX3_isField_0 6 rfl rfl)
theorem dX3_isField_9 : decode cX3_isField 9 = .ok (.if_icmp .ge 7, 3) := dk_162 0 7 (dk_at dksX3_isField_0 9 rfl rfl)
theorem dX3_isField_12 : decode cX3_isField 12 = .ok (.iconst 1, 1) := dk_4 (dk_at dksX3_isField_0 12 rfl rfl)
theorem dX3_isField_13 : decode cX3_isField 13 = .ok (.goto 4, 3) := dk_167 0 4 (dk_at dksX3_isField_0 13 rfl rfl)
theorem dX3_isField_16 : decode cX3_isField 16 = .ok (.iconst 0, 1) := dk_3 (dk_at dksX3_isField_0 16 rfl rfl)
theorem dX3_isField_17 : decode cX3_isField 17 = .ok (.ireturn, 1) := dk_172 (dk_at dksX3_isField_0 17 rfl rfl)
abbrev cX3_law : ByteArray := prog_14_method_53_code
def yX3_law : MethodName := ⟨RX3, "law", "(I)Z"⟩
def dkwX3_law_1 : List UInt8 := [154, 0, 5, 3, 172, 42, 27, 181, 0, 67, 4, 172]
abbrev dktX3_law_1 : List UInt8 := dkwX3_law_1 ++ []
def dkwX3_law_0 : List UInt8 := [42, 3, 181, 0, 99, 27, 2, 159, 0, 21, 27, 133, 9, 42, 180, 1, 27, 4, 100, 133, 184, 1, 14]
abbrev dktX3_law_0 : List UInt8 := dkwX3_law_0 ++ dktX3_law_1
theorem dksX3_law_0 : cX3_law.data.toList.drop 0 = dktX3_law_0 := by decide +kernel
theorem dksX3_law_1 : cX3_law.data.toList.drop 23 = dktX3_law_1 := dk_seg dksX3_law_0 23 rfl rfl
theorem dX3_law_0 : decode cX3_law 0 = .ok (.aload_n 0, 1) := dk_42 (dk_at dksX3_law_0 0 rfl rfl)
theorem dX3_law_1 : decode cX3_law 1 = .ok (.iconst 0, 1) := dk_3 (dk_at dksX3_law_0 1 rfl rfl)
theorem dX3_law_2 : decode cX3_law 2 = .ok (.putfield 99, 3) := dk_181 0 99 (dk_at dksX3_law_0 2 rfl rfl)
theorem dX3_law_5 : decode cX3_law 5 = .ok (.iload_n 1, 1) := dk_27 (dk_at dksX3_law_0 5 rfl rfl)
theorem dX3_law_6 : decode cX3_law 6 = .ok (.iconst (-1), 1) := dk_2 (dk_at dksX3_law_0 6 rfl rfl)
theorem dX3_law_7 : decode cX3_law 7 = .ok (.if_icmp .eq 21, 3) := dk_159 0 21 (dk_at dksX3_law_0 7 rfl rfl)
theorem dX3_law_10 : decode cX3_law 10 = .ok (.iload_n 1, 1) := dk_27 (dk_at dksX3_law_0 10 rfl rfl)
theorem dX3_law_11 : decode cX3_law 11 = .ok (.i2l, 1) := dk_133 (dk_at dksX3_law_0 11 rfl rfl)
theorem dX3_law_12 : decode cX3_law 12 = .ok (.lconst 0, 1) := dk_9 (dk_at dksX3_law_0 12 rfl rfl)
theorem dX3_law_13 : decode cX3_law 13 = .ok (.aload_n 0, 1) := dk_42 (dk_at dksX3_law_0 13 rfl rfl)
theorem dX3_law_14 : decode cX3_law 14 = .ok (.getfield 283, 3) := dk_180 1 27 (dk_at dksX3_law_0 14 rfl rfl)
theorem dX3_law_17 : decode cX3_law 17 = .ok (.iconst 1, 1) := dk_4 (dk_at dksX3_law_0 17 rfl rfl)
theorem dX3_law_18 : decode cX3_law 18 = .ok (.isub, 1) := dk_100 (dk_at dksX3_law_0 18 rfl rfl)
theorem dX3_law_19 : decode cX3_law 19 = .ok (.i2l, 1) := dk_133 (dk_at dksX3_law_0 19 rfl rfl)
theorem dX3_law_20 : decode cX3_law 20 = .ok (.invokestatic 270, 3) := dk_184 1 14 (dk_at dksX3_law_0 20 rfl rfl)
theorem dX3_law_23 : decode cX3_law 23 = .ok (.ifCond .ne 5, 3) := dk_154 0 5 (dk_at dksX3_law_1 0 rfl rfl)
theorem dX3_law_26 : decode cX3_law 26 = .ok (.iconst 0, 1) := dk_3 (dk_at dksX3_law_1 3 rfl rfl)
theorem dX3_law_27 : decode cX3_law 27 = .ok (.ireturn, 1) := dk_172 (dk_at dksX3_law_1 4 rfl rfl)
theorem dX3_law_28 : decode cX3_law 28 = .ok (.aload_n 0, 1) := dk_42 (dk_at dksX3_law_1 5 rfl rfl)
theorem dX3_law_29 : decode cX3_law 29 = .ok (.iload_n 1, 1) := dk_27 (dk_at dksX3_law_1 6 rfl rfl)
theorem dX3_law_30 : decode cX3_law 30 = .ok (.putfield 67, 3) := dk_181 0 67 (dk_at dksX3_law_1 7 rfl rfl)
theorem dX3_law_33 : decode cX3_law 33 = .ok (.iconst 1, 1) := dk_4 (dk_at dksX3_law_1 10 rfl rfl)
theorem dX3_law_34 : decode cX3_law 34 = .ok (.ireturn, 1) := dk_172 (dk_at dksX3_law_1 11 rfl rfl)
abbrev cX3_intrigue : ByteArray := prog_14_method_54_code
def yX3_intrigue : MethodName := ⟨RX3, "intrigue", "(I)Z"⟩
def dkwX3_intrigue_1 : List UInt8 := [160, 0, 5, 3, 172, 42, 27, 181, 0, 71, 4, 172]
abbrev dktX3_intrigue_1 : List UInt8 := dkwX3_intrigue_1 ++ []
def dkwX3_intrigue_0 : List UInt8 := [42, 3, 181, 0, 99, 27, 133, 9, 20, 1, 101, 184, 1, 14, 153, 0, 11, 27, 42, 180, 0, 71]
abbrev dktX3_intrigue_0 : List UInt8 := dkwX3_intrigue_0 ++ dktX3_intrigue_1
theorem dksX3_intrigue_0 : cX3_intrigue.data.toList.drop 0 = dktX3_intrigue_0 := by decide +kernel
theorem dksX3_intrigue_1 : cX3_intrigue.data.toList.drop 22 = dktX3_intrigue_1 := dk_seg dksX3_intrigue_0 22 rfl rfl
theorem dX3_intrigue_0 : decode cX3_intrigue 0 = .ok (.aload_n 0, 1) := dk_42 (dk_at dksX3_intrigue_0 0 rfl rfl)
theorem dX3_intrigue_1 : decode cX3_intrigue 1 = .ok (.iconst 0, 1) := dk_3 (dk_at dksX3_intrigue_0 1 rfl rfl)
theorem dX3_intrigue_2 : decode cX3_intrigue 2 = .ok (.putfield 99, 3) := dk_181 0 99 (dk_at dksX3_intrigue_0 2 rfl rfl)
theorem dX3_intrigue_5 : decode cX3_intrigue 5 = .ok (.iload_n 1, 1) := dk_27 (dk_at dksX3_intrigue_0 5 rfl rfl)
theorem dX3_intrigue_6 : decode cX3_intrigue 6 = .ok (.i2l, 1) := dk_133 (dk_at dksX3_intrigue_0 6 rfl rfl)
theorem dX3_intrigue_7 : decode cX3_intrigue 7 = .ok (.lconst 0, 1) := dk_9 (dk_at dksX3_intrigue_0 7 rfl rfl)
theorem dX3_intrigue_8 : decode cX3_intrigue 8 = .ok (.ldc2_w 357, 3) := dk_20 1 101 (dk_at dksX3_intrigue_0 8 rfl rfl)
theorem dX3_intrigue_11 : decode cX3_intrigue 11 = .ok (.invokestatic 270, 3) := dk_184 1 14 (dk_at dksX3_intrigue_0 11 rfl rfl)
theorem dX3_intrigue_14 : decode cX3_intrigue 14 = .ok (.ifCond .eq 11, 3) := dk_153 0 11 (dk_at dksX3_intrigue_0 14 rfl rfl)
theorem dX3_intrigue_17 : decode cX3_intrigue 17 = .ok (.iload_n 1, 1) := dk_27 (dk_at dksX3_intrigue_0 17 rfl rfl)
theorem dX3_intrigue_18 : decode cX3_intrigue 18 = .ok (.aload_n 0, 1) := dk_42 (dk_at dksX3_intrigue_0 18 rfl rfl)
theorem dX3_intrigue_19 : decode cX3_intrigue 19 = .ok (.getfield 71, 3) := dk_180 0 71 (dk_at dksX3_intrigue_0 19 rfl rfl)
theorem dX3_intrigue_22 : decode cX3_intrigue 22 = .ok (.if_icmp .ne 5, 3) := dk_160 0 5 (dk_at dksX3_intrigue_1 0 rfl rfl)
theorem dX3_intrigue_25 : decode cX3_intrigue 25 = .ok (.iconst 0, 1) := dk_3 (dk_at dksX3_intrigue_1 3 rfl rfl)
theorem dX3_intrigue_26 : decode cX3_intrigue 26 = .ok (.ireturn, 1) := dk_172 (dk_at dksX3_intrigue_1 4 rfl rfl)
theorem dX3_intrigue_27 : decode cX3_intrigue 27 = .ok (.aload_n 0, 1) := dk_42 (dk_at dksX3_intrigue_1 5 rfl rfl)
theorem dX3_intrigue_28 : decode cX3_intrigue 28 = .ok (.iload_n 1, 1) := dk_27 (dk_at dksX3_intrigue_1 6 rfl rfl)
theorem dX3_intrigue_29 : decode cX3_intrigue 29 = .ok (.putfield 71, 3) := dk_181 0 71 (dk_at dksX3_intrigue_1 7 rfl rfl)
theorem dX3_intrigue_32 : decode cX3_intrigue 32 = .ok (.iconst 1, 1) := dk_4 (dk_at dksX3_intrigue_1 10 rfl rfl)
theorem dX3_intrigue_33 : decode cX3_intrigue 33 = .ok (.ireturn, 1) := dk_172 (dk_at dksX3_intrigue_1 11 rfl rfl)
abbrev cX3_year : ByteArray := prog_14_method_56_code
def yX3_year : MethodName := ⟨RX3, "year", "()I"⟩
def dkwX3_year_1 : List UInt8 := [160, 0, 6, 16, 254, 172, 42, 182, 1, 103, 42, 42, 180, 0, 61, 182, 1, 106, 172]
abbrev dktX3_year_1 : List UInt8 := dkwX3_year_1 ++ []
def dkwX3_year_0 : List UInt8 := [42, 3, 181, 0, 99, 42, 180, 1, 35, 153, 0, 16, 42, 180, 0, 61, 16, 18, 46, 17, 3, 231]
abbrev dktX3_year_0 : List UInt8 := dkwX3_year_0 ++ dktX3_year_1
theorem dksX3_year_0 : cX3_year.data.toList.drop 0 = dktX3_year_0 := by decide +kernel
theorem dksX3_year_1 : cX3_year.data.toList.drop 22 = dktX3_year_1 := dk_seg dksX3_year_0 22 rfl rfl
theorem dX3_year_0 : decode cX3_year 0 = .ok (.aload_n 0, 1) := dk_42 (dk_at dksX3_year_0 0 rfl rfl)
theorem dX3_year_1 : decode cX3_year 1 = .ok (.iconst 0, 1) := dk_3 (dk_at dksX3_year_0 1 rfl rfl)
theorem dX3_year_2 : decode cX3_year 2 = .ok (.putfield 99, 3) := dk_181 0 99 (dk_at dksX3_year_0 2 rfl rfl)
theorem dX3_year_5 : decode cX3_year 5 = .ok (.aload_n 0, 1) := dk_42 (dk_at dksX3_year_0 5 rfl rfl)
theorem dX3_year_6 : decode cX3_year 6 = .ok (.getfield 291, 3) := dk_180 1 35 (dk_at dksX3_year_0 6 rfl rfl)
theorem dX3_year_9 : decode cX3_year 9 = .ok (.ifCond .eq 16, 3) := dk_153 0 16 (dk_at dksX3_year_0 9 rfl rfl)
theorem dX3_year_12 : decode cX3_year 12 = .ok (.aload_n 0, 1) := dk_42 (dk_at dksX3_year_0 12 rfl rfl)
theorem dX3_year_13 : decode cX3_year 13 = .ok (.getfield 61, 3) := dk_180 0 61 (dk_at dksX3_year_0 13 rfl rfl)
theorem dX3_year_16 : decode cX3_year 16 = .ok (.bipush 18, 2) := dk_16 18 (dk_at dksX3_year_0 16 rfl rfl)
theorem dX3_year_18 : decode cX3_year 18 = .ok (.iaload, 1) := dk_46 (dk_at dksX3_year_0 18 rfl rfl)
theorem dX3_year_19 : decode cX3_year 19 = .ok (.sipush 999, 3) := dk_17 3 231 (dk_at dksX3_year_0 19 rfl rfl)
theorem dX3_year_22 : decode cX3_year 22 = .ok (.if_icmp .ne 6, 3) := dk_160 0 6 (dk_at dksX3_year_1 0 rfl rfl)
theorem dX3_year_25 : decode cX3_year 25 = .ok (.bipush (-2), 2) := dk_16 254 (dk_at dksX3_year_1 3 rfl rfl)
theorem dX3_year_27 : decode cX3_year 27 = .ok (.ireturn, 1) := dk_172 (dk_at dksX3_year_1 5 rfl rfl)
theorem dX3_year_28 : decode cX3_year 28 = .ok (.aload_n 0, 1) := dk_42 (dk_at dksX3_year_1 6 rfl rfl)
theorem dX3_year_29 : decode cX3_year 29 = .ok (.invokevirtual 359, 3) := dk_182 1 103 (dk_at dksX3_year_1 7 rfl rfl)
theorem dX3_year_32 : decode cX3_year 32 = .ok (.aload_n 0, 1) := dk_42 (dk_at dksX3_year_1 10 rfl rfl)
theorem dX3_year_33 : decode cX3_year 33 = .ok (.aload_n 0, 1) := dk_42 (dk_at dksX3_year_1 11 rfl rfl)
theorem dX3_year_34 : decode cX3_year 34 = .ok (.getfield 61, 3) := dk_180 0 61 (dk_at dksX3_year_1 12 rfl rfl)
theorem dX3_year_37 : decode cX3_year 37 = .ok (.invokevirtual 362, 3) := dk_182 1 106 (dk_at dksX3_year_1 15 rfl rfl)
theorem dX3_year_40 : decode cX3_year 40 = .ok (.ireturn, 1) := dk_172 (dk_at dksX3_year_1 18 rfl rfl)
abbrev cX3_remember : ByteArray := prog_14_method_55_code
def yX3_remember : MethodName := ⟨RX3, "remember", "()V"⟩
def dkwX3_remember_4 : List UInt8 := [181, 1, 44, 177]
abbrev dktX3_remember_4 : List UInt8 := dkwX3_remember_4 ++ []
def dkwX3_remember_3 : List UInt8 := [27, 96, 42, 180, 0, 61, 27, 46, 79, 132, 1, 1, 167, 255, 225, 42, 89, 180, 1, 44, 4, 96]
abbrev dktX3_remember_3 : List UInt8 := dkwX3_remember_3 ++ dktX3_remember_4
def dkwX3_remember_2 : List UInt8 := [181, 1, 44, 3, 60, 27, 17, 1, 35, 162, 0, 30, 42, 180, 0, 81, 17, 1, 35, 42, 180, 1, 44, 104]
abbrev dktX3_remember_2 : List UInt8 := dkwX3_remember_2 ++ dktX3_remember_3
def dkwX3_remember_1 : List UInt8 := [180, 0, 81, 27, 17, 1, 35, 96, 46, 79, 132, 1, 1, 167, 255, 230, 42, 89, 180, 1, 44, 4, 100]
abbrev dktX3_remember_1 : List UInt8 := dkwX3_remember_1 ++ dktX3_remember_2
def dkwX3_remember_0 : List UInt8 := [42, 180, 1, 44, 16, 40, 160, 0, 44, 3, 60, 27, 17, 44, 85, 162, 0, 25, 42, 180, 0, 81, 27, 42]
abbrev dktX3_remember_0 : List UInt8 := dkwX3_remember_0 ++ dktX3_remember_1
theorem dksX3_remember_0 : cX3_remember.data.toList.drop 0 = dktX3_remember_0 := by decide +kernel
theorem dksX3_remember_1 : cX3_remember.data.toList.drop 24 = dktX3_remember_1 := dk_seg dksX3_remember_0 24 rfl rfl
theorem dksX3_remember_2 : cX3_remember.data.toList.drop 47 = dktX3_remember_2 := dk_seg dksX3_remember_1 23 rfl rfl
theorem dksX3_remember_3 : cX3_remember.data.toList.drop 71 = dktX3_remember_3 := dk_seg dksX3_remember_2 24 rfl rfl
theorem dksX3_remember_4 : cX3_remember.data.toList.drop 93 = dktX3_remember_4 := dk_seg dksX3_remember_3 22 rfl rfl
theorem dX3_remember_0 : decode cX3_remember 0 = .ok (.aload_n 0, 1) := dk_42 (dk_at dksX3_remember_0 0 rfl rfl)
theorem dX3_remember_1 : decode cX3_remember 1 = .ok (.getfield 300, 3) := dk_180 1 44 (dk_at dksX3_remember_0 1 rfl rfl)
theorem dX3_remember_4 : decode cX3_remember 4 = .ok (.bipush 40, 2) := dk_16 40 (dk_at dksX3_remember_0 4 rfl rfl)
theorem dX3_remember_6 : decode cX3_remember 6 = .ok (.if_icmp .ne 44, 3) := dk_160 0 44 (dk_at dksX3_remember_0 6 rfl rfl)
theorem dX3_remember_9 : decode cX3_remember 9 = .ok (.iconst 0, 1) := dk_3 (dk_at dksX3_remember_0 9 rfl rfl)
theorem dX3_remember_10 : decode cX3_remember 10 = .ok (.istore_n 1, 1) := dk_60 (dk_at dksX3_remember_0 10 rfl rfl)
theorem dX3_remember_11 : decode cX3_remember 11 = .ok (.iload_n 1, 1) := dk_27 (dk_at dksX3_remember_0 11 rfl rfl)
theorem dX3_remember_12 : decode cX3_remember 12 = .ok (.sipush 11349, 3) := dk_17 44 85 (dk_at dksX3_remember_0 12 rfl rfl)
theorem dX3_remember_15 : decode cX3_remember 15 = .ok (.if_icmp .ge 25, 3) := dk_162 0 25 (dk_at dksX3_remember_0 15 rfl rfl)
theorem dX3_remember_18 : decode cX3_remember 18 = .ok (.aload_n 0, 1) := dk_42 (dk_at dksX3_remember_0 18 rfl rfl)
theorem dX3_remember_19 : decode cX3_remember 19 = .ok (.getfield 81, 3) := dk_180 0 81 (dk_at dksX3_remember_0 19 rfl rfl)
theorem dX3_remember_22 : decode cX3_remember 22 = .ok (.iload_n 1, 1) := dk_27 (dk_at dksX3_remember_0 22 rfl rfl)
theorem dX3_remember_23 : decode cX3_remember 23 = .ok (.aload_n 0, 1) := dk_42 (dk_at dksX3_remember_0 23 rfl rfl)
theorem dX3_remember_24 : decode cX3_remember 24 = .ok (.getfield 81, 3) := dk_180 0 81 (dk_at dksX3_remember_1 0 rfl rfl)
theorem dX3_remember_27 : decode cX3_remember 27 = .ok (.iload_n 1, 1) := dk_27 (dk_at dksX3_remember_1 3 rfl rfl)
theorem dX3_remember_28 : decode cX3_remember 28 = .ok (.sipush 291, 3) := dk_17 1 35 (dk_at dksX3_remember_1 4 rfl rfl)
theorem dX3_remember_31 : decode cX3_remember 31 = .ok (.iadd, 1) := dk_96 (dk_at dksX3_remember_1 7 rfl rfl)
theorem dX3_remember_32 : decode cX3_remember 32 = .ok (.iaload, 1) := dk_46 (dk_at dksX3_remember_1 8 rfl rfl)
theorem dX3_remember_33 : decode cX3_remember 33 = .ok (.iastore, 1) := dk_79 (dk_at dksX3_remember_1 9 rfl rfl)
theorem dX3_remember_34 : decode cX3_remember 34 = .ok (.iinc 1 1, 3) := dk_132 1 1 (dk_at dksX3_remember_1 10 rfl rfl)
theorem dX3_remember_37 : decode cX3_remember 37 = .ok (.goto (-26), 3) := dk_167 255 230 (dk_at dksX3_remember_1 13 rfl rfl)
theorem dX3_remember_40 : decode cX3_remember 40 = .ok (.aload_n 0, 1) := dk_42 (dk_at dksX3_remember_1 16 rfl rfl)
theorem dX3_remember_41 : decode cX3_remember 41 = .ok (.dup, 1) := dk_89 (dk_at dksX3_remember_1 17 rfl rfl)
theorem dX3_remember_42 : decode cX3_remember 42 = .ok (.getfield 300, 3) := dk_180 1 44 (dk_at dksX3_remember_1 18 rfl rfl)
theorem dX3_remember_45 : decode cX3_remember 45 = .ok (.iconst 1, 1) := dk_4 (dk_at dksX3_remember_1 21 rfl rfl)
theorem dX3_remember_46 : decode cX3_remember 46 = .ok (.isub, 1) := dk_100 (dk_at dksX3_remember_1 22 rfl rfl)
theorem dX3_remember_47 : decode cX3_remember 47 = .ok (.putfield 300, 3) := dk_181 1 44 (dk_at dksX3_remember_2 0 rfl rfl)
theorem dX3_remember_50 : decode cX3_remember 50 = .ok (.iconst 0, 1) := dk_3 (dk_at dksX3_remember_2 3 rfl rfl)
theorem dX3_remember_51 : decode cX3_remember 51 = .ok (.istore_n 1, 1) := dk_60 (dk_at dksX3_remember_2 4 rfl rfl)
theorem dX3_remember_52 : decode cX3_remember 52 = .ok (.iload_n 1, 1) := dk_27 (dk_at dksX3_remember_2 5 rfl rfl)
theorem dX3_remember_53 : decode cX3_remember 53 = .ok (.sipush 291, 3) := dk_17 1 35 (dk_at dksX3_remember_2 6 rfl rfl)
theorem dX3_remember_56 : decode cX3_remember 56 = .ok (.if_icmp .ge 30, 3) := dk_162 0 30 (dk_at dksX3_remember_2 9 rfl rfl)
theorem dX3_remember_59 : decode cX3_remember 59 = .ok (.aload_n 0, 1) := dk_42 (dk_at dksX3_remember_2 12 rfl rfl)
theorem dX3_remember_60 : decode cX3_remember 60 = .ok (.getfield 81, 3) := dk_180 0 81 (dk_at dksX3_remember_2 13 rfl rfl)
theorem dX3_remember_63 : decode cX3_remember 63 = .ok (.sipush 291, 3) := dk_17 1 35 (dk_at dksX3_remember_2 16 rfl rfl)
theorem dX3_remember_66 : decode cX3_remember 66 = .ok (.aload_n 0, 1) := dk_42 (dk_at dksX3_remember_2 19 rfl rfl)
theorem dX3_remember_67 : decode cX3_remember 67 = .ok (.getfield 300, 3) := dk_180 1 44 (dk_at dksX3_remember_2 20 rfl rfl)
theorem dX3_remember_70 : decode cX3_remember 70 = .ok (.imul, 1) := dk_104 (dk_at dksX3_remember_2 23 rfl rfl)
theorem dX3_remember_71 : decode cX3_remember 71 = .ok (.iload_n 1, 1) := dk_27 (dk_at dksX3_remember_3 0 rfl rfl)
theorem dX3_remember_72 : decode cX3_remember 72 = .ok (.iadd, 1) := dk_96 (dk_at dksX3_remember_3 1 rfl rfl)
theorem dX3_remember_73 : decode cX3_remember 73 = .ok (.aload_n 0, 1) := dk_42 (dk_at dksX3_remember_3 2 rfl rfl)
theorem dX3_remember_74 : decode cX3_remember 74 = .ok (.getfield 61, 3) := dk_180 0 61 (dk_at dksX3_remember_3 3 rfl rfl)
theorem dX3_remember_77 : decode cX3_remember 77 = .ok (.iload_n 1, 1) := dk_27 (dk_at dksX3_remember_3 6 rfl rfl)
theorem dX3_remember_78 : decode cX3_remember 78 = .ok (.iaload, 1) := dk_46 (dk_at dksX3_remember_3 7 rfl rfl)
theorem dX3_remember_79 : decode cX3_remember 79 = .ok (.iastore, 1) := dk_79 (dk_at dksX3_remember_3 8 rfl rfl)
theorem dX3_remember_80 : decode cX3_remember 80 = .ok (.iinc 1 1, 3) := dk_132 1 1 (dk_at dksX3_remember_3 9 rfl rfl)
theorem dX3_remember_83 : decode cX3_remember 83 = .ok (.goto (-31), 3) := dk_167 255 225 (dk_at dksX3_remember_3 12 rfl rfl)
theorem dX3_remember_86 : decode cX3_remember 86 = .ok (.aload_n 0, 1) := dk_42 (dk_at dksX3_remember_3 15 rfl rfl)
theorem dX3_remember_87 : decode cX3_remember 87 = .ok (.dup, 1) := dk_89 (dk_at dksX3_remember_3 16 rfl rfl)
theorem dX3_remember_88 : decode cX3_remember 88 = .ok (.getfield 300, 3) := dk_180 1 44 (dk_at dksX3_remember_3 17 rfl rfl)
theorem dX3_remember_91 : decode cX3_remember 91 = .ok (.iconst 1, 1) := dk_4 (dk_at dksX3_remember_3 20 rfl rfl)
theorem dX3_remember_92 : decode cX3_remember 92 = .ok (.iadd, 1) := dk_96 (dk_at dksX3_remember_3 21 rfl rfl)
theorem dX3_remember_93 : decode cX3_remember 93 = .ok (.putfield 300, 3) := dk_181 1 44 (dk_at dksX3_remember_4 0 rfl rfl)
theorem dX3_remember_96 : decode cX3_remember 96 = .ok (.return_, 1) := dk_177 (dk_at dksX3_remember_4 3 rfl rfl)
abbrev cX3_goYear : ByteArray := prog_14_method_50_code
def yX3_goYear : MethodName := ⟨RX3, "goYear", "([I)I"⟩
def dkwX3_goYear_11 : List UInt8 := [4, 96, 21, 4, 79, 43, 21, 6, 5, 96, 21, 5, 79, 43, 16, 110, 92, 46, 4, 96, 79, 21, 4, 172]
abbrev dktX3_goYear_11 : List UInt8 := dkwX3_goYear_11 ++ []
def dkwX3_goYear_10 : List UInt8 := [92, 46, 4, 100, 79, 16, 111, 6, 43, 16, 110, 46, 104, 96, 54, 6, 43, 21, 6, 28, 79, 43, 21, 6]
abbrev dktX3_goYear_10 : List UInt8 := dkwX3_goYear_10 ++ dktX3_goYear_11
def dkwX3_goYear_9 : List UInt8 := [16, 110, 21, 6, 96, 43, 16, 110, 21, 6, 96, 6, 96, 46, 79, 132, 6, 1, 167, 255, 229, 43, 16, 110]
abbrev dktX3_goYear_9 : List UInt8 := dkwX3_goYear_9 ++ dktX3_goYear_10
def dkwX3_goYear_8 : List UInt8 := [4, 96, 79, 43, 16, 110, 46, 16, 60, 160, 0, 44, 4, 54, 6, 21, 6, 17, 0, 177, 163, 0, 25, 43]
abbrev dktX3_goYear_8 : List UInt8 := dkwX3_goYear_8 ++ dktX3_goYear_9
def dkwX3_goYear_7 : List UInt8 := [182, 1, 87, 43, 16, 17, 17, 3, 231, 43, 16, 17, 46, 4, 96, 184, 1, 68, 79, 43, 16, 18, 92, 46]
abbrev dktX3_goYear_7 : List UInt8 := dkwX3_goYear_7 ++ dktX3_goYear_8
def dkwX3_goYear_6 : List UInt8 := [28, 104, 6, 96, 46, 43, 7, 21, 4, 104, 4, 96, 46, 96, 54, 5, 42, 43, 28, 21, 4, 21, 5]
abbrev dktX3_goYear_6 : List UInt8 := dkwX3_goYear_6 ++ dktX3_goYear_7
def dkwX3_goYear_5 : List UInt8 := [104, 5, 96, 16, 9, 43, 7, 21, 4, 104, 5, 96, 46, 4, 96, 184, 1, 68, 79, 42, 180, 0, 49, 7]
abbrev dktX3_goYear_5 : List UInt8 := dkwX3_goYear_5 ++ dktX3_goYear_6
def dkwX3_goYear_4 : List UInt8 := [3, 43, 7, 21, 4, 104, 3, 96, 46, 42, 180, 0, 37, 3, 46, 100, 184, 1, 70, 79, 43, 7, 21, 4]
abbrev dktX3_goYear_4 : List UInt8 := dkwX3_goYear_4 ++ dktX3_goYear_5
def dkwX3_goYear_3 : List UInt8 := [17, 3, 231, 43, 7, 21, 6, 104, 6, 96, 46, 4, 96, 184, 1, 68, 79, 43, 7, 21, 4, 104, 3, 96]
abbrev dktX3_goYear_3 : List UInt8 := dkwX3_goYear_3 ++ dktX3_goYear_4
def dkwX3_goYear_2 : List UInt8 := [159, 0, 136, 42, 180, 0, 49, 7, 28, 104, 29, 96, 46, 54, 6, 43, 7, 21, 6, 104, 6, 96]
abbrev dktX3_goYear_2 : List UInt8 := dkwX3_goYear_2 ++ dktX3_goYear_3
def dkwX3_goYear_1 : List UInt8 := [167, 0, 15, 42, 180, 0, 49, 7, 28, 104, 4, 96, 29, 100, 46, 54, 4, 2, 54, 5, 29, 2]
abbrev dktX3_goYear_1 : List UInt8 := dkwX3_goYear_1 ++ dktX3_goYear_2
def dkwX3_goYear_0 : List UInt8 := [43, 16, 18, 46, 42, 180, 1, 38, 112, 61, 42, 43, 28, 182, 1, 84, 62, 29, 2, 160, 0, 7, 2]
abbrev dktX3_goYear_0 : List UInt8 := dkwX3_goYear_0 ++ dktX3_goYear_1
theorem dksX3_goYear_0 : cX3_goYear.data.toList.drop 0 = dktX3_goYear_0 := by decide +kernel
theorem dksX3_goYear_1 : cX3_goYear.data.toList.drop 23 = dktX3_goYear_1 := dk_seg dksX3_goYear_0 23 rfl rfl
theorem dksX3_goYear_2 : cX3_goYear.data.toList.drop 45 = dktX3_goYear_2 := dk_seg dksX3_goYear_1 22 rfl rfl
theorem dksX3_goYear_3 : cX3_goYear.data.toList.drop 67 = dktX3_goYear_3 := dk_seg dksX3_goYear_2 22 rfl rfl
theorem dksX3_goYear_4 : cX3_goYear.data.toList.drop 91 = dktX3_goYear_4 := dk_seg dksX3_goYear_3 24 rfl rfl
theorem dksX3_goYear_5 : cX3_goYear.data.toList.drop 115 = dktX3_goYear_5 := dk_seg dksX3_goYear_4 24 rfl rfl
theorem dksX3_goYear_6 : cX3_goYear.data.toList.drop 139 = dktX3_goYear_6 := dk_seg dksX3_goYear_5 24 rfl rfl
theorem dksX3_goYear_7 : cX3_goYear.data.toList.drop 162 = dktX3_goYear_7 := dk_seg dksX3_goYear_6 23 rfl rfl
theorem dksX3_goYear_8 : cX3_goYear.data.toList.drop 186 = dktX3_goYear_8 := dk_seg dksX3_goYear_7 24 rfl rfl
theorem dksX3_goYear_9 : cX3_goYear.data.toList.drop 210 = dktX3_goYear_9 := dk_seg dksX3_goYear_8 24 rfl rfl
theorem dksX3_goYear_10 : cX3_goYear.data.toList.drop 234 = dktX3_goYear_10 := dk_seg dksX3_goYear_9 24 rfl rfl
theorem dksX3_goYear_11 : cX3_goYear.data.toList.drop 258 = dktX3_goYear_11 := dk_seg dksX3_goYear_10 24 rfl rfl
theorem dX3_goYear_0 : decode cX3_goYear 0 = .ok (.aload_n 1, 1) := dk_43 (dk_at dksX3_goYear_0 0 rfl rfl)
theorem dX3_goYear_1 : decode cX3_goYear 1 = .ok (.bipush 18, 2) := dk_16 18 (dk_at dksX3_goYear_0 1 rfl rfl)
theorem dX3_goYear_3 : decode cX3_goYear 3 = .ok (.iaload, 1) := dk_46 (dk_at dksX3_goYear_0 3 rfl rfl)
theorem dX3_goYear_4 : decode cX3_goYear 4 = .ok (.aload_n 0, 1) := dk_42 (dk_at dksX3_goYear_0 4 rfl rfl)
theorem dX3_goYear_5 : decode cX3_goYear 5 = .ok (.getfield 294, 3) := dk_180 1 38 (dk_at dksX3_goYear_0 5 rfl rfl)
theorem dX3_goYear_8 : decode cX3_goYear 8 = .ok (.irem, 1) := dk_112 (dk_at dksX3_goYear_0 8 rfl rfl)
theorem dX3_goYear_9 : decode cX3_goYear 9 = .ok (.istore_n 2, 1) := dk_61 (dk_at dksX3_goYear_0 9 rfl rfl)
theorem dX3_goYear_10 : decode cX3_goYear 10 = .ok (.aload_n 0, 1) := dk_42 (dk_at dksX3_goYear_0 10 rfl rfl)
theorem dX3_goYear_11 : decode cX3_goYear 11 = .ok (.aload_n 1, 1) := dk_43 (dk_at dksX3_goYear_0 11 rfl rfl)
theorem dX3_goYear_12 : decode cX3_goYear 12 = .ok (.iload_n 2, 1) := dk_28 (dk_at dksX3_goYear_0 12 rfl rfl)
theorem dX3_goYear_13 : decode cX3_goYear 13 = .ok (.invokevirtual 340, 3) := dk_182 1 84 (dk_at dksX3_goYear_0 13 rfl rfl)
theorem dX3_goYear_16 : decode cX3_goYear 16 = .ok (.istore_n 3, 1) := dk_62 (dk_at dksX3_goYear_0 16 rfl rfl)
theorem dX3_goYear_17 : decode cX3_goYear 17 = .ok (.iload_n 3, 1) := dk_29 (dk_at dksX3_goYear_0 17 rfl rfl)
theorem dX3_goYear_18 : decode cX3_goYear 18 = .ok (.iconst (-1), 1) := dk_2 (dk_at dksX3_goYear_0 18 rfl rfl)
theorem dX3_goYear_19 : decode cX3_goYear 19 = .ok (.if_icmp .ne 7, 3) := dk_160 0 7 (dk_at dksX3_goYear_0 19 rfl rfl)
theorem dX3_goYear_22 : decode cX3_goYear 22 = .ok (.iconst (-1), 1) := dk_2 (dk_at dksX3_goYear_0 22 rfl rfl)
theorem dX3_goYear_23 : decode cX3_goYear 23 = .ok (.goto 15, 3) := dk_167 0 15 (dk_at dksX3_goYear_1 0 rfl rfl)
theorem dX3_goYear_26 : decode cX3_goYear 26 = .ok (.aload_n 0, 1) := dk_42 (dk_at dksX3_goYear_1 3 rfl rfl)
theorem dX3_goYear_27 : decode cX3_goYear 27 = .ok (.getfield 49, 3) := dk_180 0 49 (dk_at dksX3_goYear_1 4 rfl rfl)
theorem dX3_goYear_30 : decode cX3_goYear 30 = .ok (.iconst 4, 1) := dk_7 (dk_at dksX3_goYear_1 7 rfl rfl)
theorem dX3_goYear_31 : decode cX3_goYear 31 = .ok (.iload_n 2, 1) := dk_28 (dk_at dksX3_goYear_1 8 rfl rfl)
theorem dX3_goYear_32 : decode cX3_goYear 32 = .ok (.imul, 1) := dk_104 (dk_at dksX3_goYear_1 9 rfl rfl)
theorem dX3_goYear_33 : decode cX3_goYear 33 = .ok (.iconst 1, 1) := dk_4 (dk_at dksX3_goYear_1 10 rfl rfl)
theorem dX3_goYear_34 : decode cX3_goYear 34 = .ok (.iadd, 1) := dk_96 (dk_at dksX3_goYear_1 11 rfl rfl)
theorem dX3_goYear_35 : decode cX3_goYear 35 = .ok (.iload_n 3, 1) := dk_29 (dk_at dksX3_goYear_1 12 rfl rfl)
theorem dX3_goYear_36 : decode cX3_goYear 36 = .ok (.isub, 1) := dk_100 (dk_at dksX3_goYear_1 13 rfl rfl)
theorem dX3_goYear_37 : decode cX3_goYear 37 = .ok (.iaload, 1) := dk_46 (dk_at dksX3_goYear_1 14 rfl rfl)
theorem dX3_goYear_38 : decode cX3_goYear 38 = .ok (.istore 4, 2) := dk_54 4 (dk_at dksX3_goYear_1 15 rfl rfl)
theorem dX3_goYear_40 : decode cX3_goYear 40 = .ok (.iconst (-1), 1) := dk_2 (dk_at dksX3_goYear_1 17 rfl rfl)
theorem dX3_goYear_41 : decode cX3_goYear 41 = .ok (.istore 5, 2) := dk_54 5 (dk_at dksX3_goYear_1 18 rfl rfl)
theorem dX3_goYear_43 : decode cX3_goYear 43 = .ok (.iload_n 3, 1) := dk_29 (dk_at dksX3_goYear_1 20 rfl rfl)
theorem dX3_goYear_44 : decode cX3_goYear 44 = .ok (.iconst (-1), 1) := dk_2 (dk_at dksX3_goYear_1 21 rfl rfl)
theorem dX3_goYear_45 : decode cX3_goYear 45 = .ok (.if_icmp .eq 136, 3) := dk_159 0 136 (dk_at dksX3_goYear_2 0 rfl rfl)
theorem dX3_goYear_48 : decode cX3_goYear 48 = .ok (.aload_n 0, 1) := dk_42 (dk_at dksX3_goYear_2 3 rfl rfl)
theorem dX3_goYear_49 : decode cX3_goYear 49 = .ok (.getfield 49, 3) := dk_180 0 49 (dk_at dksX3_goYear_2 4 rfl rfl)
theorem dX3_goYear_52 : decode cX3_goYear 52 = .ok (.iconst 4, 1) := dk_7 (dk_at dksX3_goYear_2 7 rfl rfl)
theorem dX3_goYear_53 : decode cX3_goYear 53 = .ok (.iload_n 2, 1) := dk_28 (dk_at dksX3_goYear_2 8 rfl rfl)
theorem dX3_goYear_54 : decode cX3_goYear 54 = .ok (.imul, 1) := dk_104 (dk_at dksX3_goYear_2 9 rfl rfl)
theorem dX3_goYear_55 : decode cX3_goYear 55 = .ok (.iload_n 3, 1) := dk_29 (dk_at dksX3_goYear_2 10 rfl rfl)
theorem dX3_goYear_56 : decode cX3_goYear 56 = .ok (.iadd, 1) := dk_96 (dk_at dksX3_goYear_2 11 rfl rfl)
theorem dX3_goYear_57 : decode cX3_goYear 57 = .ok (.iaload, 1) := dk_46 (dk_at dksX3_goYear_2 12 rfl rfl)
theorem dX3_goYear_58 : decode cX3_goYear 58 = .ok (.istore 6, 2) := dk_54 6 (dk_at dksX3_goYear_2 13 rfl rfl)
theorem dX3_goYear_60 : decode cX3_goYear 60 = .ok (.aload_n 1, 1) := dk_43 (dk_at dksX3_goYear_2 15 rfl rfl)
theorem dX3_goYear_61 : decode cX3_goYear 61 = .ok (.iconst 4, 1) := dk_7 (dk_at dksX3_goYear_2 16 rfl rfl)
theorem dX3_goYear_62 : decode cX3_goYear 62 = .ok (.iload 6, 2) := dk_21 6 (dk_at dksX3_goYear_2 17 rfl rfl)
theorem dX3_goYear_64 : decode cX3_goYear 64 = .ok (.imul, 1) := dk_104 (dk_at dksX3_goYear_2 19 rfl rfl)
theorem dX3_goYear_65 : decode cX3_goYear 65 = .ok (.iconst 3, 1) := dk_6 (dk_at dksX3_goYear_2 20 rfl rfl)
theorem dX3_goYear_66 : decode cX3_goYear 66 = .ok (.iadd, 1) := dk_96 (dk_at dksX3_goYear_2 21 rfl rfl)
theorem dX3_goYear_67 : decode cX3_goYear 67 = .ok (.sipush 999, 3) := dk_17 3 231 (dk_at dksX3_goYear_3 0 rfl rfl)
theorem dX3_goYear_70 : decode cX3_goYear 70 = .ok (.aload_n 1, 1) := dk_43 (dk_at dksX3_goYear_3 3 rfl rfl)
theorem dX3_goYear_71 : decode cX3_goYear 71 = .ok (.iconst 4, 1) := dk_7 (dk_at dksX3_goYear_3 4 rfl rfl)
theorem dX3_goYear_72 : decode cX3_goYear 72 = .ok (.iload 6, 2) := dk_21 6 (dk_at dksX3_goYear_3 5 rfl rfl)
theorem dX3_goYear_74 : decode cX3_goYear 74 = .ok (.imul, 1) := dk_104 (dk_at dksX3_goYear_3 7 rfl rfl)
theorem dX3_goYear_75 : decode cX3_goYear 75 = .ok (.iconst 3, 1) := dk_6 (dk_at dksX3_goYear_3 8 rfl rfl)
theorem dX3_goYear_76 : decode cX3_goYear 76 = .ok (.iadd, 1) := dk_96 (dk_at dksX3_goYear_3 9 rfl rfl)
theorem dX3_goYear_77 : decode cX3_goYear 77 = .ok (.iaload, 1) := dk_46 (dk_at dksX3_goYear_3 10 rfl rfl)
theorem dX3_goYear_78 : decode cX3_goYear 78 = .ok (.iconst 1, 1) := dk_4 (dk_at dksX3_goYear_3 11 rfl rfl)
theorem dX3_goYear_79 : decode cX3_goYear 79 = .ok (.iadd, 1) := dk_96 (dk_at dksX3_goYear_3 12 rfl rfl)
theorem dX3_goYear_80 : decode cX3_goYear 80 = .ok (.invokestatic 324, 3) := dk_184 1 68 (dk_at dksX3_goYear_3 13 rfl rfl)
theorem dX3_goYear_83 : decode cX3_goYear 83 = .ok (.iastore, 1) := dk_79 (dk_at dksX3_goYear_3 16 rfl rfl)
theorem dX3_goYear_84 : decode cX3_goYear 84 = .ok (.aload_n 1, 1) := dk_43 (dk_at dksX3_goYear_3 17 rfl rfl)
theorem dX3_goYear_85 : decode cX3_goYear 85 = .ok (.iconst 4, 1) := dk_7 (dk_at dksX3_goYear_3 18 rfl rfl)
theorem dX3_goYear_86 : decode cX3_goYear 86 = .ok (.iload 4, 2) := dk_21 4 (dk_at dksX3_goYear_3 19 rfl rfl)
theorem dX3_goYear_88 : decode cX3_goYear 88 = .ok (.imul, 1) := dk_104 (dk_at dksX3_goYear_3 21 rfl rfl)
theorem dX3_goYear_89 : decode cX3_goYear 89 = .ok (.iconst 0, 1) := dk_3 (dk_at dksX3_goYear_3 22 rfl rfl)
theorem dX3_goYear_90 : decode cX3_goYear 90 = .ok (.iadd, 1) := dk_96 (dk_at dksX3_goYear_3 23 rfl rfl)
theorem dX3_goYear_91 : decode cX3_goYear 91 = .ok (.iconst 0, 1) := dk_3 (dk_at dksX3_goYear_4 0 rfl rfl)
theorem dX3_goYear_92 : decode cX3_goYear 92 = .ok (.aload_n 1, 1) := dk_43 (dk_at dksX3_goYear_4 1 rfl rfl)
theorem dX3_goYear_93 : decode cX3_goYear 93 = .ok (.iconst 4, 1) := dk_7 (dk_at dksX3_goYear_4 2 rfl rfl)
theorem dX3_goYear_94 : decode cX3_goYear 94 = .ok (.iload 4, 2) := dk_21 4 (dk_at dksX3_goYear_4 3 rfl rfl)
theorem dX3_goYear_96 : decode cX3_goYear 96 = .ok (.imul, 1) := dk_104 (dk_at dksX3_goYear_4 5 rfl rfl)
theorem dX3_goYear_97 : decode cX3_goYear 97 = .ok (.iconst 0, 1) := dk_3 (dk_at dksX3_goYear_4 6 rfl rfl)
theorem dX3_goYear_98 : decode cX3_goYear 98 = .ok (.iadd, 1) := dk_96 (dk_at dksX3_goYear_4 7 rfl rfl)
theorem dX3_goYear_99 : decode cX3_goYear 99 = .ok (.iaload, 1) := dk_46 (dk_at dksX3_goYear_4 8 rfl rfl)
theorem dX3_goYear_100 : decode cX3_goYear 100 = .ok (.aload_n 0, 1) := dk_42 (dk_at dksX3_goYear_4 9 rfl rfl)
theorem dX3_goYear_101 : decode cX3_goYear 101 = .ok (.getfield 37, 3) := dk_180 0 37 (dk_at dksX3_goYear_4 10 rfl rfl)
theorem dX3_goYear_104 : decode cX3_goYear 104 = .ok (.iconst 0, 1) := dk_3 (dk_at dksX3_goYear_4 13 rfl rfl)
theorem dX3_goYear_105 : decode cX3_goYear 105 = .ok (.iaload, 1) := dk_46 (dk_at dksX3_goYear_4 14 rfl rfl)
theorem dX3_goYear_106 : decode cX3_goYear 106 = .ok (.isub, 1) := dk_100 (dk_at dksX3_goYear_4 15 rfl rfl)
theorem dX3_goYear_107 : decode cX3_goYear 107 = .ok (.invokestatic 326, 3) := dk_184 1 70 (dk_at dksX3_goYear_4 16 rfl rfl)
theorem dX3_goYear_110 : decode cX3_goYear 110 = .ok (.iastore, 1) := dk_79 (dk_at dksX3_goYear_4 19 rfl rfl)
theorem dX3_goYear_111 : decode cX3_goYear 111 = .ok (.aload_n 1, 1) := dk_43 (dk_at dksX3_goYear_4 20 rfl rfl)
theorem dX3_goYear_112 : decode cX3_goYear 112 = .ok (.iconst 4, 1) := dk_7 (dk_at dksX3_goYear_4 21 rfl rfl)
theorem dX3_goYear_113 : decode cX3_goYear 113 = .ok (.iload 4, 2) := dk_21 4 (dk_at dksX3_goYear_4 22 rfl rfl)
theorem dX3_goYear_115 : decode cX3_goYear 115 = .ok (.imul, 1) := dk_104 (dk_at dksX3_goYear_5 0 rfl rfl)
theorem dX3_goYear_116 : decode cX3_goYear 116 = .ok (.iconst 2, 1) := dk_5 (dk_at dksX3_goYear_5 1 rfl rfl)
theorem dX3_goYear_117 : decode cX3_goYear 117 = .ok (.iadd, 1) := dk_96 (dk_at dksX3_goYear_5 2 rfl rfl)
theorem dX3_goYear_118 : decode cX3_goYear 118 = .ok (.bipush 9, 2) := dk_16 9 (dk_at dksX3_goYear_5 3 rfl rfl)
theorem dX3_goYear_120 : decode cX3_goYear 120 = .ok (.aload_n 1, 1) := dk_43 (dk_at dksX3_goYear_5 5 rfl rfl)
theorem dX3_goYear_121 : decode cX3_goYear 121 = .ok (.iconst 4, 1) := dk_7 (dk_at dksX3_goYear_5 6 rfl rfl)
theorem dX3_goYear_122 : decode cX3_goYear 122 = .ok (.iload 4, 2) := dk_21 4 (dk_at dksX3_goYear_5 7 rfl rfl)
theorem dX3_goYear_124 : decode cX3_goYear 124 = .ok (.imul, 1) := dk_104 (dk_at dksX3_goYear_5 9 rfl rfl)
theorem dX3_goYear_125 : decode cX3_goYear 125 = .ok (.iconst 2, 1) := dk_5 (dk_at dksX3_goYear_5 10 rfl rfl)
theorem dX3_goYear_126 : decode cX3_goYear 126 = .ok (.iadd, 1) := dk_96 (dk_at dksX3_goYear_5 11 rfl rfl)
theorem dX3_goYear_127 : decode cX3_goYear 127 = .ok (.iaload, 1) := dk_46 (dk_at dksX3_goYear_5 12 rfl rfl)
theorem dX3_goYear_128 : decode cX3_goYear 128 = .ok (.iconst 1, 1) := dk_4 (dk_at dksX3_goYear_5 13 rfl rfl)
theorem dX3_goYear_129 : decode cX3_goYear 129 = .ok (.iadd, 1) := dk_96 (dk_at dksX3_goYear_5 14 rfl rfl)
theorem dX3_goYear_130 : decode cX3_goYear 130 = .ok (.invokestatic 324, 3) := dk_184 1 68 (dk_at dksX3_goYear_5 15 rfl rfl)
theorem dX3_goYear_133 : decode cX3_goYear 133 = .ok (.iastore, 1) := dk_79 (dk_at dksX3_goYear_5 18 rfl rfl)
theorem dX3_goYear_134 : decode cX3_goYear 134 = .ok (.aload_n 0, 1) := dk_42 (dk_at dksX3_goYear_5 19 rfl rfl)
theorem dX3_goYear_135 : decode cX3_goYear 135 = .ok (.getfield 49, 3) := dk_180 0 49 (dk_at dksX3_goYear_5 20 rfl rfl)
theorem dX3_goYear_138 : decode cX3_goYear 138 = .ok (.iconst 4, 1) := dk_7 (dk_at dksX3_goYear_5 23 rfl rfl)
theorem dX3_goYear_139 : decode cX3_goYear 139 = .ok (.iload_n 2, 1) := dk_28 (dk_at dksX3_goYear_6 0 rfl rfl)
theorem dX3_goYear_140 : decode cX3_goYear 140 = .ok (.imul, 1) := dk_104 (dk_at dksX3_goYear_6 1 rfl rfl)
theorem dX3_goYear_141 : decode cX3_goYear 141 = .ok (.iconst 3, 1) := dk_6 (dk_at dksX3_goYear_6 2 rfl rfl)
theorem dX3_goYear_142 : decode cX3_goYear 142 = .ok (.iadd, 1) := dk_96 (dk_at dksX3_goYear_6 3 rfl rfl)
theorem dX3_goYear_143 : decode cX3_goYear 143 = .ok (.iaload, 1) := dk_46 (dk_at dksX3_goYear_6 4 rfl rfl)
theorem dX3_goYear_144 : decode cX3_goYear 144 = .ok (.aload_n 1, 1) := dk_43 (dk_at dksX3_goYear_6 5 rfl rfl)
theorem dX3_goYear_145 : decode cX3_goYear 145 = .ok (.iconst 4, 1) := dk_7 (dk_at dksX3_goYear_6 6 rfl rfl)
theorem dX3_goYear_146 : decode cX3_goYear 146 = .ok (.iload 4, 2) := dk_21 4 (dk_at dksX3_goYear_6 7 rfl rfl)
theorem dX3_goYear_148 : decode cX3_goYear 148 = .ok (.imul, 1) := dk_104 (dk_at dksX3_goYear_6 9 rfl rfl)
theorem dX3_goYear_149 : decode cX3_goYear 149 = .ok (.iconst 1, 1) := dk_4 (dk_at dksX3_goYear_6 10 rfl rfl)
theorem dX3_goYear_150 : decode cX3_goYear 150 = .ok (.iadd, 1) := dk_96 (dk_at dksX3_goYear_6 11 rfl rfl)
theorem dX3_goYear_151 : decode cX3_goYear 151 = .ok (.iaload, 1) := dk_46 (dk_at dksX3_goYear_6 12 rfl rfl)
theorem dX3_goYear_152 : decode cX3_goYear 152 = .ok (.iadd, 1) := dk_96 (dk_at dksX3_goYear_6 13 rfl rfl)
theorem dX3_goYear_153 : decode cX3_goYear 153 = .ok (.istore 5, 2) := dk_54 5 (dk_at dksX3_goYear_6 14 rfl rfl)
theorem dX3_goYear_155 : decode cX3_goYear 155 = .ok (.aload_n 0, 1) := dk_42 (dk_at dksX3_goYear_6 16 rfl rfl)
theorem dX3_goYear_156 : decode cX3_goYear 156 = .ok (.aload_n 1, 1) := dk_43 (dk_at dksX3_goYear_6 17 rfl rfl)
theorem dX3_goYear_157 : decode cX3_goYear 157 = .ok (.iload_n 2, 1) := dk_28 (dk_at dksX3_goYear_6 18 rfl rfl)
theorem dX3_goYear_158 : decode cX3_goYear 158 = .ok (.iload 4, 2) := dk_21 4 (dk_at dksX3_goYear_6 19 rfl rfl)
theorem dX3_goYear_160 : decode cX3_goYear 160 = .ok (.iload 5, 2) := dk_21 5 (dk_at dksX3_goYear_6 21 rfl rfl)
theorem dX3_goYear_162 : decode cX3_goYear 162 = .ok (.invokevirtual 343, 3) := dk_182 1 87 (dk_at dksX3_goYear_7 0 rfl rfl)
theorem dX3_goYear_165 : decode cX3_goYear 165 = .ok (.aload_n 1, 1) := dk_43 (dk_at dksX3_goYear_7 3 rfl rfl)
theorem dX3_goYear_166 : decode cX3_goYear 166 = .ok (.bipush 17, 2) := dk_16 17 (dk_at dksX3_goYear_7 4 rfl rfl)
theorem dX3_goYear_168 : decode cX3_goYear 168 = .ok (.sipush 999, 3) := dk_17 3 231 (dk_at dksX3_goYear_7 6 rfl rfl)
theorem dX3_goYear_171 : decode cX3_goYear 171 = .ok (.aload_n 1, 1) := dk_43 (dk_at dksX3_goYear_7 9 rfl rfl)
theorem dX3_goYear_172 : decode cX3_goYear 172 = .ok (.bipush 17, 2) := dk_16 17 (dk_at dksX3_goYear_7 10 rfl rfl)
theorem dX3_goYear_174 : decode cX3_goYear 174 = .ok (.iaload, 1) := dk_46 (dk_at dksX3_goYear_7 12 rfl rfl)
theorem dX3_goYear_175 : decode cX3_goYear 175 = .ok (.iconst 1, 1) := dk_4 (dk_at dksX3_goYear_7 13 rfl rfl)
theorem dX3_goYear_176 : decode cX3_goYear 176 = .ok (.iadd, 1) := dk_96 (dk_at dksX3_goYear_7 14 rfl rfl)
theorem dX3_goYear_177 : decode cX3_goYear 177 = .ok (.invokestatic 324, 3) := dk_184 1 68 (dk_at dksX3_goYear_7 15 rfl rfl)
theorem dX3_goYear_180 : decode cX3_goYear 180 = .ok (.iastore, 1) := dk_79 (dk_at dksX3_goYear_7 18 rfl rfl)
theorem dX3_goYear_181 : decode cX3_goYear 181 = .ok (.aload_n 1, 1) := dk_43 (dk_at dksX3_goYear_7 19 rfl rfl)
theorem dX3_goYear_182 : decode cX3_goYear 182 = .ok (.bipush 18, 2) := dk_16 18 (dk_at dksX3_goYear_7 20 rfl rfl)
theorem dX3_goYear_184 : decode cX3_goYear 184 = .ok (.dup2, 1) := dk_92 (dk_at dksX3_goYear_7 22 rfl rfl)
theorem dX3_goYear_185 : decode cX3_goYear 185 = .ok (.iaload, 1) := dk_46 (dk_at dksX3_goYear_7 23 rfl rfl)
theorem dX3_goYear_186 : decode cX3_goYear 186 = .ok (.iconst 1, 1) := dk_4 (dk_at dksX3_goYear_8 0 rfl rfl)
theorem dX3_goYear_187 : decode cX3_goYear 187 = .ok (.iadd, 1) := dk_96 (dk_at dksX3_goYear_8 1 rfl rfl)
theorem dX3_goYear_188 : decode cX3_goYear 188 = .ok (.iastore, 1) := dk_79 (dk_at dksX3_goYear_8 2 rfl rfl)
theorem dX3_goYear_189 : decode cX3_goYear 189 = .ok (.aload_n 1, 1) := dk_43 (dk_at dksX3_goYear_8 3 rfl rfl)
theorem dX3_goYear_190 : decode cX3_goYear 190 = .ok (.bipush 110, 2) := dk_16 110 (dk_at dksX3_goYear_8 4 rfl rfl)
theorem dX3_goYear_192 : decode cX3_goYear 192 = .ok (.iaload, 1) := dk_46 (dk_at dksX3_goYear_8 6 rfl rfl)
theorem dX3_goYear_193 : decode cX3_goYear 193 = .ok (.bipush 60, 2) := dk_16 60 (dk_at dksX3_goYear_8 7 rfl rfl)
theorem dX3_goYear_195 : decode cX3_goYear 195 = .ok (.if_icmp .ne 44, 3) := dk_160 0 44 (dk_at dksX3_goYear_8 9 rfl rfl)
theorem dX3_goYear_198 : decode cX3_goYear 198 = .ok (.iconst 1, 1) := dk_4 (dk_at dksX3_goYear_8 12 rfl rfl)
theorem dX3_goYear_199 : decode cX3_goYear 199 = .ok (.istore 6, 2) := dk_54 6 (dk_at dksX3_goYear_8 13 rfl rfl)
theorem dX3_goYear_201 : decode cX3_goYear 201 = .ok (.iload 6, 2) := dk_21 6 (dk_at dksX3_goYear_8 15 rfl rfl)
theorem dX3_goYear_203 : decode cX3_goYear 203 = .ok (.sipush 177, 3) := dk_17 0 177 (dk_at dksX3_goYear_8 17 rfl rfl)
theorem dX3_goYear_206 : decode cX3_goYear 206 = .ok (.if_icmp .gt 25, 3) := dk_163 0 25 (dk_at dksX3_goYear_8 20 rfl rfl)
theorem dX3_goYear_209 : decode cX3_goYear 209 = .ok (.aload_n 1, 1) := dk_43 (dk_at dksX3_goYear_8 23 rfl rfl)
theorem dX3_goYear_210 : decode cX3_goYear 210 = .ok (.bipush 110, 2) := dk_16 110 (dk_at dksX3_goYear_9 0 rfl rfl)
theorem dX3_goYear_212 : decode cX3_goYear 212 = .ok (.iload 6, 2) := dk_21 6 (dk_at dksX3_goYear_9 2 rfl rfl)
theorem dX3_goYear_214 : decode cX3_goYear 214 = .ok (.iadd, 1) := dk_96 (dk_at dksX3_goYear_9 4 rfl rfl)
theorem dX3_goYear_215 : decode cX3_goYear 215 = .ok (.aload_n 1, 1) := dk_43 (dk_at dksX3_goYear_9 5 rfl rfl)
theorem dX3_goYear_216 : decode cX3_goYear 216 = .ok (.bipush 110, 2) := dk_16 110 (dk_at dksX3_goYear_9 6 rfl rfl)
theorem dX3_goYear_218 : decode cX3_goYear 218 = .ok (.iload 6, 2) := dk_21 6 (dk_at dksX3_goYear_9 8 rfl rfl)
theorem dX3_goYear_220 : decode cX3_goYear 220 = .ok (.iadd, 1) := dk_96 (dk_at dksX3_goYear_9 10 rfl rfl)
theorem dX3_goYear_221 : decode cX3_goYear 221 = .ok (.iconst 3, 1) := dk_6 (dk_at dksX3_goYear_9 11 rfl rfl)
theorem dX3_goYear_222 : decode cX3_goYear 222 = .ok (.iadd, 1) := dk_96 (dk_at dksX3_goYear_9 12 rfl rfl)
theorem dX3_goYear_223 : decode cX3_goYear 223 = .ok (.iaload, 1) := dk_46 (dk_at dksX3_goYear_9 13 rfl rfl)
theorem dX3_goYear_224 : decode cX3_goYear 224 = .ok (.iastore, 1) := dk_79 (dk_at dksX3_goYear_9 14 rfl rfl)
theorem dX3_goYear_225 : decode cX3_goYear 225 = .ok (.iinc 6 1, 3) := dk_132 6 1 (dk_at dksX3_goYear_9 15 rfl rfl)
theorem dX3_goYear_228 : decode cX3_goYear 228 = .ok (.goto (-27), 3) := dk_167 255 229 (dk_at dksX3_goYear_9 18 rfl rfl)
theorem dX3_goYear_231 : decode cX3_goYear 231 = .ok (.aload_n 1, 1) := dk_43 (dk_at dksX3_goYear_9 21 rfl rfl)
theorem dX3_goYear_232 : decode cX3_goYear 232 = .ok (.bipush 110, 2) := dk_16 110 (dk_at dksX3_goYear_9 22 rfl rfl)
theorem dX3_goYear_234 : decode cX3_goYear 234 = .ok (.dup2, 1) := dk_92 (dk_at dksX3_goYear_10 0 rfl rfl)
theorem dX3_goYear_235 : decode cX3_goYear 235 = .ok (.iaload, 1) := dk_46 (dk_at dksX3_goYear_10 1 rfl rfl)
theorem dX3_goYear_236 : decode cX3_goYear 236 = .ok (.iconst 1, 1) := dk_4 (dk_at dksX3_goYear_10 2 rfl rfl)
theorem dX3_goYear_237 : decode cX3_goYear 237 = .ok (.isub, 1) := dk_100 (dk_at dksX3_goYear_10 3 rfl rfl)
theorem dX3_goYear_238 : decode cX3_goYear 238 = .ok (.iastore, 1) := dk_79 (dk_at dksX3_goYear_10 4 rfl rfl)
theorem dX3_goYear_239 : decode cX3_goYear 239 = .ok (.bipush 111, 2) := dk_16 111 (dk_at dksX3_goYear_10 5 rfl rfl)
theorem dX3_goYear_241 : decode cX3_goYear 241 = .ok (.iconst 3, 1) := dk_6 (dk_at dksX3_goYear_10 7 rfl rfl)
theorem dX3_goYear_242 : decode cX3_goYear 242 = .ok (.aload_n 1, 1) := dk_43 (dk_at dksX3_goYear_10 8 rfl rfl)
theorem dX3_goYear_243 : decode cX3_goYear 243 = .ok (.bipush 110, 2) := dk_16 110 (dk_at dksX3_goYear_10 9 rfl rfl)
theorem dX3_goYear_245 : decode cX3_goYear 245 = .ok (.iaload, 1) := dk_46 (dk_at dksX3_goYear_10 11 rfl rfl)
theorem dX3_goYear_246 : decode cX3_goYear 246 = .ok (.imul, 1) := dk_104 (dk_at dksX3_goYear_10 12 rfl rfl)
theorem dX3_goYear_247 : decode cX3_goYear 247 = .ok (.iadd, 1) := dk_96 (dk_at dksX3_goYear_10 13 rfl rfl)
theorem dX3_goYear_248 : decode cX3_goYear 248 = .ok (.istore 6, 2) := dk_54 6 (dk_at dksX3_goYear_10 14 rfl rfl)
theorem dX3_goYear_250 : decode cX3_goYear 250 = .ok (.aload_n 1, 1) := dk_43 (dk_at dksX3_goYear_10 16 rfl rfl)
theorem dX3_goYear_251 : decode cX3_goYear 251 = .ok (.iload 6, 2) := dk_21 6 (dk_at dksX3_goYear_10 17 rfl rfl)
theorem dX3_goYear_253 : decode cX3_goYear 253 = .ok (.iload_n 2, 1) := dk_28 (dk_at dksX3_goYear_10 19 rfl rfl)
theorem dX3_goYear_254 : decode cX3_goYear 254 = .ok (.iastore, 1) := dk_79 (dk_at dksX3_goYear_10 20 rfl rfl)
theorem dX3_goYear_255 : decode cX3_goYear 255 = .ok (.aload_n 1, 1) := dk_43 (dk_at dksX3_goYear_10 21 rfl rfl)
theorem dX3_goYear_256 : decode cX3_goYear 256 = .ok (.iload 6, 2) := dk_21 6 (dk_at dksX3_goYear_10 22 rfl rfl)
theorem dX3_goYear_258 : decode cX3_goYear 258 = .ok (.iconst 1, 1) := dk_4 (dk_at dksX3_goYear_11 0 rfl rfl)
theorem dX3_goYear_259 : decode cX3_goYear 259 = .ok (.iadd, 1) := dk_96 (dk_at dksX3_goYear_11 1 rfl rfl)
theorem dX3_goYear_260 : decode cX3_goYear 260 = .ok (.iload 4, 2) := dk_21 4 (dk_at dksX3_goYear_11 2 rfl rfl)
theorem dX3_goYear_262 : decode cX3_goYear 262 = .ok (.iastore, 1) := dk_79 (dk_at dksX3_goYear_11 4 rfl rfl)
theorem dX3_goYear_263 : decode cX3_goYear 263 = .ok (.aload_n 1, 1) := dk_43 (dk_at dksX3_goYear_11 5 rfl rfl)
theorem dX3_goYear_264 : decode cX3_goYear 264 = .ok (.iload 6, 2) := dk_21 6 (dk_at dksX3_goYear_11 6 rfl rfl)
theorem dX3_goYear_266 : decode cX3_goYear 266 = .ok (.iconst 2, 1) := dk_5 (dk_at dksX3_goYear_11 8 rfl rfl)
theorem dX3_goYear_267 : decode cX3_goYear 267 = .ok (.iadd, 1) := dk_96 (dk_at dksX3_goYear_11 9 rfl rfl)
theorem dX3_goYear_268 : decode cX3_goYear 268 = .ok (.iload 5, 2) := dk_21 5 (dk_at dksX3_goYear_11 10 rfl rfl)
theorem dX3_goYear_270 : decode cX3_goYear 270 = .ok (.iastore, 1) := dk_79 (dk_at dksX3_goYear_11 12 rfl rfl)
theorem dX3_goYear_271 : decode cX3_goYear 271 = .ok (.aload_n 1, 1) := dk_43 (dk_at dksX3_goYear_11 13 rfl rfl)
theorem dX3_goYear_272 : decode cX3_goYear 272 = .ok (.bipush 110, 2) := dk_16 110 (dk_at dksX3_goYear_11 14 rfl rfl)
theorem dX3_goYear_274 : decode cX3_goYear 274 = .ok (.dup2, 1) := dk_92 (dk_at dksX3_goYear_11 16 rfl rfl)
theorem dX3_goYear_275 : decode cX3_goYear 275 = .ok (.iaload, 1) := dk_46 (dk_at dksX3_goYear_11 17 rfl rfl)
theorem dX3_goYear_276 : decode cX3_goYear 276 = .ok (.iconst 1, 1) := dk_4 (dk_at dksX3_goYear_11 18 rfl rfl)
theorem dX3_goYear_277 : decode cX3_goYear 277 = .ok (.iadd, 1) := dk_96 (dk_at dksX3_goYear_11 19 rfl rfl)
theorem dX3_goYear_278 : decode cX3_goYear 278 = .ok (.iastore, 1) := dk_79 (dk_at dksX3_goYear_11 20 rfl rfl)
theorem dX3_goYear_279 : decode cX3_goYear 279 = .ok (.iload 4, 2) := dk_21 4 (dk_at dksX3_goYear_11 21 rfl rfl)
theorem dX3_goYear_281 : decode cX3_goYear 281 = .ok (.ireturn, 1) := dk_172 (dk_at dksX3_goYear_11 23 rfl rfl)
abbrev cX3_sideNow : ByteArray := prog_14_method_47_code
def yX3_sideNow : MethodName := ⟨RX3, "sideNow", "([II)I"⟩
def dkwX3_sideNow_1 : List UInt8 := [180, 0, 49, 7, 28, 104, 4, 96, 46, 184, 0, 228, 182, 1, 76, 172]
abbrev dktX3_sideNow_1 : List UInt8 := dkwX3_sideNow_1 ++ []
def dkwX3_sideNow_0 : List UInt8 := [42, 43, 28, 43, 16, 16, 46, 42, 180, 0, 49, 7, 28, 104, 46, 184, 0, 228, 43, 16, 16, 46, 42]
abbrev dktX3_sideNow_0 : List UInt8 := dkwX3_sideNow_0 ++ dktX3_sideNow_1
theorem dksX3_sideNow_0 : cX3_sideNow.data.toList.drop 0 = dktX3_sideNow_0 := by decide +kernel
theorem dksX3_sideNow_1 : cX3_sideNow.data.toList.drop 23 = dktX3_sideNow_1 := dk_seg dksX3_sideNow_0 23 rfl rfl
theorem dX3_sideNow_0 : decode cX3_sideNow 0 = .ok (.aload_n 0, 1) := dk_42 (dk_at dksX3_sideNow_0 0 rfl rfl)
theorem dX3_sideNow_1 : decode cX3_sideNow 1 = .ok (.aload_n 1, 1) := dk_43 (dk_at dksX3_sideNow_0 1 rfl rfl)
theorem dX3_sideNow_2 : decode cX3_sideNow 2 = .ok (.iload_n 2, 1) := dk_28 (dk_at dksX3_sideNow_0 2 rfl rfl)
theorem dX3_sideNow_3 : decode cX3_sideNow 3 = .ok (.aload_n 1, 1) := dk_43 (dk_at dksX3_sideNow_0 3 rfl rfl)
theorem dX3_sideNow_4 : decode cX3_sideNow 4 = .ok (.bipush 16, 2) := dk_16 16 (dk_at dksX3_sideNow_0 4 rfl rfl)
theorem dX3_sideNow_6 : decode cX3_sideNow 6 = .ok (.iaload, 1) := dk_46 (dk_at dksX3_sideNow_0 6 rfl rfl)
theorem dX3_sideNow_7 : decode cX3_sideNow 7 = .ok (.aload_n 0, 1) := dk_42 (dk_at dksX3_sideNow_0 7 rfl rfl)
theorem dX3_sideNow_8 : decode cX3_sideNow 8 = .ok (.getfield 49, 3) := dk_180 0 49 (dk_at dksX3_sideNow_0 8 rfl rfl)
theorem dX3_sideNow_11 : decode cX3_sideNow 11 = .ok (.iconst 4, 1) := dk_7 (dk_at dksX3_sideNow_0 11 rfl rfl)
theorem dX3_sideNow_12 : decode cX3_sideNow 12 = .ok (.iload_n 2, 1) := dk_28 (dk_at dksX3_sideNow_0 12 rfl rfl)
theorem dX3_sideNow_13 : decode cX3_sideNow 13 = .ok (.imul, 1) := dk_104 (dk_at dksX3_sideNow_0 13 rfl rfl)
theorem dX3_sideNow_14 : decode cX3_sideNow 14 = .ok (.iaload, 1) := dk_46 (dk_at dksX3_sideNow_0 14 rfl rfl)
theorem dX3_sideNow_15 : decode cX3_sideNow 15 = .ok (.invokestatic 228, 3) := dk_184 0 228 (dk_at dksX3_sideNow_0 15 rfl rfl)
theorem dX3_sideNow_18 : decode cX3_sideNow 18 = .ok (.aload_n 1, 1) := dk_43 (dk_at dksX3_sideNow_0 18 rfl rfl)
theorem dX3_sideNow_19 : decode cX3_sideNow 19 = .ok (.bipush 16, 2) := dk_16 16 (dk_at dksX3_sideNow_0 19 rfl rfl)
theorem dX3_sideNow_21 : decode cX3_sideNow 21 = .ok (.iaload, 1) := dk_46 (dk_at dksX3_sideNow_0 21 rfl rfl)
theorem dX3_sideNow_22 : decode cX3_sideNow 22 = .ok (.aload_n 0, 1) := dk_42 (dk_at dksX3_sideNow_0 22 rfl rfl)
theorem dX3_sideNow_23 : decode cX3_sideNow 23 = .ok (.getfield 49, 3) := dk_180 0 49 (dk_at dksX3_sideNow_1 0 rfl rfl)
theorem dX3_sideNow_26 : decode cX3_sideNow 26 = .ok (.iconst 4, 1) := dk_7 (dk_at dksX3_sideNow_1 3 rfl rfl)
theorem dX3_sideNow_27 : decode cX3_sideNow 27 = .ok (.iload_n 2, 1) := dk_28 (dk_at dksX3_sideNow_1 4 rfl rfl)
theorem dX3_sideNow_28 : decode cX3_sideNow 28 = .ok (.imul, 1) := dk_104 (dk_at dksX3_sideNow_1 5 rfl rfl)
theorem dX3_sideNow_29 : decode cX3_sideNow 29 = .ok (.iconst 1, 1) := dk_4 (dk_at dksX3_sideNow_1 6 rfl rfl)
theorem dX3_sideNow_30 : decode cX3_sideNow 30 = .ok (.iadd, 1) := dk_96 (dk_at dksX3_sideNow_1 7 rfl rfl)
theorem dX3_sideNow_31 : decode cX3_sideNow 31 = .ok (.iaload, 1) := dk_46 (dk_at dksX3_sideNow_1 8 rfl rfl)
theorem dX3_sideNow_32 : decode cX3_sideNow 32 = .ok (.invokestatic 228, 3) := dk_184 0 228 (dk_at dksX3_sideNow_1 9 rfl rfl)
theorem dX3_sideNow_35 : decode cX3_sideNow 35 = .ok (.invokevirtual 332, 3) := dk_182 1 76 (dk_at dksX3_sideNow_1 12 rfl rfl)
theorem dX3_sideNow_38 : decode cX3_sideNow 38 = .ok (.ireturn, 1) := dk_172 (dk_at dksX3_sideNow_1 15 rfl rfl)
abbrev cX3_sideBy : ByteArray := prog_14_method_46_code
def yX3_sideBy : MethodName := ⟨RX3, "sideBy", "([IIZZ)I"⟩
def dkwX3_sideBy_1 : List UInt8 := [21, 6, 160, 0, 7, 2, 167, 0, 15, 21, 5, 21, 6, 164, 0, 7, 3, 167, 0, 4, 4, 172]
abbrev dktX3_sideBy_1 : List UInt8 := dkwX3_sideBy_1 ++ []
def dkwX3_sideBy_0 : List UInt8 := [42, 43, 28, 3, 29, 182, 1, 72, 54, 5, 42, 43, 28, 4, 21, 4, 182, 1, 72, 54, 6, 21, 5]
abbrev dktX3_sideBy_0 : List UInt8 := dkwX3_sideBy_0 ++ dktX3_sideBy_1
theorem dksX3_sideBy_0 : cX3_sideBy.data.toList.drop 0 = dktX3_sideBy_0 := by decide +kernel
theorem dksX3_sideBy_1 : cX3_sideBy.data.toList.drop 23 = dktX3_sideBy_1 := dk_seg dksX3_sideBy_0 23 rfl rfl
theorem dX3_sideBy_0 : decode cX3_sideBy 0 = .ok (.aload_n 0, 1) := dk_42 (dk_at dksX3_sideBy_0 0 rfl rfl)
theorem dX3_sideBy_1 : decode cX3_sideBy 1 = .ok (.aload_n 1, 1) := dk_43 (dk_at dksX3_sideBy_0 1 rfl rfl)
theorem dX3_sideBy_2 : decode cX3_sideBy 2 = .ok (.iload_n 2, 1) := dk_28 (dk_at dksX3_sideBy_0 2 rfl rfl)
theorem dX3_sideBy_3 : decode cX3_sideBy 3 = .ok (.iconst 0, 1) := dk_3 (dk_at dksX3_sideBy_0 3 rfl rfl)
theorem dX3_sideBy_4 : decode cX3_sideBy 4 = .ok (.iload_n 3, 1) := dk_29 (dk_at dksX3_sideBy_0 4 rfl rfl)
theorem dX3_sideBy_5 : decode cX3_sideBy 5 = .ok (.invokevirtual 328, 3) := dk_182 1 72 (dk_at dksX3_sideBy_0 5 rfl rfl)
theorem dX3_sideBy_8 : decode cX3_sideBy 8 = .ok (.istore 5, 2) := dk_54 5 (dk_at dksX3_sideBy_0 8 rfl rfl)
theorem dX3_sideBy_10 : decode cX3_sideBy 10 = .ok (.aload_n 0, 1) := dk_42 (dk_at dksX3_sideBy_0 10 rfl rfl)
theorem dX3_sideBy_11 : decode cX3_sideBy 11 = .ok (.aload_n 1, 1) := dk_43 (dk_at dksX3_sideBy_0 11 rfl rfl)
theorem dX3_sideBy_12 : decode cX3_sideBy 12 = .ok (.iload_n 2, 1) := dk_28 (dk_at dksX3_sideBy_0 12 rfl rfl)
theorem dX3_sideBy_13 : decode cX3_sideBy 13 = .ok (.iconst 1, 1) := dk_4 (dk_at dksX3_sideBy_0 13 rfl rfl)
theorem dX3_sideBy_14 : decode cX3_sideBy 14 = .ok (.iload 4, 2) := dk_21 4 (dk_at dksX3_sideBy_0 14 rfl rfl)
theorem dX3_sideBy_16 : decode cX3_sideBy 16 = .ok (.invokevirtual 328, 3) := dk_182 1 72 (dk_at dksX3_sideBy_0 16 rfl rfl)
theorem dX3_sideBy_19 : decode cX3_sideBy 19 = .ok (.istore 6, 2) := dk_54 6 (dk_at dksX3_sideBy_0 19 rfl rfl)
theorem dX3_sideBy_21 : decode cX3_sideBy 21 = .ok (.iload 5, 2) := dk_21 5 (dk_at dksX3_sideBy_0 21 rfl rfl)
theorem dX3_sideBy_23 : decode cX3_sideBy 23 = .ok (.iload 6, 2) := dk_21 6 (dk_at dksX3_sideBy_1 0 rfl rfl)
theorem dX3_sideBy_25 : decode cX3_sideBy 25 = .ok (.if_icmp .ne 7, 3) := dk_160 0 7 (dk_at dksX3_sideBy_1 2 rfl rfl)
theorem dX3_sideBy_28 : decode cX3_sideBy 28 = .ok (.iconst (-1), 1) := dk_2 (dk_at dksX3_sideBy_1 5 rfl rfl)
theorem dX3_sideBy_29 : decode cX3_sideBy 29 = .ok (.goto 15, 3) := dk_167 0 15 (dk_at dksX3_sideBy_1 6 rfl rfl)
theorem dX3_sideBy_32 : decode cX3_sideBy 32 = .ok (.iload 5, 2) := dk_21 5 (dk_at dksX3_sideBy_1 9 rfl rfl)
theorem dX3_sideBy_34 : decode cX3_sideBy 34 = .ok (.iload 6, 2) := dk_21 6 (dk_at dksX3_sideBy_1 11 rfl rfl)
theorem dX3_sideBy_36 : decode cX3_sideBy 36 = .ok (.if_icmp .le 7, 3) := dk_164 0 7 (dk_at dksX3_sideBy_1 13 rfl rfl)
theorem dX3_sideBy_39 : decode cX3_sideBy 39 = .ok (.iconst 0, 1) := dk_3 (dk_at dksX3_sideBy_1 16 rfl rfl)
theorem dX3_sideBy_40 : decode cX3_sideBy 40 = .ok (.goto 4, 3) := dk_167 0 4 (dk_at dksX3_sideBy_1 17 rfl rfl)
theorem dX3_sideBy_43 : decode cX3_sideBy 43 = .ok (.iconst 1, 1) := dk_4 (dk_at dksX3_sideBy_1 20 rfl rfl)
theorem dX3_sideBy_44 : decode cX3_sideBy 44 = .ok (.ireturn, 1) := dk_172 (dk_at dksX3_sideBy_1 21 rfl rfl)
abbrev cX3_forceBy : ByteArray := prog_14_method_45_code
def yX3_forceBy : MethodName := ⟨RX3, "forceBy", "([IIIZ)I"⟩
def dkwX3_forceBy_5 : List UInt8 := [21, 4, 153, 0, 10, 21, 7, 5, 108, 167, 0, 5, 21, 7, 172]
abbrev dktX3_forceBy_5 : List UInt8 := dkwX3_forceBy_5 ++ []
def dkwX3_forceBy_4 : List UInt8 := [46, 43, 16, 18, 46, 182, 1, 64, 54, 7, 3, 16, 60, 21, 7, 184, 1, 68, 184, 1, 70, 54, 7]
abbrev dktX3_forceBy_4 : List UInt8 := dkwX3_forceBy_4 ++ dktX3_forceBy_5
def dkwX3_forceBy_3 : List UInt8 := [46, 21, 6, 43, 7, 21, 5, 104, 5, 96, 46, 43, 21, 5, 184, 1, 60, 43, 7, 21, 5, 104, 6, 96]
abbrev dktX3_forceBy_3 : List UInt8 := dkwX3_forceBy_3 ++ dktX3_forceBy_4
def dkwX3_forceBy_2 : List UInt8 := [6, 96, 46, 5, 108, 100, 54, 7, 42, 180, 0, 67, 2, 159, 0, 45, 42, 43, 7, 21, 5, 104, 3, 96]
abbrev dktX3_forceBy_2 : List UInt8 := dkwX3_forceBy_2 ++ dktX3_forceBy_3
def dkwX3_forceBy_1 : List UInt8 := [96, 46, 167, 0, 4, 3, 54, 6, 43, 7, 21, 5, 104, 3, 96, 46, 21, 6, 96, 43, 7, 21, 5, 104]
abbrev dktX3_forceBy_1 : List UInt8 := dkwX3_forceBy_1 ++ dktX3_forceBy_2
def dkwX3_forceBy_0 : List UInt8 := [42, 180, 0, 49, 7, 28, 104, 29, 96, 46, 54, 5, 29, 154, 0, 16, 42, 180, 0, 49, 7, 28, 104, 5]
abbrev dktX3_forceBy_0 : List UInt8 := dkwX3_forceBy_0 ++ dktX3_forceBy_1
theorem dksX3_forceBy_0 : cX3_forceBy.data.toList.drop 0 = dktX3_forceBy_0 := by decide +kernel
theorem dksX3_forceBy_1 : cX3_forceBy.data.toList.drop 24 = dktX3_forceBy_1 := dk_seg dksX3_forceBy_0 24 rfl rfl
theorem dksX3_forceBy_2 : cX3_forceBy.data.toList.drop 48 = dktX3_forceBy_2 := dk_seg dksX3_forceBy_1 24 rfl rfl
theorem dksX3_forceBy_3 : cX3_forceBy.data.toList.drop 72 = dktX3_forceBy_3 := dk_seg dksX3_forceBy_2 24 rfl rfl
theorem dksX3_forceBy_4 : cX3_forceBy.data.toList.drop 96 = dktX3_forceBy_4 := dk_seg dksX3_forceBy_3 24 rfl rfl
theorem dksX3_forceBy_5 : cX3_forceBy.data.toList.drop 119 = dktX3_forceBy_5 := dk_seg dksX3_forceBy_4 23 rfl rfl
theorem dX3_forceBy_0 : decode cX3_forceBy 0 = .ok (.aload_n 0, 1) := dk_42 (dk_at dksX3_forceBy_0 0 rfl rfl)
theorem dX3_forceBy_1 : decode cX3_forceBy 1 = .ok (.getfield 49, 3) := dk_180 0 49 (dk_at dksX3_forceBy_0 1 rfl rfl)
theorem dX3_forceBy_4 : decode cX3_forceBy 4 = .ok (.iconst 4, 1) := dk_7 (dk_at dksX3_forceBy_0 4 rfl rfl)
theorem dX3_forceBy_5 : decode cX3_forceBy 5 = .ok (.iload_n 2, 1) := dk_28 (dk_at dksX3_forceBy_0 5 rfl rfl)
theorem dX3_forceBy_6 : decode cX3_forceBy 6 = .ok (.imul, 1) := dk_104 (dk_at dksX3_forceBy_0 6 rfl rfl)
theorem dX3_forceBy_7 : decode cX3_forceBy 7 = .ok (.iload_n 3, 1) := dk_29 (dk_at dksX3_forceBy_0 7 rfl rfl)
theorem dX3_forceBy_8 : decode cX3_forceBy 8 = .ok (.iadd, 1) := dk_96 (dk_at dksX3_forceBy_0 8 rfl rfl)
theorem dX3_forceBy_9 : decode cX3_forceBy 9 = .ok (.iaload, 1) := dk_46 (dk_at dksX3_forceBy_0 9 rfl rfl)
theorem dX3_forceBy_10 : decode cX3_forceBy 10 = .ok (.istore 5, 2) := dk_54 5 (dk_at dksX3_forceBy_0 10 rfl rfl)
theorem dX3_forceBy_12 : decode cX3_forceBy 12 = .ok (.iload_n 3, 1) := dk_29 (dk_at dksX3_forceBy_0 12 rfl rfl)
theorem dX3_forceBy_13 : decode cX3_forceBy 13 = .ok (.ifCond .ne 16, 3) := dk_154 0 16 (dk_at dksX3_forceBy_0 13 rfl rfl)
theorem dX3_forceBy_16 : decode cX3_forceBy 16 = .ok (.aload_n 0, 1) := dk_42 (dk_at dksX3_forceBy_0 16 rfl rfl)
theorem dX3_forceBy_17 : decode cX3_forceBy 17 = .ok (.getfield 49, 3) := dk_180 0 49 (dk_at dksX3_forceBy_0 17 rfl rfl)
theorem dX3_forceBy_20 : decode cX3_forceBy 20 = .ok (.iconst 4, 1) := dk_7 (dk_at dksX3_forceBy_0 20 rfl rfl)
theorem dX3_forceBy_21 : decode cX3_forceBy 21 = .ok (.iload_n 2, 1) := dk_28 (dk_at dksX3_forceBy_0 21 rfl rfl)
theorem dX3_forceBy_22 : decode cX3_forceBy 22 = .ok (.imul, 1) := dk_104 (dk_at dksX3_forceBy_0 22 rfl rfl)
theorem dX3_forceBy_23 : decode cX3_forceBy 23 = .ok (.iconst 2, 1) := dk_5 (dk_at dksX3_forceBy_0 23 rfl rfl)
theorem dX3_forceBy_24 : decode cX3_forceBy 24 = .ok (.iadd, 1) := dk_96 (dk_at dksX3_forceBy_1 0 rfl rfl)
theorem dX3_forceBy_25 : decode cX3_forceBy 25 = .ok (.iaload, 1) := dk_46 (dk_at dksX3_forceBy_1 1 rfl rfl)
theorem dX3_forceBy_26 : decode cX3_forceBy 26 = .ok (.goto 4, 3) := dk_167 0 4 (dk_at dksX3_forceBy_1 2 rfl rfl)
theorem dX3_forceBy_29 : decode cX3_forceBy 29 = .ok (.iconst 0, 1) := dk_3 (dk_at dksX3_forceBy_1 5 rfl rfl)
theorem dX3_forceBy_30 : decode cX3_forceBy 30 = .ok (.istore 6, 2) := dk_54 6 (dk_at dksX3_forceBy_1 6 rfl rfl)
theorem dX3_forceBy_32 : decode cX3_forceBy 32 = .ok (.aload_n 1, 1) := dk_43 (dk_at dksX3_forceBy_1 8 rfl rfl)
theorem dX3_forceBy_33 : decode cX3_forceBy 33 = .ok (.iconst 4, 1) := dk_7 (dk_at dksX3_forceBy_1 9 rfl rfl)
theorem dX3_forceBy_34 : decode cX3_forceBy 34 = .ok (.iload 5, 2) := dk_21 5 (dk_at dksX3_forceBy_1 10 rfl rfl)
theorem dX3_forceBy_36 : decode cX3_forceBy 36 = .ok (.imul, 1) := dk_104 (dk_at dksX3_forceBy_1 12 rfl rfl)
theorem dX3_forceBy_37 : decode cX3_forceBy 37 = .ok (.iconst 0, 1) := dk_3 (dk_at dksX3_forceBy_1 13 rfl rfl)
theorem dX3_forceBy_38 : decode cX3_forceBy 38 = .ok (.iadd, 1) := dk_96 (dk_at dksX3_forceBy_1 14 rfl rfl)
theorem dX3_forceBy_39 : decode cX3_forceBy 39 = .ok (.iaload, 1) := dk_46 (dk_at dksX3_forceBy_1 15 rfl rfl)
theorem dX3_forceBy_40 : decode cX3_forceBy 40 = .ok (.iload 6, 2) := dk_21 6 (dk_at dksX3_forceBy_1 16 rfl rfl)
theorem dX3_forceBy_42 : decode cX3_forceBy 42 = .ok (.iadd, 1) := dk_96 (dk_at dksX3_forceBy_1 18 rfl rfl)
theorem dX3_forceBy_43 : decode cX3_forceBy 43 = .ok (.aload_n 1, 1) := dk_43 (dk_at dksX3_forceBy_1 19 rfl rfl)
theorem dX3_forceBy_44 : decode cX3_forceBy 44 = .ok (.iconst 4, 1) := dk_7 (dk_at dksX3_forceBy_1 20 rfl rfl)
theorem dX3_forceBy_45 : decode cX3_forceBy 45 = .ok (.iload 5, 2) := dk_21 5 (dk_at dksX3_forceBy_1 21 rfl rfl)
theorem dX3_forceBy_47 : decode cX3_forceBy 47 = .ok (.imul, 1) := dk_104 (dk_at dksX3_forceBy_1 23 rfl rfl)
theorem dX3_forceBy_48 : decode cX3_forceBy 48 = .ok (.iconst 3, 1) := dk_6 (dk_at dksX3_forceBy_2 0 rfl rfl)
theorem dX3_forceBy_49 : decode cX3_forceBy 49 = .ok (.iadd, 1) := dk_96 (dk_at dksX3_forceBy_2 1 rfl rfl)
theorem dX3_forceBy_50 : decode cX3_forceBy 50 = .ok (.iaload, 1) := dk_46 (dk_at dksX3_forceBy_2 2 rfl rfl)
theorem dX3_forceBy_51 : decode cX3_forceBy 51 = .ok (.iconst 2, 1) := dk_5 (dk_at dksX3_forceBy_2 3 rfl rfl)
theorem dX3_forceBy_52 : decode cX3_forceBy 52 = .ok (.idiv, 1) := dk_108 (dk_at dksX3_forceBy_2 4 rfl rfl)
theorem dX3_forceBy_53 : decode cX3_forceBy 53 = .ok (.isub, 1) := dk_100 (dk_at dksX3_forceBy_2 5 rfl rfl)
theorem dX3_forceBy_54 : decode cX3_forceBy 54 = .ok (.istore 7, 2) := dk_54 7 (dk_at dksX3_forceBy_2 6 rfl rfl)
theorem dX3_forceBy_56 : decode cX3_forceBy 56 = .ok (.aload_n 0, 1) := dk_42 (dk_at dksX3_forceBy_2 8 rfl rfl)
theorem dX3_forceBy_57 : decode cX3_forceBy 57 = .ok (.getfield 67, 3) := dk_180 0 67 (dk_at dksX3_forceBy_2 9 rfl rfl)
theorem dX3_forceBy_60 : decode cX3_forceBy 60 = .ok (.iconst (-1), 1) := dk_2 (dk_at dksX3_forceBy_2 12 rfl rfl)
theorem dX3_forceBy_61 : decode cX3_forceBy 61 = .ok (.if_icmp .eq 45, 3) := dk_159 0 45 (dk_at dksX3_forceBy_2 13 rfl rfl)
theorem dX3_forceBy_64 : decode cX3_forceBy 64 = .ok (.aload_n 0, 1) := dk_42 (dk_at dksX3_forceBy_2 16 rfl rfl)
theorem dX3_forceBy_65 : decode cX3_forceBy 65 = .ok (.aload_n 1, 1) := dk_43 (dk_at dksX3_forceBy_2 17 rfl rfl)
theorem dX3_forceBy_66 : decode cX3_forceBy 66 = .ok (.iconst 4, 1) := dk_7 (dk_at dksX3_forceBy_2 18 rfl rfl)
theorem dX3_forceBy_67 : decode cX3_forceBy 67 = .ok (.iload 5, 2) := dk_21 5 (dk_at dksX3_forceBy_2 19 rfl rfl)
theorem dX3_forceBy_69 : decode cX3_forceBy 69 = .ok (.imul, 1) := dk_104 (dk_at dksX3_forceBy_2 21 rfl rfl)
theorem dX3_forceBy_70 : decode cX3_forceBy 70 = .ok (.iconst 0, 1) := dk_3 (dk_at dksX3_forceBy_2 22 rfl rfl)
theorem dX3_forceBy_71 : decode cX3_forceBy 71 = .ok (.iadd, 1) := dk_96 (dk_at dksX3_forceBy_2 23 rfl rfl)
theorem dX3_forceBy_72 : decode cX3_forceBy 72 = .ok (.iaload, 1) := dk_46 (dk_at dksX3_forceBy_3 0 rfl rfl)
theorem dX3_forceBy_73 : decode cX3_forceBy 73 = .ok (.iload 6, 2) := dk_21 6 (dk_at dksX3_forceBy_3 1 rfl rfl)
theorem dX3_forceBy_75 : decode cX3_forceBy 75 = .ok (.aload_n 1, 1) := dk_43 (dk_at dksX3_forceBy_3 3 rfl rfl)
theorem dX3_forceBy_76 : decode cX3_forceBy 76 = .ok (.iconst 4, 1) := dk_7 (dk_at dksX3_forceBy_3 4 rfl rfl)
theorem dX3_forceBy_77 : decode cX3_forceBy 77 = .ok (.iload 5, 2) := dk_21 5 (dk_at dksX3_forceBy_3 5 rfl rfl)
theorem dX3_forceBy_79 : decode cX3_forceBy 79 = .ok (.imul, 1) := dk_104 (dk_at dksX3_forceBy_3 7 rfl rfl)
theorem dX3_forceBy_80 : decode cX3_forceBy 80 = .ok (.iconst 2, 1) := dk_5 (dk_at dksX3_forceBy_3 8 rfl rfl)
theorem dX3_forceBy_81 : decode cX3_forceBy 81 = .ok (.iadd, 1) := dk_96 (dk_at dksX3_forceBy_3 9 rfl rfl)
theorem dX3_forceBy_82 : decode cX3_forceBy 82 = .ok (.iaload, 1) := dk_46 (dk_at dksX3_forceBy_3 10 rfl rfl)
theorem dX3_forceBy_83 : decode cX3_forceBy 83 = .ok (.aload_n 1, 1) := dk_43 (dk_at dksX3_forceBy_3 11 rfl rfl)
theorem dX3_forceBy_84 : decode cX3_forceBy 84 = .ok (.iload 5, 2) := dk_21 5 (dk_at dksX3_forceBy_3 12 rfl rfl)
theorem dX3_forceBy_86 : decode cX3_forceBy 86 = .ok (.invokestatic 316, 3) := dk_184 1 60 (dk_at dksX3_forceBy_3 14 rfl rfl)
theorem dX3_forceBy_89 : decode cX3_forceBy 89 = .ok (.aload_n 1, 1) := dk_43 (dk_at dksX3_forceBy_3 17 rfl rfl)
theorem dX3_forceBy_90 : decode cX3_forceBy 90 = .ok (.iconst 4, 1) := dk_7 (dk_at dksX3_forceBy_3 18 rfl rfl)
theorem dX3_forceBy_91 : decode cX3_forceBy 91 = .ok (.iload 5, 2) := dk_21 5 (dk_at dksX3_forceBy_3 19 rfl rfl)
theorem dX3_forceBy_93 : decode cX3_forceBy 93 = .ok (.imul, 1) := dk_104 (dk_at dksX3_forceBy_3 21 rfl rfl)
theorem dX3_forceBy_94 : decode cX3_forceBy 94 = .ok (.iconst 3, 1) := dk_6 (dk_at dksX3_forceBy_3 22 rfl rfl)
theorem dX3_forceBy_95 : decode cX3_forceBy 95 = .ok (.iadd, 1) := dk_96 (dk_at dksX3_forceBy_3 23 rfl rfl)
theorem dX3_forceBy_96 : decode cX3_forceBy 96 = .ok (.iaload, 1) := dk_46 (dk_at dksX3_forceBy_4 0 rfl rfl)
theorem dX3_forceBy_97 : decode cX3_forceBy 97 = .ok (.aload_n 1, 1) := dk_43 (dk_at dksX3_forceBy_4 1 rfl rfl)
theorem dX3_forceBy_98 : decode cX3_forceBy 98 = .ok (.bipush 18, 2) := dk_16 18 (dk_at dksX3_forceBy_4 2 rfl rfl)
theorem dX3_forceBy_100 : decode cX3_forceBy 100 = .ok (.iaload, 1) := dk_46 (dk_at dksX3_forceBy_4 4 rfl rfl)
theorem dX3_forceBy_101 : decode cX3_forceBy 101 = .ok (.invokevirtual 320, 3) := dk_182 1 64 (dk_at dksX3_forceBy_4 5 rfl rfl)
theorem dX3_forceBy_104 : decode cX3_forceBy 104 = .ok (.istore 7, 2) := dk_54 7 (dk_at dksX3_forceBy_4 8 rfl rfl)
theorem dX3_forceBy_106 : decode cX3_forceBy 106 = .ok (.iconst 0, 1) := dk_3 (dk_at dksX3_forceBy_4 10 rfl rfl)
theorem dX3_forceBy_107 : decode cX3_forceBy 107 = .ok (.bipush 60, 2) := dk_16 60 (dk_at dksX3_forceBy_4 11 rfl rfl)
theorem dX3_forceBy_109 : decode cX3_forceBy 109 = .ok (.iload 7, 2) := dk_21 7 (dk_at dksX3_forceBy_4 13 rfl rfl)
theorem dX3_forceBy_111 : decode cX3_forceBy 111 = .ok (.invokestatic 324, 3) := dk_184 1 68 (dk_at dksX3_forceBy_4 15 rfl rfl)
theorem dX3_forceBy_114 : decode cX3_forceBy 114 = .ok (.invokestatic 326, 3) := dk_184 1 70 (dk_at dksX3_forceBy_4 18 rfl rfl)
theorem dX3_forceBy_117 : decode cX3_forceBy 117 = .ok (.istore 7, 2) := dk_54 7 (dk_at dksX3_forceBy_4 21 rfl rfl)
theorem dX3_forceBy_119 : decode cX3_forceBy 119 = .ok (.iload 4, 2) := dk_21 4 (dk_at dksX3_forceBy_5 0 rfl rfl)
theorem dX3_forceBy_121 : decode cX3_forceBy 121 = .ok (.ifCond .eq 10, 3) := dk_153 0 10 (dk_at dksX3_forceBy_5 2 rfl rfl)
theorem dX3_forceBy_124 : decode cX3_forceBy 124 = .ok (.iload 7, 2) := dk_21 7 (dk_at dksX3_forceBy_5 5 rfl rfl)
theorem dX3_forceBy_126 : decode cX3_forceBy 126 = .ok (.iconst 2, 1) := dk_5 (dk_at dksX3_forceBy_5 7 rfl rfl)
theorem dX3_forceBy_127 : decode cX3_forceBy 127 = .ok (.idiv, 1) := dk_108 (dk_at dksX3_forceBy_5 8 rfl rfl)
theorem dX3_forceBy_128 : decode cX3_forceBy 128 = .ok (.goto 5, 3) := dk_167 0 5 (dk_at dksX3_forceBy_5 9 rfl rfl)
theorem dX3_forceBy_131 : decode cX3_forceBy 131 = .ok (.iload 7, 2) := dk_21 7 (dk_at dksX3_forceBy_5 12 rfl rfl)
theorem dX3_forceBy_133 : decode cX3_forceBy 133 = .ok (.ireturn, 1) := dk_172 (dk_at dksX3_forceBy_5 14 rfl rfl)
abbrev cX3_worthOf : ByteArray := prog_14_method_44_code
def yX3_worthOf : MethodName := ⟨RX3, "worthOf", "(IIIIII)I"⟩
def dkwX3_worthOf_8 : List UInt8 := [21, 9, 22, 7, 80, 42, 180, 0, 78, 21, 9, 42, 180, 0, 207, 79, 42, 180, 0, 207, 172]
abbrev dktX3_worthOf_8 : List UInt8 := dkwX3_worthOf_8 ++ []
def dkwX3_worthOf_7 : List UInt8 := [17, 0, 240, 42, 180, 0, 67, 104, 42, 180, 0, 16, 42, 180, 0, 67, 46, 182, 1, 21, 42, 180, 0, 74]
abbrev dktX3_worthOf_7 : List UInt8 := dkwX3_worthOf_7 ++ dktX3_worthOf_8
def dkwX3_worthOf_6 : List UInt8 := [42, 180, 0, 20, 16, 119, 21, 5, 79, 42, 180, 0, 20, 16, 100, 21, 6, 79, 42, 42, 180, 0, 13]
abbrev dktX3_worthOf_6 : List UInt8 := dkwX3_worthOf_6 ++ dktX3_worthOf_7
def dkwX3_worthOf_5 : List UInt8 := [180, 0, 20, 16, 103, 28, 79, 42, 180, 0, 20, 16, 115, 29, 79, 42, 180, 0, 20, 16, 112, 21, 4, 79]
abbrev dktX3_worthOf_5 : List UInt8 := dkwX3_worthOf_5 ++ dktX3_worthOf_6
def dkwX3_worthOf_4 : List UInt8 := [22, 7, 148, 154, 0, 11, 42, 180, 0, 78, 21, 9, 46, 172, 42, 180, 0, 20, 16, 109, 27, 79, 42]
abbrev dktX3_worthOf_4 : List UInt8 := dkwX3_worthOf_4 ++ dktX3_worthOf_5
def dkwX3_worthOf_3 : List UInt8 := [105, 21, 6, 133, 97, 55, 7, 22, 7, 20, 1, 58, 113, 136, 54, 9, 42, 180, 0, 74, 21, 9, 47]
abbrev dktX3_worthOf_3 : List UInt8 := dkwX3_worthOf_3 ++ dktX3_worthOf_4
def dkwX3_worthOf_2 : List UInt8 := [105, 21, 4, 133, 97, 55, 7, 20, 1, 54, 22, 7, 105, 21, 5, 133, 97, 55, 7, 20, 1, 56, 22, 7]
abbrev dktX3_worthOf_2 : List UInt8 := dkwX3_worthOf_2 ++ dktX3_worthOf_3
def dkwX3_worthOf_1 : List UInt8 := [22, 7, 105, 28, 133, 97, 55, 7, 20, 1, 52, 22, 7, 105, 29, 133, 97, 55, 7, 20, 1, 50, 22, 7]
abbrev dktX3_worthOf_1 : List UInt8 := dkwX3_worthOf_1 ++ dktX3_worthOf_2
def dkwX3_worthOf_0 : List UInt8 := [10, 42, 180, 0, 67, 133, 97, 55, 7, 20, 1, 50, 22, 7, 105, 27, 133, 97, 55, 7, 20, 1, 52]
abbrev dktX3_worthOf_0 : List UInt8 := dkwX3_worthOf_0 ++ dktX3_worthOf_1
theorem dksX3_worthOf_0 : cX3_worthOf.data.toList.drop 0 = dktX3_worthOf_0 := by decide +kernel
theorem dksX3_worthOf_1 : cX3_worthOf.data.toList.drop 23 = dktX3_worthOf_1 := dk_seg dksX3_worthOf_0 23 rfl rfl
theorem dksX3_worthOf_2 : cX3_worthOf.data.toList.drop 47 = dktX3_worthOf_2 := dk_seg dksX3_worthOf_1 24 rfl rfl
theorem dksX3_worthOf_3 : cX3_worthOf.data.toList.drop 71 = dktX3_worthOf_3 := dk_seg dksX3_worthOf_2 24 rfl rfl
theorem dksX3_worthOf_4 : cX3_worthOf.data.toList.drop 94 = dktX3_worthOf_4 := dk_seg dksX3_worthOf_3 23 rfl rfl
theorem dksX3_worthOf_5 : cX3_worthOf.data.toList.drop 117 = dktX3_worthOf_5 := dk_seg dksX3_worthOf_4 23 rfl rfl
theorem dksX3_worthOf_6 : cX3_worthOf.data.toList.drop 141 = dktX3_worthOf_6 := dk_seg dksX3_worthOf_5 24 rfl rfl
theorem dksX3_worthOf_7 : cX3_worthOf.data.toList.drop 164 = dktX3_worthOf_7 := dk_seg dksX3_worthOf_6 23 rfl rfl
theorem dksX3_worthOf_8 : cX3_worthOf.data.toList.drop 188 = dktX3_worthOf_8 := dk_seg dksX3_worthOf_7 24 rfl rfl
theorem dX3_worthOf_0 : decode cX3_worthOf 0 = .ok (.lconst 1, 1) := dk_10 (dk_at dksX3_worthOf_0 0 rfl rfl)
theorem dX3_worthOf_1 : decode cX3_worthOf 1 = .ok (.aload_n 0, 1) := dk_42 (dk_at dksX3_worthOf_0 1 rfl rfl)
theorem dX3_worthOf_2 : decode cX3_worthOf 2 = .ok (.getfield 67, 3) := dk_180 0 67 (dk_at dksX3_worthOf_0 2 rfl rfl)
theorem dX3_worthOf_5 : decode cX3_worthOf 5 = .ok (.i2l, 1) := dk_133 (dk_at dksX3_worthOf_0 5 rfl rfl)
theorem dX3_worthOf_6 : decode cX3_worthOf 6 = .ok (.ladd, 1) := dk_97 (dk_at dksX3_worthOf_0 6 rfl rfl)
theorem dX3_worthOf_7 : decode cX3_worthOf 7 = .ok (.lstore 7, 2) := dk_55 7 (dk_at dksX3_worthOf_0 7 rfl rfl)
theorem dX3_worthOf_9 : decode cX3_worthOf 9 = .ok (.ldc2_w 306, 3) := dk_20 1 50 (dk_at dksX3_worthOf_0 9 rfl rfl)
theorem dX3_worthOf_12 : decode cX3_worthOf 12 = .ok (.lload 7, 2) := dk_22 7 (dk_at dksX3_worthOf_0 12 rfl rfl)
theorem dX3_worthOf_14 : decode cX3_worthOf 14 = .ok (.lmul, 1) := dk_105 (dk_at dksX3_worthOf_0 14 rfl rfl)
theorem dX3_worthOf_15 : decode cX3_worthOf 15 = .ok (.iload_n 1, 1) := dk_27 (dk_at dksX3_worthOf_0 15 rfl rfl)
theorem dX3_worthOf_16 : decode cX3_worthOf 16 = .ok (.i2l, 1) := dk_133 (dk_at dksX3_worthOf_0 16 rfl rfl)
theorem dX3_worthOf_17 : decode cX3_worthOf 17 = .ok (.ladd, 1) := dk_97 (dk_at dksX3_worthOf_0 17 rfl rfl)
theorem dX3_worthOf_18 : decode cX3_worthOf 18 = .ok (.lstore 7, 2) := dk_55 7 (dk_at dksX3_worthOf_0 18 rfl rfl)
theorem dX3_worthOf_20 : decode cX3_worthOf 20 = .ok (.ldc2_w 308, 3) := dk_20 1 52 (dk_at dksX3_worthOf_0 20 rfl rfl)
theorem dX3_worthOf_23 : decode cX3_worthOf 23 = .ok (.lload 7, 2) := dk_22 7 (dk_at dksX3_worthOf_1 0 rfl rfl)
theorem dX3_worthOf_25 : decode cX3_worthOf 25 = .ok (.lmul, 1) := dk_105 (dk_at dksX3_worthOf_1 2 rfl rfl)
theorem dX3_worthOf_26 : decode cX3_worthOf 26 = .ok (.iload_n 2, 1) := dk_28 (dk_at dksX3_worthOf_1 3 rfl rfl)
theorem dX3_worthOf_27 : decode cX3_worthOf 27 = .ok (.i2l, 1) := dk_133 (dk_at dksX3_worthOf_1 4 rfl rfl)
theorem dX3_worthOf_28 : decode cX3_worthOf 28 = .ok (.ladd, 1) := dk_97 (dk_at dksX3_worthOf_1 5 rfl rfl)
theorem dX3_worthOf_29 : decode cX3_worthOf 29 = .ok (.lstore 7, 2) := dk_55 7 (dk_at dksX3_worthOf_1 6 rfl rfl)
theorem dX3_worthOf_31 : decode cX3_worthOf 31 = .ok (.ldc2_w 308, 3) := dk_20 1 52 (dk_at dksX3_worthOf_1 8 rfl rfl)
theorem dX3_worthOf_34 : decode cX3_worthOf 34 = .ok (.lload 7, 2) := dk_22 7 (dk_at dksX3_worthOf_1 11 rfl rfl)
theorem dX3_worthOf_36 : decode cX3_worthOf 36 = .ok (.lmul, 1) := dk_105 (dk_at dksX3_worthOf_1 13 rfl rfl)
theorem dX3_worthOf_37 : decode cX3_worthOf 37 = .ok (.iload_n 3, 1) := dk_29 (dk_at dksX3_worthOf_1 14 rfl rfl)
theorem dX3_worthOf_38 : decode cX3_worthOf 38 = .ok (.i2l, 1) := dk_133 (dk_at dksX3_worthOf_1 15 rfl rfl)
theorem dX3_worthOf_39 : decode cX3_worthOf 39 = .ok (.ladd, 1) := dk_97 (dk_at dksX3_worthOf_1 16 rfl rfl)
theorem dX3_worthOf_40 : decode cX3_worthOf 40 = .ok (.lstore 7, 2) := dk_55 7 (dk_at dksX3_worthOf_1 17 rfl rfl)
theorem dX3_worthOf_42 : decode cX3_worthOf 42 = .ok (.ldc2_w 306, 3) := dk_20 1 50 (dk_at dksX3_worthOf_1 19 rfl rfl)
theorem dX3_worthOf_45 : decode cX3_worthOf 45 = .ok (.lload 7, 2) := dk_22 7 (dk_at dksX3_worthOf_1 22 rfl rfl)
theorem dX3_worthOf_47 : decode cX3_worthOf 47 = .ok (.lmul, 1) := dk_105 (dk_at dksX3_worthOf_2 0 rfl rfl)
theorem dX3_worthOf_48 : decode cX3_worthOf 48 = .ok (.iload 4, 2) := dk_21 4 (dk_at dksX3_worthOf_2 1 rfl rfl)
theorem dX3_worthOf_50 : decode cX3_worthOf 50 = .ok (.i2l, 1) := dk_133 (dk_at dksX3_worthOf_2 3 rfl rfl)
theorem dX3_worthOf_51 : decode cX3_worthOf 51 = .ok (.ladd, 1) := dk_97 (dk_at dksX3_worthOf_2 4 rfl rfl)
theorem dX3_worthOf_52 : decode cX3_worthOf 52 = .ok (.lstore 7, 2) := dk_55 7 (dk_at dksX3_worthOf_2 5 rfl rfl)
theorem dX3_worthOf_54 : decode cX3_worthOf 54 = .ok (.ldc2_w 310, 3) := dk_20 1 54 (dk_at dksX3_worthOf_2 7 rfl rfl)
theorem dX3_worthOf_57 : decode cX3_worthOf 57 = .ok (.lload 7, 2) := dk_22 7 (dk_at dksX3_worthOf_2 10 rfl rfl)
theorem dX3_worthOf_59 : decode cX3_worthOf 59 = .ok (.lmul, 1) := dk_105 (dk_at dksX3_worthOf_2 12 rfl rfl)
theorem dX3_worthOf_60 : decode cX3_worthOf 60 = .ok (.iload 5, 2) := dk_21 5 (dk_at dksX3_worthOf_2 13 rfl rfl)
theorem dX3_worthOf_62 : decode cX3_worthOf 62 = .ok (.i2l, 1) := dk_133 (dk_at dksX3_worthOf_2 15 rfl rfl)
theorem dX3_worthOf_63 : decode cX3_worthOf 63 = .ok (.ladd, 1) := dk_97 (dk_at dksX3_worthOf_2 16 rfl rfl)
theorem dX3_worthOf_64 : decode cX3_worthOf 64 = .ok (.lstore 7, 2) := dk_55 7 (dk_at dksX3_worthOf_2 17 rfl rfl)
theorem dX3_worthOf_66 : decode cX3_worthOf 66 = .ok (.ldc2_w 312, 3) := dk_20 1 56 (dk_at dksX3_worthOf_2 19 rfl rfl)
theorem dX3_worthOf_69 : decode cX3_worthOf 69 = .ok (.lload 7, 2) := dk_22 7 (dk_at dksX3_worthOf_2 22 rfl rfl)
theorem dX3_worthOf_71 : decode cX3_worthOf 71 = .ok (.lmul, 1) := dk_105 (dk_at dksX3_worthOf_3 0 rfl rfl)
theorem dX3_worthOf_72 : decode cX3_worthOf 72 = .ok (.iload 6, 2) := dk_21 6 (dk_at dksX3_worthOf_3 1 rfl rfl)
theorem dX3_worthOf_74 : decode cX3_worthOf 74 = .ok (.i2l, 1) := dk_133 (dk_at dksX3_worthOf_3 3 rfl rfl)
theorem dX3_worthOf_75 : decode cX3_worthOf 75 = .ok (.ladd, 1) := dk_97 (dk_at dksX3_worthOf_3 4 rfl rfl)
theorem dX3_worthOf_76 : decode cX3_worthOf 76 = .ok (.lstore 7, 2) := dk_55 7 (dk_at dksX3_worthOf_3 5 rfl rfl)
theorem dX3_worthOf_78 : decode cX3_worthOf 78 = .ok (.lload 7, 2) := dk_22 7 (dk_at dksX3_worthOf_3 7 rfl rfl)
theorem dX3_worthOf_80 : decode cX3_worthOf 80 = .ok (.ldc2_w 314, 3) := dk_20 1 58 (dk_at dksX3_worthOf_3 9 rfl rfl)
theorem dX3_worthOf_83 : decode cX3_worthOf 83 = .ok (.lrem, 1) := dk_113 (dk_at dksX3_worthOf_3 12 rfl rfl)
theorem dX3_worthOf_84 : decode cX3_worthOf 84 = .ok (.l2i, 1) := dk_136 (dk_at dksX3_worthOf_3 13 rfl rfl)
theorem dX3_worthOf_85 : decode cX3_worthOf 85 = .ok (.istore 9, 2) := dk_54 9 (dk_at dksX3_worthOf_3 14 rfl rfl)
theorem dX3_worthOf_87 : decode cX3_worthOf 87 = .ok (.aload_n 0, 1) := dk_42 (dk_at dksX3_worthOf_3 16 rfl rfl)
theorem dX3_worthOf_88 : decode cX3_worthOf 88 = .ok (.getfield 74, 3) := dk_180 0 74 (dk_at dksX3_worthOf_3 17 rfl rfl)
theorem dX3_worthOf_91 : decode cX3_worthOf 91 = .ok (.iload 9, 2) := dk_21 9 (dk_at dksX3_worthOf_3 20 rfl rfl)
theorem dX3_worthOf_93 : decode cX3_worthOf 93 = .ok (.laload, 1) := dk_47 (dk_at dksX3_worthOf_3 22 rfl rfl)
theorem dX3_worthOf_94 : decode cX3_worthOf 94 = .ok (.lload 7, 2) := dk_22 7 (dk_at dksX3_worthOf_4 0 rfl rfl)
theorem dX3_worthOf_96 : decode cX3_worthOf 96 = .ok (.lcmp, 1) := dk_148 (dk_at dksX3_worthOf_4 2 rfl rfl)
theorem dX3_worthOf_97 : decode cX3_worthOf 97 = .ok (.ifCond .ne 11, 3) := dk_154 0 11 (dk_at dksX3_worthOf_4 3 rfl rfl)
theorem dX3_worthOf_100 : decode cX3_worthOf 100 = .ok (.aload_n 0, 1) := dk_42 (dk_at dksX3_worthOf_4 6 rfl rfl)
theorem dX3_worthOf_101 : decode cX3_worthOf 101 = .ok (.getfield 78, 3) := dk_180 0 78 (dk_at dksX3_worthOf_4 7 rfl rfl)
theorem dX3_worthOf_104 : decode cX3_worthOf 104 = .ok (.iload 9, 2) := dk_21 9 (dk_at dksX3_worthOf_4 10 rfl rfl)
theorem dX3_worthOf_106 : decode cX3_worthOf 106 = .ok (.iaload, 1) := dk_46 (dk_at dksX3_worthOf_4 12 rfl rfl)
theorem dX3_worthOf_107 : decode cX3_worthOf 107 = .ok (.ireturn, 1) := dk_172 (dk_at dksX3_worthOf_4 13 rfl rfl)
theorem dX3_worthOf_108 : decode cX3_worthOf 108 = .ok (.aload_n 0, 1) := dk_42 (dk_at dksX3_worthOf_4 14 rfl rfl)
theorem dX3_worthOf_109 : decode cX3_worthOf 109 = .ok (.getfield 20, 3) := dk_180 0 20 (dk_at dksX3_worthOf_4 15 rfl rfl)
theorem dX3_worthOf_112 : decode cX3_worthOf 112 = .ok (.bipush 109, 2) := dk_16 109 (dk_at dksX3_worthOf_4 18 rfl rfl)
theorem dX3_worthOf_114 : decode cX3_worthOf 114 = .ok (.iload_n 1, 1) := dk_27 (dk_at dksX3_worthOf_4 20 rfl rfl)
theorem dX3_worthOf_115 : decode cX3_worthOf 115 = .ok (.iastore, 1) := dk_79 (dk_at dksX3_worthOf_4 21 rfl rfl)
theorem dX3_worthOf_116 : decode cX3_worthOf 116 = .ok (.aload_n 0, 1) := dk_42 (dk_at dksX3_worthOf_4 22 rfl rfl)
theorem dX3_worthOf_117 : decode cX3_worthOf 117 = .ok (.getfield 20, 3) := dk_180 0 20 (dk_at dksX3_worthOf_5 0 rfl rfl)
theorem dX3_worthOf_120 : decode cX3_worthOf 120 = .ok (.bipush 103, 2) := dk_16 103 (dk_at dksX3_worthOf_5 3 rfl rfl)
theorem dX3_worthOf_122 : decode cX3_worthOf 122 = .ok (.iload_n 2, 1) := dk_28 (dk_at dksX3_worthOf_5 5 rfl rfl)
theorem dX3_worthOf_123 : decode cX3_worthOf 123 = .ok (.iastore, 1) := dk_79 (dk_at dksX3_worthOf_5 6 rfl rfl)
theorem dX3_worthOf_124 : decode cX3_worthOf 124 = .ok (.aload_n 0, 1) := dk_42 (dk_at dksX3_worthOf_5 7 rfl rfl)
theorem dX3_worthOf_125 : decode cX3_worthOf 125 = .ok (.getfield 20, 3) := dk_180 0 20 (dk_at dksX3_worthOf_5 8 rfl rfl)
theorem dX3_worthOf_128 : decode cX3_worthOf 128 = .ok (.bipush 115, 2) := dk_16 115 (dk_at dksX3_worthOf_5 11 rfl rfl)
theorem dX3_worthOf_130 : decode cX3_worthOf 130 = .ok (.iload_n 3, 1) := dk_29 (dk_at dksX3_worthOf_5 13 rfl rfl)
theorem dX3_worthOf_131 : decode cX3_worthOf 131 = .ok (.iastore, 1) := dk_79 (dk_at dksX3_worthOf_5 14 rfl rfl)
theorem dX3_worthOf_132 : decode cX3_worthOf 132 = .ok (.aload_n 0, 1) := dk_42 (dk_at dksX3_worthOf_5 15 rfl rfl)
theorem dX3_worthOf_133 : decode cX3_worthOf 133 = .ok (.getfield 20, 3) := dk_180 0 20 (dk_at dksX3_worthOf_5 16 rfl rfl)
theorem dX3_worthOf_136 : decode cX3_worthOf 136 = .ok (.bipush 112, 2) := dk_16 112 (dk_at dksX3_worthOf_5 19 rfl rfl)
theorem dX3_worthOf_138 : decode cX3_worthOf 138 = .ok (.iload 4, 2) := dk_21 4 (dk_at dksX3_worthOf_5 21 rfl rfl)
theorem dX3_worthOf_140 : decode cX3_worthOf 140 = .ok (.iastore, 1) := dk_79 (dk_at dksX3_worthOf_5 23 rfl rfl)
theorem dX3_worthOf_141 : decode cX3_worthOf 141 = .ok (.aload_n 0, 1) := dk_42 (dk_at dksX3_worthOf_6 0 rfl rfl)
theorem dX3_worthOf_142 : decode cX3_worthOf 142 = .ok (.getfield 20, 3) := dk_180 0 20 (dk_at dksX3_worthOf_6 1 rfl rfl)
theorem dX3_worthOf_145 : decode cX3_worthOf 145 = .ok (.bipush 119, 2) := dk_16 119 (dk_at dksX3_worthOf_6 4 rfl rfl)
theorem dX3_worthOf_147 : decode cX3_worthOf 147 = .ok (.iload 5, 2) := dk_21 5 (dk_at dksX3_worthOf_6 6 rfl rfl)
theorem dX3_worthOf_149 : decode cX3_worthOf 149 = .ok (.iastore, 1) := dk_79 (dk_at dksX3_worthOf_6 8 rfl rfl)
theorem dX3_worthOf_150 : decode cX3_worthOf 150 = .ok (.aload_n 0, 1) := dk_42 (dk_at dksX3_worthOf_6 9 rfl rfl)
theorem dX3_worthOf_151 : decode cX3_worthOf 151 = .ok (.getfield 20, 3) := dk_180 0 20 (dk_at dksX3_worthOf_6 10 rfl rfl)
theorem dX3_worthOf_154 : decode cX3_worthOf 154 = .ok (.bipush 100, 2) := dk_16 100 (dk_at dksX3_worthOf_6 13 rfl rfl)
theorem dX3_worthOf_156 : decode cX3_worthOf 156 = .ok (.iload 6, 2) := dk_21 6 (dk_at dksX3_worthOf_6 15 rfl rfl)
theorem dX3_worthOf_158 : decode cX3_worthOf 158 = .ok (.iastore, 1) := dk_79 (dk_at dksX3_worthOf_6 17 rfl rfl)
theorem dX3_worthOf_159 : decode cX3_worthOf 159 = .ok (.aload_n 0, 1) := dk_42 (dk_at dksX3_worthOf_6 18 rfl rfl)
theorem dX3_worthOf_160 : decode cX3_worthOf 160 = .ok (.aload_n 0, 1) := dk_42 (dk_at dksX3_worthOf_6 19 rfl rfl)
theorem dX3_worthOf_161 : decode cX3_worthOf 161 = .ok (.getfield 13, 3) := dk_180 0 13 (dk_at dksX3_worthOf_6 20 rfl rfl)
theorem dX3_worthOf_164 : decode cX3_worthOf 164 = .ok (.sipush 240, 3) := dk_17 0 240 (dk_at dksX3_worthOf_7 0 rfl rfl)
theorem dX3_worthOf_167 : decode cX3_worthOf 167 = .ok (.aload_n 0, 1) := dk_42 (dk_at dksX3_worthOf_7 3 rfl rfl)
theorem dX3_worthOf_168 : decode cX3_worthOf 168 = .ok (.getfield 67, 3) := dk_180 0 67 (dk_at dksX3_worthOf_7 4 rfl rfl)
theorem dX3_worthOf_171 : decode cX3_worthOf 171 = .ok (.imul, 1) := dk_104 (dk_at dksX3_worthOf_7 7 rfl rfl)
theorem dX3_worthOf_172 : decode cX3_worthOf 172 = .ok (.aload_n 0, 1) := dk_42 (dk_at dksX3_worthOf_7 8 rfl rfl)
theorem dX3_worthOf_173 : decode cX3_worthOf 173 = .ok (.getfield 16, 3) := dk_180 0 16 (dk_at dksX3_worthOf_7 9 rfl rfl)
theorem dX3_worthOf_176 : decode cX3_worthOf 176 = .ok (.aload_n 0, 1) := dk_42 (dk_at dksX3_worthOf_7 12 rfl rfl)
theorem dX3_worthOf_177 : decode cX3_worthOf 177 = .ok (.getfield 67, 3) := dk_180 0 67 (dk_at dksX3_worthOf_7 13 rfl rfl)
theorem dX3_worthOf_180 : decode cX3_worthOf 180 = .ok (.iaload, 1) := dk_46 (dk_at dksX3_worthOf_7 16 rfl rfl)
theorem dX3_worthOf_181 : decode cX3_worthOf 181 = .ok (.invokevirtual 277, 3) := dk_182 1 21 (dk_at dksX3_worthOf_7 17 rfl rfl)
theorem dX3_worthOf_184 : decode cX3_worthOf 184 = .ok (.aload_n 0, 1) := dk_42 (dk_at dksX3_worthOf_7 20 rfl rfl)
theorem dX3_worthOf_185 : decode cX3_worthOf 185 = .ok (.getfield 74, 3) := dk_180 0 74 (dk_at dksX3_worthOf_7 21 rfl rfl)
theorem dX3_worthOf_188 : decode cX3_worthOf 188 = .ok (.iload 9, 2) := dk_21 9 (dk_at dksX3_worthOf_8 0 rfl rfl)
theorem dX3_worthOf_190 : decode cX3_worthOf 190 = .ok (.lload 7, 2) := dk_22 7 (dk_at dksX3_worthOf_8 2 rfl rfl)
theorem dX3_worthOf_192 : decode cX3_worthOf 192 = .ok (.lastore, 1) := dk_80 (dk_at dksX3_worthOf_8 4 rfl rfl)
theorem dX3_worthOf_193 : decode cX3_worthOf 193 = .ok (.aload_n 0, 1) := dk_42 (dk_at dksX3_worthOf_8 5 rfl rfl)
theorem dX3_worthOf_194 : decode cX3_worthOf 194 = .ok (.getfield 78, 3) := dk_180 0 78 (dk_at dksX3_worthOf_8 6 rfl rfl)
theorem dX3_worthOf_197 : decode cX3_worthOf 197 = .ok (.iload 9, 2) := dk_21 9 (dk_at dksX3_worthOf_8 9 rfl rfl)
theorem dX3_worthOf_199 : decode cX3_worthOf 199 = .ok (.aload_n 0, 1) := dk_42 (dk_at dksX3_worthOf_8 11 rfl rfl)
theorem dX3_worthOf_200 : decode cX3_worthOf 200 = .ok (.getfield 207, 3) := dk_180 0 207 (dk_at dksX3_worthOf_8 12 rfl rfl)
theorem dX3_worthOf_203 : decode cX3_worthOf 203 = .ok (.iastore, 1) := dk_79 (dk_at dksX3_worthOf_8 15 rfl rfl)
theorem dX3_worthOf_204 : decode cX3_worthOf 204 = .ok (.aload_n 0, 1) := dk_42 (dk_at dksX3_worthOf_8 16 rfl rfl)
theorem dX3_worthOf_205 : decode cX3_worthOf 205 = .ok (.getfield 207, 3) := dk_180 0 207 (dk_at dksX3_worthOf_8 17 rfl rfl)
theorem dX3_worthOf_208 : decode cX3_worthOf 208 = .ok (.ireturn, 1) := dk_172 (dk_at dksX3_worthOf_8 20 rfl rfl)
abbrev cX3_writes : ByteArray := prog_14_method_48_code
def yX3_writes : MethodName := ⟨RX3, "writes", "([IIII)V"⟩
def dkwX3_writes_2 : List UInt8 := [16, 19, 92, 46, 4, 96, 79, 177]
abbrev dktX3_writes_2 : List UInt8 := dkwX3_writes_2 ++ []
def dkwX3_writes_1 : List UInt8 := [54, 5, 43, 21, 5, 28, 79, 43, 21, 5, 4, 96, 29, 79, 43, 21, 5, 5, 96, 21, 4, 79, 43]
abbrev dktX3_writes_1 : List UInt8 := dkwX3_writes_1 ++ dktX3_writes_2
def dkwX3_writes_0 : List UInt8 := [43, 16, 19, 46, 16, 30, 160, 0, 8, 43, 3, 184, 1, 80, 16, 20, 6, 43, 16, 19, 46, 104, 96]
abbrev dktX3_writes_0 : List UInt8 := dkwX3_writes_0 ++ dktX3_writes_1
theorem dksX3_writes_0 : cX3_writes.data.toList.drop 0 = dktX3_writes_0 := by decide +kernel
theorem dksX3_writes_1 : cX3_writes.data.toList.drop 23 = dktX3_writes_1 := dk_seg dksX3_writes_0 23 rfl rfl
theorem dksX3_writes_2 : cX3_writes.data.toList.drop 46 = dktX3_writes_2 := dk_seg dksX3_writes_1 23 rfl rfl
theorem dX3_writes_0 : decode cX3_writes 0 = .ok (.aload_n 1, 1) := dk_43 (dk_at dksX3_writes_0 0 rfl rfl)
theorem dX3_writes_1 : decode cX3_writes 1 = .ok (.bipush 19, 2) := dk_16 19 (dk_at dksX3_writes_0 1 rfl rfl)
theorem dX3_writes_3 : decode cX3_writes 3 = .ok (.iaload, 1) := dk_46 (dk_at dksX3_writes_0 3 rfl rfl)
theorem dX3_writes_4 : decode cX3_writes 4 = .ok (.bipush 30, 2) := dk_16 30 (dk_at dksX3_writes_0 4 rfl rfl)
theorem dX3_writes_6 : decode cX3_writes 6 = .ok (.if_icmp .ne 8, 3) := dk_160 0 8 (dk_at dksX3_writes_0 6 rfl rfl)
theorem dX3_writes_9 : decode cX3_writes 9 = .ok (.aload_n 1, 1) := dk_43 (dk_at dksX3_writes_0 9 rfl rfl)
theorem dX3_writes_10 : decode cX3_writes 10 = .ok (.iconst 0, 1) := dk_3 (dk_at dksX3_writes_0 10 rfl rfl)
theorem dX3_writes_11 : decode cX3_writes 11 = .ok (.invokestatic 336, 3) := dk_184 1 80 (dk_at dksX3_writes_0 11 rfl rfl)
theorem dX3_writes_14 : decode cX3_writes 14 = .ok (.bipush 20, 2) := dk_16 20 (dk_at dksX3_writes_0 14 rfl rfl)
theorem dX3_writes_16 : decode cX3_writes 16 = .ok (.iconst 3, 1) := dk_6 (dk_at dksX3_writes_0 16 rfl rfl)
theorem dX3_writes_17 : decode cX3_writes 17 = .ok (.aload_n 1, 1) := dk_43 (dk_at dksX3_writes_0 17 rfl rfl)
theorem dX3_writes_18 : decode cX3_writes 18 = .ok (.bipush 19, 2) := dk_16 19 (dk_at dksX3_writes_0 18 rfl rfl)
theorem dX3_writes_20 : decode cX3_writes 20 = .ok (.iaload, 1) := dk_46 (dk_at dksX3_writes_0 20 rfl rfl)
theorem dX3_writes_21 : decode cX3_writes 21 = .ok (.imul, 1) := dk_104 (dk_at dksX3_writes_0 21 rfl rfl)
theorem dX3_writes_22 : decode cX3_writes 22 = .ok (.iadd, 1) := dk_96 (dk_at dksX3_writes_0 22 rfl rfl)
theorem dX3_writes_23 : decode cX3_writes 23 = .ok (.istore 5, 2) := dk_54 5 (dk_at dksX3_writes_1 0 rfl rfl)
theorem dX3_writes_25 : decode cX3_writes 25 = .ok (.aload_n 1, 1) := dk_43 (dk_at dksX3_writes_1 2 rfl rfl)
theorem dX3_writes_26 : decode cX3_writes 26 = .ok (.iload 5, 2) := dk_21 5 (dk_at dksX3_writes_1 3 rfl rfl)
theorem dX3_writes_28 : decode cX3_writes 28 = .ok (.iload_n 2, 1) := dk_28 (dk_at dksX3_writes_1 5 rfl rfl)
theorem dX3_writes_29 : decode cX3_writes 29 = .ok (.iastore, 1) := dk_79 (dk_at dksX3_writes_1 6 rfl rfl)
theorem dX3_writes_30 : decode cX3_writes 30 = .ok (.aload_n 1, 1) := dk_43 (dk_at dksX3_writes_1 7 rfl rfl)
theorem dX3_writes_31 : decode cX3_writes 31 = .ok (.iload 5, 2) := dk_21 5 (dk_at dksX3_writes_1 8 rfl rfl)
theorem dX3_writes_33 : decode cX3_writes 33 = .ok (.iconst 1, 1) := dk_4 (dk_at dksX3_writes_1 10 rfl rfl)
theorem dX3_writes_34 : decode cX3_writes 34 = .ok (.iadd, 1) := dk_96 (dk_at dksX3_writes_1 11 rfl rfl)
theorem dX3_writes_35 : decode cX3_writes 35 = .ok (.iload_n 3, 1) := dk_29 (dk_at dksX3_writes_1 12 rfl rfl)
theorem dX3_writes_36 : decode cX3_writes 36 = .ok (.iastore, 1) := dk_79 (dk_at dksX3_writes_1 13 rfl rfl)
theorem dX3_writes_37 : decode cX3_writes 37 = .ok (.aload_n 1, 1) := dk_43 (dk_at dksX3_writes_1 14 rfl rfl)
theorem dX3_writes_38 : decode cX3_writes 38 = .ok (.iload 5, 2) := dk_21 5 (dk_at dksX3_writes_1 15 rfl rfl)
theorem dX3_writes_40 : decode cX3_writes 40 = .ok (.iconst 2, 1) := dk_5 (dk_at dksX3_writes_1 17 rfl rfl)
theorem dX3_writes_41 : decode cX3_writes 41 = .ok (.iadd, 1) := dk_96 (dk_at dksX3_writes_1 18 rfl rfl)
theorem dX3_writes_42 : decode cX3_writes 42 = .ok (.iload 4, 2) := dk_21 4 (dk_at dksX3_writes_1 19 rfl rfl)
theorem dX3_writes_44 : decode cX3_writes 44 = .ok (.iastore, 1) := dk_79 (dk_at dksX3_writes_1 21 rfl rfl)
theorem dX3_writes_45 : decode cX3_writes 45 = .ok (.aload_n 1, 1) := dk_43 (dk_at dksX3_writes_1 22 rfl rfl)
theorem dX3_writes_46 : decode cX3_writes 46 = .ok (.bipush 19, 2) := dk_16 19 (dk_at dksX3_writes_2 0 rfl rfl)
theorem dX3_writes_48 : decode cX3_writes 48 = .ok (.dup2, 1) := dk_92 (dk_at dksX3_writes_2 2 rfl rfl)
theorem dX3_writes_49 : decode cX3_writes 49 = .ok (.iaload, 1) := dk_46 (dk_at dksX3_writes_2 3 rfl rfl)
theorem dX3_writes_50 : decode cX3_writes 50 = .ok (.iconst 1, 1) := dk_4 (dk_at dksX3_writes_2 4 rfl rfl)
theorem dX3_writes_51 : decode cX3_writes 51 = .ok (.iadd, 1) := dk_96 (dk_at dksX3_writes_2 5 rfl rfl)
theorem dX3_writes_52 : decode cX3_writes 52 = .ok (.iastore, 1) := dk_79 (dk_at dksX3_writes_2 6 rfl rfl)
theorem dX3_writes_53 : decode cX3_writes 53 = .ok (.return_, 1) := dk_177 (dk_at dksX3_writes_2 7 rfl rfl)
abbrev cX3_burns : ByteArray := prog_14_method_49_code
def yX3_burns : MethodName := ⟨RX3, "burns", "([II)V"⟩
def dkwX3_burns_2 : List UInt8 := [163, 0, 23, 42, 16, 19, 6, 42, 16, 19, 46, 104, 96, 28, 96, 3, 79, 132, 2, 1, 167, 255, 234, 177]
abbrev dktX3_burns_2 : List UInt8 := dkwX3_burns_2 ++ []
def dkwX3_burns_1 : List UInt8 := [96, 162, 0, 17, 42, 28, 42, 28, 6, 96, 46, 79, 132, 2, 1, 167, 255, 232, 4, 61, 28, 6]
abbrev dktX3_burns_1 : List UInt8 := dkwX3_burns_1 ++ dktX3_burns_2
def dkwX3_burns_0 : List UInt8 := [42, 16, 19, 92, 46, 4, 100, 79, 16, 20, 6, 27, 104, 96, 61, 28, 16, 20, 6, 42, 16, 19, 46, 104]
abbrev dktX3_burns_0 : List UInt8 := dkwX3_burns_0 ++ dktX3_burns_1
theorem dksX3_burns_0 : cX3_burns.data.toList.drop 0 = dktX3_burns_0 := by decide +kernel
theorem dksX3_burns_1 : cX3_burns.data.toList.drop 24 = dktX3_burns_1 := dk_seg dksX3_burns_0 24 rfl rfl
theorem dksX3_burns_2 : cX3_burns.data.toList.drop 46 = dktX3_burns_2 := dk_seg dksX3_burns_1 22 rfl rfl
theorem dX3_burns_0 : decode cX3_burns 0 = .ok (.aload_n 0, 1) := dk_42 (dk_at dksX3_burns_0 0 rfl rfl)
theorem dX3_burns_1 : decode cX3_burns 1 = .ok (.bipush 19, 2) := dk_16 19 (dk_at dksX3_burns_0 1 rfl rfl)
theorem dX3_burns_3 : decode cX3_burns 3 = .ok (.dup2, 1) := dk_92 (dk_at dksX3_burns_0 3 rfl rfl)
theorem dX3_burns_4 : decode cX3_burns 4 = .ok (.iaload, 1) := dk_46 (dk_at dksX3_burns_0 4 rfl rfl)
theorem dX3_burns_5 : decode cX3_burns 5 = .ok (.iconst 1, 1) := dk_4 (dk_at dksX3_burns_0 5 rfl rfl)
theorem dX3_burns_6 : decode cX3_burns 6 = .ok (.isub, 1) := dk_100 (dk_at dksX3_burns_0 6 rfl rfl)
theorem dX3_burns_7 : decode cX3_burns 7 = .ok (.iastore, 1) := dk_79 (dk_at dksX3_burns_0 7 rfl rfl)
theorem dX3_burns_8 : decode cX3_burns 8 = .ok (.bipush 20, 2) := dk_16 20 (dk_at dksX3_burns_0 8 rfl rfl)
theorem dX3_burns_10 : decode cX3_burns 10 = .ok (.iconst 3, 1) := dk_6 (dk_at dksX3_burns_0 10 rfl rfl)
theorem dX3_burns_11 : decode cX3_burns 11 = .ok (.iload_n 1, 1) := dk_27 (dk_at dksX3_burns_0 11 rfl rfl)
theorem dX3_burns_12 : decode cX3_burns 12 = .ok (.imul, 1) := dk_104 (dk_at dksX3_burns_0 12 rfl rfl)
theorem dX3_burns_13 : decode cX3_burns 13 = .ok (.iadd, 1) := dk_96 (dk_at dksX3_burns_0 13 rfl rfl)
theorem dX3_burns_14 : decode cX3_burns 14 = .ok (.istore_n 2, 1) := dk_61 (dk_at dksX3_burns_0 14 rfl rfl)
theorem dX3_burns_15 : decode cX3_burns 15 = .ok (.iload_n 2, 1) := dk_28 (dk_at dksX3_burns_0 15 rfl rfl)
theorem dX3_burns_16 : decode cX3_burns 16 = .ok (.bipush 20, 2) := dk_16 20 (dk_at dksX3_burns_0 16 rfl rfl)
theorem dX3_burns_18 : decode cX3_burns 18 = .ok (.iconst 3, 1) := dk_6 (dk_at dksX3_burns_0 18 rfl rfl)
theorem dX3_burns_19 : decode cX3_burns 19 = .ok (.aload_n 0, 1) := dk_42 (dk_at dksX3_burns_0 19 rfl rfl)
theorem dX3_burns_20 : decode cX3_burns 20 = .ok (.bipush 19, 2) := dk_16 19 (dk_at dksX3_burns_0 20 rfl rfl)
theorem dX3_burns_22 : decode cX3_burns 22 = .ok (.iaload, 1) := dk_46 (dk_at dksX3_burns_0 22 rfl rfl)
theorem dX3_burns_23 : decode cX3_burns 23 = .ok (.imul, 1) := dk_104 (dk_at dksX3_burns_0 23 rfl rfl)
theorem dX3_burns_24 : decode cX3_burns 24 = .ok (.iadd, 1) := dk_96 (dk_at dksX3_burns_1 0 rfl rfl)
theorem dX3_burns_25 : decode cX3_burns 25 = .ok (.if_icmp .ge 17, 3) := dk_162 0 17 (dk_at dksX3_burns_1 1 rfl rfl)
theorem dX3_burns_28 : decode cX3_burns 28 = .ok (.aload_n 0, 1) := dk_42 (dk_at dksX3_burns_1 4 rfl rfl)
theorem dX3_burns_29 : decode cX3_burns 29 = .ok (.iload_n 2, 1) := dk_28 (dk_at dksX3_burns_1 5 rfl rfl)
theorem dX3_burns_30 : decode cX3_burns 30 = .ok (.aload_n 0, 1) := dk_42 (dk_at dksX3_burns_1 6 rfl rfl)
theorem dX3_burns_31 : decode cX3_burns 31 = .ok (.iload_n 2, 1) := dk_28 (dk_at dksX3_burns_1 7 rfl rfl)
theorem dX3_burns_32 : decode cX3_burns 32 = .ok (.iconst 3, 1) := dk_6 (dk_at dksX3_burns_1 8 rfl rfl)
theorem dX3_burns_33 : decode cX3_burns 33 = .ok (.iadd, 1) := dk_96 (dk_at dksX3_burns_1 9 rfl rfl)
theorem dX3_burns_34 : decode cX3_burns 34 = .ok (.iaload, 1) := dk_46 (dk_at dksX3_burns_1 10 rfl rfl)
theorem dX3_burns_35 : decode cX3_burns 35 = .ok (.iastore, 1) := dk_79 (dk_at dksX3_burns_1 11 rfl rfl)
theorem dX3_burns_36 : decode cX3_burns 36 = .ok (.iinc 2 1, 3) := dk_132 2 1 (dk_at dksX3_burns_1 12 rfl rfl)
theorem dX3_burns_39 : decode cX3_burns 39 = .ok (.goto (-24), 3) := dk_167 255 232 (dk_at dksX3_burns_1 15 rfl rfl)
theorem dX3_burns_42 : decode cX3_burns 42 = .ok (.iconst 1, 1) := dk_4 (dk_at dksX3_burns_1 18 rfl rfl)
theorem dX3_burns_43 : decode cX3_burns 43 = .ok (.istore_n 2, 1) := dk_61 (dk_at dksX3_burns_1 19 rfl rfl)
theorem dX3_burns_44 : decode cX3_burns 44 = .ok (.iload_n 2, 1) := dk_28 (dk_at dksX3_burns_1 20 rfl rfl)
theorem dX3_burns_45 : decode cX3_burns 45 = .ok (.iconst 3, 1) := dk_6 (dk_at dksX3_burns_1 21 rfl rfl)
theorem dX3_burns_46 : decode cX3_burns 46 = .ok (.if_icmp .gt 23, 3) := dk_163 0 23 (dk_at dksX3_burns_2 0 rfl rfl)
theorem dX3_burns_49 : decode cX3_burns 49 = .ok (.aload_n 0, 1) := dk_42 (dk_at dksX3_burns_2 3 rfl rfl)
theorem dX3_burns_50 : decode cX3_burns 50 = .ok (.bipush 19, 2) := dk_16 19 (dk_at dksX3_burns_2 4 rfl rfl)
theorem dX3_burns_52 : decode cX3_burns 52 = .ok (.iconst 3, 1) := dk_6 (dk_at dksX3_burns_2 6 rfl rfl)
theorem dX3_burns_53 : decode cX3_burns 53 = .ok (.aload_n 0, 1) := dk_42 (dk_at dksX3_burns_2 7 rfl rfl)
theorem dX3_burns_54 : decode cX3_burns 54 = .ok (.bipush 19, 2) := dk_16 19 (dk_at dksX3_burns_2 8 rfl rfl)
theorem dX3_burns_56 : decode cX3_burns 56 = .ok (.iaload, 1) := dk_46 (dk_at dksX3_burns_2 10 rfl rfl)
theorem dX3_burns_57 : decode cX3_burns 57 = .ok (.imul, 1) := dk_104 (dk_at dksX3_burns_2 11 rfl rfl)
theorem dX3_burns_58 : decode cX3_burns 58 = .ok (.iadd, 1) := dk_96 (dk_at dksX3_burns_2 12 rfl rfl)
theorem dX3_burns_59 : decode cX3_burns 59 = .ok (.iload_n 2, 1) := dk_28 (dk_at dksX3_burns_2 13 rfl rfl)
theorem dX3_burns_60 : decode cX3_burns 60 = .ok (.iadd, 1) := dk_96 (dk_at dksX3_burns_2 14 rfl rfl)
theorem dX3_burns_61 : decode cX3_burns 61 = .ok (.iconst 0, 1) := dk_3 (dk_at dksX3_burns_2 15 rfl rfl)
theorem dX3_burns_62 : decode cX3_burns 62 = .ok (.iastore, 1) := dk_79 (dk_at dksX3_burns_2 16 rfl rfl)
theorem dX3_burns_63 : decode cX3_burns 63 = .ok (.iinc 2 1, 3) := dk_132 2 1 (dk_at dksX3_burns_2 17 rfl rfl)
theorem dX3_burns_66 : decode cX3_burns 66 = .ok (.goto (-22), 3) := dk_167 255 234 (dk_at dksX3_burns_2 20 rfl rfl)
theorem dX3_burns_69 : decode cX3_burns 69 = .ok (.return_, 1) := dk_177 (dk_at dksX3_burns_2 23 rfl rfl)
abbrev cX3_hold : ByteArray := prog_14_method_57_code
def yX3_hold : MethodName := ⟨RX3, "hold", "(I)I"⟩
def dkwX3_hold_1 : List UInt8 := [16, 16, 92, 46, 4, 27, 120, 130, 79, 42, 180, 0, 61, 16, 16, 46, 27, 122, 4, 126, 172]
abbrev dktX3_hold_1 : List UInt8 := dkwX3_hold_1 ++ []
def dkwX3_hold_0 : List UInt8 := [42, 3, 181, 0, 99, 42, 27, 182, 1, 91, 154, 0, 5, 2, 172, 42, 182, 1, 103, 42, 180, 0, 61]
abbrev dktX3_hold_0 : List UInt8 := dkwX3_hold_0 ++ dktX3_hold_1
theorem dksX3_hold_0 : cX3_hold.data.toList.drop 0 = dktX3_hold_0 := by decide +kernel
theorem dksX3_hold_1 : cX3_hold.data.toList.drop 23 = dktX3_hold_1 := dk_seg dksX3_hold_0 23 rfl rfl
theorem dX3_hold_0 : decode cX3_hold 0 = .ok (.aload_n 0, 1) := dk_42 (dk_at dksX3_hold_0 0 rfl rfl)
theorem dX3_hold_1 : decode cX3_hold 1 = .ok (.iconst 0, 1) := dk_3 (dk_at dksX3_hold_0 1 rfl rfl)
theorem dX3_hold_2 : decode cX3_hold 2 = .ok (.putfield 99, 3) := dk_181 0 99 (dk_at dksX3_hold_0 2 rfl rfl)
theorem dX3_hold_5 : decode cX3_hold 5 = .ok (.aload_n 0, 1) := dk_42 (dk_at dksX3_hold_0 5 rfl rfl)
theorem dX3_hold_6 : decode cX3_hold 6 = .ok (.iload_n 1, 1) := dk_27 (dk_at dksX3_hold_0 6 rfl rfl)
theorem dX3_hold_7 : decode cX3_hold 7 = .ok (.invokevirtual 347, 3) := dk_182 1 91 (dk_at dksX3_hold_0 7 rfl rfl)
theorem dX3_hold_10 : decode cX3_hold 10 = .ok (.ifCond .ne 5, 3) := dk_154 0 5 (dk_at dksX3_hold_0 10 rfl rfl)
theorem dX3_hold_13 : decode cX3_hold 13 = .ok (.iconst (-1), 1) := dk_2 (dk_at dksX3_hold_0 13 rfl rfl)
theorem dX3_hold_14 : decode cX3_hold 14 = .ok (.ireturn, 1) := dk_172 (dk_at dksX3_hold_0 14 rfl rfl)
theorem dX3_hold_15 : decode cX3_hold 15 = .ok (.aload_n 0, 1) := dk_42 (dk_at dksX3_hold_0 15 rfl rfl)
theorem dX3_hold_16 : decode cX3_hold 16 = .ok (.invokevirtual 359, 3) := dk_182 1 103 (dk_at dksX3_hold_0 16 rfl rfl)
theorem dX3_hold_19 : decode cX3_hold 19 = .ok (.aload_n 0, 1) := dk_42 (dk_at dksX3_hold_0 19 rfl rfl)
theorem dX3_hold_20 : decode cX3_hold 20 = .ok (.getfield 61, 3) := dk_180 0 61 (dk_at dksX3_hold_0 20 rfl rfl)
theorem dX3_hold_23 : decode cX3_hold 23 = .ok (.bipush 16, 2) := dk_16 16 (dk_at dksX3_hold_1 0 rfl rfl)
theorem dX3_hold_25 : decode cX3_hold 25 = .ok (.dup2, 1) := dk_92 (dk_at dksX3_hold_1 2 rfl rfl)
theorem dX3_hold_26 : decode cX3_hold 26 = .ok (.iaload, 1) := dk_46 (dk_at dksX3_hold_1 3 rfl rfl)
theorem dX3_hold_27 : decode cX3_hold 27 = .ok (.iconst 1, 1) := dk_4 (dk_at dksX3_hold_1 4 rfl rfl)
theorem dX3_hold_28 : decode cX3_hold 28 = .ok (.iload_n 1, 1) := dk_27 (dk_at dksX3_hold_1 5 rfl rfl)
theorem dX3_hold_29 : decode cX3_hold 29 = .ok (.ishl, 1) := dk_120 (dk_at dksX3_hold_1 6 rfl rfl)
theorem dX3_hold_30 : decode cX3_hold 30 = .ok (.ixor, 1) := dk_130 (dk_at dksX3_hold_1 7 rfl rfl)
theorem dX3_hold_31 : decode cX3_hold 31 = .ok (.iastore, 1) := dk_79 (dk_at dksX3_hold_1 8 rfl rfl)
theorem dX3_hold_32 : decode cX3_hold 32 = .ok (.aload_n 0, 1) := dk_42 (dk_at dksX3_hold_1 9 rfl rfl)
theorem dX3_hold_33 : decode cX3_hold 33 = .ok (.getfield 61, 3) := dk_180 0 61 (dk_at dksX3_hold_1 10 rfl rfl)
theorem dX3_hold_36 : decode cX3_hold 36 = .ok (.bipush 16, 2) := dk_16 16 (dk_at dksX3_hold_1 13 rfl rfl)
theorem dX3_hold_38 : decode cX3_hold 38 = .ok (.iaload, 1) := dk_46 (dk_at dksX3_hold_1 15 rfl rfl)
theorem dX3_hold_39 : decode cX3_hold 39 = .ok (.iload_n 1, 1) := dk_27 (dk_at dksX3_hold_1 16 rfl rfl)
theorem dX3_hold_40 : decode cX3_hold 40 = .ok (.ishr, 1) := dk_122 (dk_at dksX3_hold_1 17 rfl rfl)
theorem dX3_hold_41 : decode cX3_hold 41 = .ok (.iconst 1, 1) := dk_4 (dk_at dksX3_hold_1 18 rfl rfl)
theorem dX3_hold_42 : decode cX3_hold 42 = .ok (.iand, 1) := dk_126 (dk_at dksX3_hold_1 19 rfl rfl)
theorem dX3_hold_43 : decode cX3_hold 43 = .ok (.ireturn, 1) := dk_172 (dk_at dksX3_hold_1 20 rfl rfl)
abbrev cX3_arm : ByteArray := prog_14_method_61_code
def yX3_arm : MethodName := ⟨RX3, "arm", "(I)I"⟩
def dkwX3_arm_1 : List UInt8 := [180, 0, 61, 27, 3, 5, 184, 1, 114, 42, 180, 0, 61, 7, 27, 104, 3, 96, 46, 172]
abbrev dktX3_arm_1 : List UInt8 := dkwX3_arm_1 ++ []
def dkwX3_arm_0 : List UInt8 := [42, 3, 181, 0, 99, 42, 42, 180, 0, 61, 27, 182, 1, 110, 154, 0, 5, 2, 172, 42, 182, 1, 103, 42]
abbrev dktX3_arm_0 : List UInt8 := dkwX3_arm_0 ++ dktX3_arm_1
theorem dksX3_arm_0 : cX3_arm.data.toList.drop 0 = dktX3_arm_0 := by decide +kernel
theorem dksX3_arm_1 : cX3_arm.data.toList.drop 24 = dktX3_arm_1 := dk_seg dksX3_arm_0 24 rfl rfl
theorem dX3_arm_0 : decode cX3_arm 0 = .ok (.aload_n 0, 1) := dk_42 (dk_at dksX3_arm_0 0 rfl rfl)
theorem dX3_arm_1 : decode cX3_arm 1 = .ok (.iconst 0, 1) := dk_3 (dk_at dksX3_arm_0 1 rfl rfl)
theorem dX3_arm_2 : decode cX3_arm 2 = .ok (.putfield 99, 3) := dk_181 0 99 (dk_at dksX3_arm_0 2 rfl rfl)
theorem dX3_arm_5 : decode cX3_arm 5 = .ok (.aload_n 0, 1) := dk_42 (dk_at dksX3_arm_0 5 rfl rfl)
theorem dX3_arm_6 : decode cX3_arm 6 = .ok (.aload_n 0, 1) := dk_42 (dk_at dksX3_arm_0 6 rfl rfl)
theorem dX3_arm_7 : decode cX3_arm 7 = .ok (.getfield 61, 3) := dk_180 0 61 (dk_at dksX3_arm_0 7 rfl rfl)
theorem dX3_arm_10 : decode cX3_arm 10 = .ok (.iload_n 1, 1) := dk_27 (dk_at dksX3_arm_0 10 rfl rfl)
theorem dX3_arm_11 : decode cX3_arm 11 = .ok (.invokevirtual 366, 3) := dk_182 1 110 (dk_at dksX3_arm_0 11 rfl rfl)
theorem dX3_arm_14 : decode cX3_arm 14 = .ok (.ifCond .ne 5, 3) := dk_154 0 5 (dk_at dksX3_arm_0 14 rfl rfl)
theorem dX3_arm_17 : decode cX3_arm 17 = .ok (.iconst (-1), 1) := dk_2 (dk_at dksX3_arm_0 17 rfl rfl)
theorem dX3_arm_18 : decode cX3_arm 18 = .ok (.ireturn, 1) := dk_172 (dk_at dksX3_arm_0 18 rfl rfl)
theorem dX3_arm_19 : decode cX3_arm 19 = .ok (.aload_n 0, 1) := dk_42 (dk_at dksX3_arm_0 19 rfl rfl)
theorem dX3_arm_20 : decode cX3_arm 20 = .ok (.invokevirtual 359, 3) := dk_182 1 103 (dk_at dksX3_arm_0 20 rfl rfl)
theorem dX3_arm_23 : decode cX3_arm 23 = .ok (.aload_n 0, 1) := dk_42 (dk_at dksX3_arm_0 23 rfl rfl)
theorem dX3_arm_24 : decode cX3_arm 24 = .ok (.getfield 61, 3) := dk_180 0 61 (dk_at dksX3_arm_1 0 rfl rfl)
theorem dX3_arm_27 : decode cX3_arm 27 = .ok (.iload_n 1, 1) := dk_27 (dk_at dksX3_arm_1 3 rfl rfl)
theorem dX3_arm_28 : decode cX3_arm 28 = .ok (.iconst 0, 1) := dk_3 (dk_at dksX3_arm_1 4 rfl rfl)
theorem dX3_arm_29 : decode cX3_arm 29 = .ok (.iconst 2, 1) := dk_5 (dk_at dksX3_arm_1 5 rfl rfl)
theorem dX3_arm_30 : decode cX3_arm 30 = .ok (.invokestatic 370, 3) := dk_184 1 114 (dk_at dksX3_arm_1 6 rfl rfl)
theorem dX3_arm_33 : decode cX3_arm 33 = .ok (.aload_n 0, 1) := dk_42 (dk_at dksX3_arm_1 9 rfl rfl)
theorem dX3_arm_34 : decode cX3_arm 34 = .ok (.getfield 61, 3) := dk_180 0 61 (dk_at dksX3_arm_1 10 rfl rfl)
theorem dX3_arm_37 : decode cX3_arm 37 = .ok (.iconst 4, 1) := dk_7 (dk_at dksX3_arm_1 13 rfl rfl)
theorem dX3_arm_38 : decode cX3_arm 38 = .ok (.iload_n 1, 1) := dk_27 (dk_at dksX3_arm_1 14 rfl rfl)
theorem dX3_arm_39 : decode cX3_arm 39 = .ok (.imul, 1) := dk_104 (dk_at dksX3_arm_1 15 rfl rfl)
theorem dX3_arm_40 : decode cX3_arm 40 = .ok (.iconst 0, 1) := dk_3 (dk_at dksX3_arm_1 16 rfl rfl)
theorem dX3_arm_41 : decode cX3_arm 41 = .ok (.iadd, 1) := dk_96 (dk_at dksX3_arm_1 17 rfl rfl)
theorem dX3_arm_42 : decode cX3_arm 42 = .ok (.iaload, 1) := dk_46 (dk_at dksX3_arm_1 18 rfl rfl)
theorem dX3_arm_43 : decode cX3_arm 43 = .ok (.ireturn, 1) := dk_172 (dk_at dksX3_arm_1 19 rfl rfl)
abbrev cX3_canArm : ByteArray := prog_14_method_58_code
def yX3_canArm : MethodName := ⟨RX3, "canArm", "([II)Z"⟩
def dkwX3_canArm_1 : List UInt8 := [5, 161, 0, 7, 4, 167, 0, 4, 3, 172]
abbrev dktX3_canArm_1 : List UInt8 := dkwX3_canArm_1 ++ []
def dkwX3_canArm_0 : List UInt8 := [42, 28, 182, 1, 91, 153, 0, 27, 43, 7, 28, 104, 3, 96, 46, 16, 30, 162, 0, 15, 43, 16, 17, 46]
abbrev dktX3_canArm_0 : List UInt8 := dkwX3_canArm_0 ++ dktX3_canArm_1
theorem dksX3_canArm_0 : cX3_canArm.data.toList.drop 0 = dktX3_canArm_0 := by decide +kernel
theorem dksX3_canArm_1 : cX3_canArm.data.toList.drop 24 = dktX3_canArm_1 := dk_seg dksX3_canArm_0 24 rfl rfl
theorem dX3_canArm_0 : decode cX3_canArm 0 = .ok (.aload_n 0, 1) := dk_42 (dk_at dksX3_canArm_0 0 rfl rfl)
theorem dX3_canArm_1 : decode cX3_canArm 1 = .ok (.iload_n 2, 1) := dk_28 (dk_at dksX3_canArm_0 1 rfl rfl)
theorem dX3_canArm_2 : decode cX3_canArm 2 = .ok (.invokevirtual 347, 3) := dk_182 1 91 (dk_at dksX3_canArm_0 2 rfl rfl)
theorem dX3_canArm_5 : decode cX3_canArm 5 = .ok (.ifCond .eq 27, 3) := dk_153 0 27 (dk_at dksX3_canArm_0 5 rfl rfl)
theorem dX3_canArm_8 : decode cX3_canArm 8 = .ok (.aload_n 1, 1) := dk_43 (dk_at dksX3_canArm_0 8 rfl rfl)
theorem dX3_canArm_9 : decode cX3_canArm 9 = .ok (.iconst 4, 1) := dk_7 (dk_at dksX3_canArm_0 9 rfl rfl)
theorem dX3_canArm_10 : decode cX3_canArm 10 = .ok (.iload_n 2, 1) := dk_28 (dk_at dksX3_canArm_0 10 rfl rfl)
theorem dX3_canArm_11 : decode cX3_canArm 11 = .ok (.imul, 1) := dk_104 (dk_at dksX3_canArm_0 11 rfl rfl)
theorem dX3_canArm_12 : decode cX3_canArm 12 = .ok (.iconst 0, 1) := dk_3 (dk_at dksX3_canArm_0 12 rfl rfl)
theorem dX3_canArm_13 : decode cX3_canArm 13 = .ok (.iadd, 1) := dk_96 (dk_at dksX3_canArm_0 13 rfl rfl)
theorem dX3_canArm_14 : decode cX3_canArm 14 = .ok (.iaload, 1) := dk_46 (dk_at dksX3_canArm_0 14 rfl rfl)
theorem dX3_canArm_15 : decode cX3_canArm 15 = .ok (.bipush 30, 2) := dk_16 30 (dk_at dksX3_canArm_0 15 rfl rfl)
theorem dX3_canArm_17 : decode cX3_canArm 17 = .ok (.if_icmp .ge 15, 3) := dk_162 0 15 (dk_at dksX3_canArm_0 17 rfl rfl)
theorem dX3_canArm_20 : decode cX3_canArm 20 = .ok (.aload_n 1, 1) := dk_43 (dk_at dksX3_canArm_0 20 rfl rfl)
theorem dX3_canArm_21 : decode cX3_canArm 21 = .ok (.bipush 17, 2) := dk_16 17 (dk_at dksX3_canArm_0 21 rfl rfl)
theorem dX3_canArm_23 : decode cX3_canArm 23 = .ok (.iaload, 1) := dk_46 (dk_at dksX3_canArm_0 23 rfl rfl)
theorem dX3_canArm_24 : decode cX3_canArm 24 = .ok (.iconst 2, 1) := dk_5 (dk_at dksX3_canArm_1 0 rfl rfl)
theorem dX3_canArm_25 : decode cX3_canArm 25 = .ok (.if_icmp .lt 7, 3) := dk_161 0 7 (dk_at dksX3_canArm_1 1 rfl rfl)
theorem dX3_canArm_28 : decode cX3_canArm 28 = .ok (.iconst 1, 1) := dk_4 (dk_at dksX3_canArm_1 4 rfl rfl)
theorem dX3_canArm_29 : decode cX3_canArm 29 = .ok (.goto 4, 3) := dk_167 0 4 (dk_at dksX3_canArm_1 5 rfl rfl)
theorem dX3_canArm_32 : decode cX3_canArm 32 = .ok (.iconst 0, 1) := dk_3 (dk_at dksX3_canArm_1 8 rfl rfl)
theorem dX3_canArm_33 : decode cX3_canArm 33 = .ok (.ireturn, 1) := dk_172 (dk_at dksX3_canArm_1 9 rfl rfl)
abbrev cX3_spends : ByteArray := prog_14_method_60_code
def yX3_spends : MethodName := ⟨RX3, "spends", "([IIII)V"⟩
def dkwX3_spends_1 : List UInt8 := [167, 0, 4, 4, 96, 79, 177]
abbrev dktX3_spends_1 : List UInt8 := dkwX3_spends_1 ++ []
def dkwX3_spends_0 : List UInt8 := [42, 16, 17, 92, 46, 29, 100, 79, 42, 7, 27, 104, 28, 96, 92, 46, 28, 4, 160, 0, 7, 2]
abbrev dktX3_spends_0 : List UInt8 := dkwX3_spends_0 ++ dktX3_spends_1
theorem dksX3_spends_0 : cX3_spends.data.toList.drop 0 = dktX3_spends_0 := by decide +kernel
theorem dksX3_spends_1 : cX3_spends.data.toList.drop 22 = dktX3_spends_1 := dk_seg dksX3_spends_0 22 rfl rfl
theorem dX3_spends_0 : decode cX3_spends 0 = .ok (.aload_n 0, 1) := dk_42 (dk_at dksX3_spends_0 0 rfl rfl)
theorem dX3_spends_1 : decode cX3_spends 1 = .ok (.bipush 17, 2) := dk_16 17 (dk_at dksX3_spends_0 1 rfl rfl)
theorem dX3_spends_3 : decode cX3_spends 3 = .ok (.dup2, 1) := dk_92 (dk_at dksX3_spends_0 3 rfl rfl)
theorem dX3_spends_4 : decode cX3_spends 4 = .ok (.iaload, 1) := dk_46 (dk_at dksX3_spends_0 4 rfl rfl)
theorem dX3_spends_5 : decode cX3_spends 5 = .ok (.iload_n 3, 1) := dk_29 (dk_at dksX3_spends_0 5 rfl rfl)
theorem dX3_spends_6 : decode cX3_spends 6 = .ok (.isub, 1) := dk_100 (dk_at dksX3_spends_0 6 rfl rfl)
theorem dX3_spends_7 : decode cX3_spends 7 = .ok (.iastore, 1) := dk_79 (dk_at dksX3_spends_0 7 rfl rfl)
theorem dX3_spends_8 : decode cX3_spends 8 = .ok (.aload_n 0, 1) := dk_42 (dk_at dksX3_spends_0 8 rfl rfl)
theorem dX3_spends_9 : decode cX3_spends 9 = .ok (.iconst 4, 1) := dk_7 (dk_at dksX3_spends_0 9 rfl rfl)
theorem dX3_spends_10 : decode cX3_spends 10 = .ok (.iload_n 1, 1) := dk_27 (dk_at dksX3_spends_0 10 rfl rfl)
theorem dX3_spends_11 : decode cX3_spends 11 = .ok (.imul, 1) := dk_104 (dk_at dksX3_spends_0 11 rfl rfl)
theorem dX3_spends_12 : decode cX3_spends 12 = .ok (.iload_n 2, 1) := dk_28 (dk_at dksX3_spends_0 12 rfl rfl)
theorem dX3_spends_13 : decode cX3_spends 13 = .ok (.iadd, 1) := dk_96 (dk_at dksX3_spends_0 13 rfl rfl)
theorem dX3_spends_14 : decode cX3_spends 14 = .ok (.dup2, 1) := dk_92 (dk_at dksX3_spends_0 14 rfl rfl)
theorem dX3_spends_15 : decode cX3_spends 15 = .ok (.iaload, 1) := dk_46 (dk_at dksX3_spends_0 15 rfl rfl)
theorem dX3_spends_16 : decode cX3_spends 16 = .ok (.iload_n 2, 1) := dk_28 (dk_at dksX3_spends_0 16 rfl rfl)
theorem dX3_spends_17 : decode cX3_spends 17 = .ok (.iconst 1, 1) := dk_4 (dk_at dksX3_spends_0 17 rfl rfl)
theorem dX3_spends_18 : decode cX3_spends 18 = .ok (.if_icmp .ne 7, 3) := dk_160 0 7 (dk_at dksX3_spends_0 18 rfl rfl)
theorem dX3_spends_21 : decode cX3_spends 21 = .ok (.iconst (-1), 1) := dk_2 (dk_at dksX3_spends_0 21 rfl rfl)
theorem dX3_spends_22 : decode cX3_spends 22 = .ok (.goto 4, 3) := dk_167 0 4 (dk_at dksX3_spends_1 0 rfl rfl)
theorem dX3_spends_25 : decode cX3_spends 25 = .ok (.iconst 1, 1) := dk_4 (dk_at dksX3_spends_1 3 rfl rfl)
theorem dX3_spends_26 : decode cX3_spends 26 = .ok (.iadd, 1) := dk_96 (dk_at dksX3_spends_1 4 rfl rfl)
theorem dX3_spends_27 : decode cX3_spends 27 = .ok (.iastore, 1) := dk_79 (dk_at dksX3_spends_1 5 rfl rfl)
theorem dX3_spends_28 : decode cX3_spends 28 = .ok (.return_, 1) := dk_177 (dk_at dksX3_spends_1 6 rfl rfl)
abbrev cX3_teach : ByteArray := prog_14_method_62_code
def yX3_teach : MethodName := ⟨RX3, "teach", "(I)I"⟩
def dkwX3_teach_1 : List UInt8 := [180, 0, 61, 27, 5, 6, 184, 1, 114, 42, 180, 0, 61, 7, 27, 104, 5, 96, 46, 172]
abbrev dktX3_teach_1 : List UInt8 := dkwX3_teach_1 ++ []
def dkwX3_teach_0 : List UInt8 := [42, 3, 181, 0, 99, 42, 42, 180, 0, 61, 27, 182, 1, 117, 154, 0, 5, 2, 172, 42, 182, 1, 103, 42]
abbrev dktX3_teach_0 : List UInt8 := dkwX3_teach_0 ++ dktX3_teach_1
theorem dksX3_teach_0 : cX3_teach.data.toList.drop 0 = dktX3_teach_0 := by decide +kernel
theorem dksX3_teach_1 : cX3_teach.data.toList.drop 24 = dktX3_teach_1 := dk_seg dksX3_teach_0 24 rfl rfl
theorem dX3_teach_0 : decode cX3_teach 0 = .ok (.aload_n 0, 1) := dk_42 (dk_at dksX3_teach_0 0 rfl rfl)
theorem dX3_teach_1 : decode cX3_teach 1 = .ok (.iconst 0, 1) := dk_3 (dk_at dksX3_teach_0 1 rfl rfl)
theorem dX3_teach_2 : decode cX3_teach 2 = .ok (.putfield 99, 3) := dk_181 0 99 (dk_at dksX3_teach_0 2 rfl rfl)
theorem dX3_teach_5 : decode cX3_teach 5 = .ok (.aload_n 0, 1) := dk_42 (dk_at dksX3_teach_0 5 rfl rfl)
theorem dX3_teach_6 : decode cX3_teach 6 = .ok (.aload_n 0, 1) := dk_42 (dk_at dksX3_teach_0 6 rfl rfl)
theorem dX3_teach_7 : decode cX3_teach 7 = .ok (.getfield 61, 3) := dk_180 0 61 (dk_at dksX3_teach_0 7 rfl rfl)
theorem dX3_teach_10 : decode cX3_teach 10 = .ok (.iload_n 1, 1) := dk_27 (dk_at dksX3_teach_0 10 rfl rfl)
theorem dX3_teach_11 : decode cX3_teach 11 = .ok (.invokevirtual 373, 3) := dk_182 1 117 (dk_at dksX3_teach_0 11 rfl rfl)
theorem dX3_teach_14 : decode cX3_teach 14 = .ok (.ifCond .ne 5, 3) := dk_154 0 5 (dk_at dksX3_teach_0 14 rfl rfl)
theorem dX3_teach_17 : decode cX3_teach 17 = .ok (.iconst (-1), 1) := dk_2 (dk_at dksX3_teach_0 17 rfl rfl)
theorem dX3_teach_18 : decode cX3_teach 18 = .ok (.ireturn, 1) := dk_172 (dk_at dksX3_teach_0 18 rfl rfl)
theorem dX3_teach_19 : decode cX3_teach 19 = .ok (.aload_n 0, 1) := dk_42 (dk_at dksX3_teach_0 19 rfl rfl)
theorem dX3_teach_20 : decode cX3_teach 20 = .ok (.invokevirtual 359, 3) := dk_182 1 103 (dk_at dksX3_teach_0 20 rfl rfl)
theorem dX3_teach_23 : decode cX3_teach 23 = .ok (.aload_n 0, 1) := dk_42 (dk_at dksX3_teach_0 23 rfl rfl)
theorem dX3_teach_24 : decode cX3_teach 24 = .ok (.getfield 61, 3) := dk_180 0 61 (dk_at dksX3_teach_1 0 rfl rfl)
theorem dX3_teach_27 : decode cX3_teach 27 = .ok (.iload_n 1, 1) := dk_27 (dk_at dksX3_teach_1 3 rfl rfl)
theorem dX3_teach_28 : decode cX3_teach 28 = .ok (.iconst 2, 1) := dk_5 (dk_at dksX3_teach_1 4 rfl rfl)
theorem dX3_teach_29 : decode cX3_teach 29 = .ok (.iconst 3, 1) := dk_6 (dk_at dksX3_teach_1 5 rfl rfl)
theorem dX3_teach_30 : decode cX3_teach 30 = .ok (.invokestatic 370, 3) := dk_184 1 114 (dk_at dksX3_teach_1 6 rfl rfl)
theorem dX3_teach_33 : decode cX3_teach 33 = .ok (.aload_n 0, 1) := dk_42 (dk_at dksX3_teach_1 9 rfl rfl)
theorem dX3_teach_34 : decode cX3_teach 34 = .ok (.getfield 61, 3) := dk_180 0 61 (dk_at dksX3_teach_1 10 rfl rfl)
theorem dX3_teach_37 : decode cX3_teach 37 = .ok (.iconst 4, 1) := dk_7 (dk_at dksX3_teach_1 13 rfl rfl)
theorem dX3_teach_38 : decode cX3_teach 38 = .ok (.iload_n 1, 1) := dk_27 (dk_at dksX3_teach_1 14 rfl rfl)
theorem dX3_teach_39 : decode cX3_teach 39 = .ok (.imul, 1) := dk_104 (dk_at dksX3_teach_1 15 rfl rfl)
theorem dX3_teach_40 : decode cX3_teach 40 = .ok (.iconst 2, 1) := dk_5 (dk_at dksX3_teach_1 16 rfl rfl)
theorem dX3_teach_41 : decode cX3_teach 41 = .ok (.iadd, 1) := dk_96 (dk_at dksX3_teach_1 17 rfl rfl)
theorem dX3_teach_42 : decode cX3_teach 42 = .ok (.iaload, 1) := dk_46 (dk_at dksX3_teach_1 18 rfl rfl)
theorem dX3_teach_43 : decode cX3_teach 43 = .ok (.ireturn, 1) := dk_172 (dk_at dksX3_teach_1 19 rfl rfl)
abbrev cX3_canTeach : ByteArray := prog_14_method_59_code
def yX3_canTeach : MethodName := ⟨RX3, "canTeach", "([II)Z"⟩
def dkwX3_canTeach_1 : List UInt8 := [6, 161, 0, 7, 4, 167, 0, 4, 3, 172]
abbrev dktX3_canTeach_1 : List UInt8 := dkwX3_canTeach_1 ++ []
def dkwX3_canTeach_0 : List UInt8 := [42, 28, 182, 1, 91, 153, 0, 27, 43, 7, 28, 104, 5, 96, 46, 16, 9, 162, 0, 15, 43, 16, 17, 46]
abbrev dktX3_canTeach_0 : List UInt8 := dkwX3_canTeach_0 ++ dktX3_canTeach_1
theorem dksX3_canTeach_0 : cX3_canTeach.data.toList.drop 0 = dktX3_canTeach_0 := by decide +kernel
theorem dksX3_canTeach_1 : cX3_canTeach.data.toList.drop 24 = dktX3_canTeach_1 := dk_seg dksX3_canTeach_0 24 rfl rfl
theorem dX3_canTeach_0 : decode cX3_canTeach 0 = .ok (.aload_n 0, 1) := dk_42 (dk_at dksX3_canTeach_0 0 rfl rfl)
theorem dX3_canTeach_1 : decode cX3_canTeach 1 = .ok (.iload_n 2, 1) := dk_28 (dk_at dksX3_canTeach_0 1 rfl rfl)
theorem dX3_canTeach_2 : decode cX3_canTeach 2 = .ok (.invokevirtual 347, 3) := dk_182 1 91 (dk_at dksX3_canTeach_0 2 rfl rfl)
theorem dX3_canTeach_5 : decode cX3_canTeach 5 = .ok (.ifCond .eq 27, 3) := dk_153 0 27 (dk_at dksX3_canTeach_0 5 rfl rfl)
theorem dX3_canTeach_8 : decode cX3_canTeach 8 = .ok (.aload_n 1, 1) := dk_43 (dk_at dksX3_canTeach_0 8 rfl rfl)
theorem dX3_canTeach_9 : decode cX3_canTeach 9 = .ok (.iconst 4, 1) := dk_7 (dk_at dksX3_canTeach_0 9 rfl rfl)
theorem dX3_canTeach_10 : decode cX3_canTeach 10 = .ok (.iload_n 2, 1) := dk_28 (dk_at dksX3_canTeach_0 10 rfl rfl)
theorem dX3_canTeach_11 : decode cX3_canTeach 11 = .ok (.imul, 1) := dk_104 (dk_at dksX3_canTeach_0 11 rfl rfl)
theorem dX3_canTeach_12 : decode cX3_canTeach 12 = .ok (.iconst 2, 1) := dk_5 (dk_at dksX3_canTeach_0 12 rfl rfl)
theorem dX3_canTeach_13 : decode cX3_canTeach 13 = .ok (.iadd, 1) := dk_96 (dk_at dksX3_canTeach_0 13 rfl rfl)
theorem dX3_canTeach_14 : decode cX3_canTeach 14 = .ok (.iaload, 1) := dk_46 (dk_at dksX3_canTeach_0 14 rfl rfl)
theorem dX3_canTeach_15 : decode cX3_canTeach 15 = .ok (.bipush 9, 2) := dk_16 9 (dk_at dksX3_canTeach_0 15 rfl rfl)
theorem dX3_canTeach_17 : decode cX3_canTeach 17 = .ok (.if_icmp .ge 15, 3) := dk_162 0 15 (dk_at dksX3_canTeach_0 17 rfl rfl)
theorem dX3_canTeach_20 : decode cX3_canTeach 20 = .ok (.aload_n 1, 1) := dk_43 (dk_at dksX3_canTeach_0 20 rfl rfl)
theorem dX3_canTeach_21 : decode cX3_canTeach 21 = .ok (.bipush 17, 2) := dk_16 17 (dk_at dksX3_canTeach_0 21 rfl rfl)
theorem dX3_canTeach_23 : decode cX3_canTeach 23 = .ok (.iaload, 1) := dk_46 (dk_at dksX3_canTeach_0 23 rfl rfl)
theorem dX3_canTeach_24 : decode cX3_canTeach 24 = .ok (.iconst 3, 1) := dk_6 (dk_at dksX3_canTeach_1 0 rfl rfl)
theorem dX3_canTeach_25 : decode cX3_canTeach 25 = .ok (.if_icmp .lt 7, 3) := dk_161 0 7 (dk_at dksX3_canTeach_1 1 rfl rfl)
theorem dX3_canTeach_28 : decode cX3_canTeach 28 = .ok (.iconst 1, 1) := dk_4 (dk_at dksX3_canTeach_1 4 rfl rfl)
theorem dX3_canTeach_29 : decode cX3_canTeach 29 = .ok (.goto 4, 3) := dk_167 0 4 (dk_at dksX3_canTeach_1 5 rfl rfl)
theorem dX3_canTeach_32 : decode cX3_canTeach 32 = .ok (.iconst 0, 1) := dk_3 (dk_at dksX3_canTeach_1 8 rfl rfl)
theorem dX3_canTeach_33 : decode cX3_canTeach 33 = .ok (.ireturn, 1) := dk_172 (dk_at dksX3_canTeach_1 9 rfl rfl)
abbrev cX3_swear : ByteArray := prog_14_method_63_code
def yX3_swear : MethodName := ⟨RX3, "swear", "(I)I"⟩
def dkwX3_swear_2 : List UInt8 := [27, 4, 7, 184, 1, 114, 42, 180, 0, 61, 7, 27, 104, 4, 96, 46, 172]
abbrev dktX3_swear_2 : List UInt8 := dkwX3_swear_2 ++ []
def dkwX3_swear_1 : List UInt8 := [153, 0, 14, 42, 180, 0, 61, 16, 17, 46, 7, 162, 0, 5, 2, 172, 42, 182, 1, 103, 42, 180, 0, 61]
abbrev dktX3_swear_1 : List UInt8 := dkwX3_swear_1 ++ dktX3_swear_2
def dkwX3_swear_0 : List UInt8 := [42, 3, 181, 0, 99, 42, 27, 182, 1, 91, 153, 0, 27, 42, 180, 0, 61, 7, 27, 104, 4, 96, 46]
abbrev dktX3_swear_0 : List UInt8 := dkwX3_swear_0 ++ dktX3_swear_1
theorem dksX3_swear_0 : cX3_swear.data.toList.drop 0 = dktX3_swear_0 := by decide +kernel
theorem dksX3_swear_1 : cX3_swear.data.toList.drop 23 = dktX3_swear_1 := dk_seg dksX3_swear_0 23 rfl rfl
theorem dksX3_swear_2 : cX3_swear.data.toList.drop 47 = dktX3_swear_2 := dk_seg dksX3_swear_1 24 rfl rfl
theorem dX3_swear_0 : decode cX3_swear 0 = .ok (.aload_n 0, 1) := dk_42 (dk_at dksX3_swear_0 0 rfl rfl)
theorem dX3_swear_1 : decode cX3_swear 1 = .ok (.iconst 0, 1) := dk_3 (dk_at dksX3_swear_0 1 rfl rfl)
theorem dX3_swear_2 : decode cX3_swear 2 = .ok (.putfield 99, 3) := dk_181 0 99 (dk_at dksX3_swear_0 2 rfl rfl)
theorem dX3_swear_5 : decode cX3_swear 5 = .ok (.aload_n 0, 1) := dk_42 (dk_at dksX3_swear_0 5 rfl rfl)
theorem dX3_swear_6 : decode cX3_swear 6 = .ok (.iload_n 1, 1) := dk_27 (dk_at dksX3_swear_0 6 rfl rfl)
theorem dX3_swear_7 : decode cX3_swear 7 = .ok (.invokevirtual 347, 3) := dk_182 1 91 (dk_at dksX3_swear_0 7 rfl rfl)
theorem dX3_swear_10 : decode cX3_swear 10 = .ok (.ifCond .eq 27, 3) := dk_153 0 27 (dk_at dksX3_swear_0 10 rfl rfl)
theorem dX3_swear_13 : decode cX3_swear 13 = .ok (.aload_n 0, 1) := dk_42 (dk_at dksX3_swear_0 13 rfl rfl)
theorem dX3_swear_14 : decode cX3_swear 14 = .ok (.getfield 61, 3) := dk_180 0 61 (dk_at dksX3_swear_0 14 rfl rfl)
theorem dX3_swear_17 : decode cX3_swear 17 = .ok (.iconst 4, 1) := dk_7 (dk_at dksX3_swear_0 17 rfl rfl)
theorem dX3_swear_18 : decode cX3_swear 18 = .ok (.iload_n 1, 1) := dk_27 (dk_at dksX3_swear_0 18 rfl rfl)
theorem dX3_swear_19 : decode cX3_swear 19 = .ok (.imul, 1) := dk_104 (dk_at dksX3_swear_0 19 rfl rfl)
theorem dX3_swear_20 : decode cX3_swear 20 = .ok (.iconst 1, 1) := dk_4 (dk_at dksX3_swear_0 20 rfl rfl)
theorem dX3_swear_21 : decode cX3_swear 21 = .ok (.iadd, 1) := dk_96 (dk_at dksX3_swear_0 21 rfl rfl)
theorem dX3_swear_22 : decode cX3_swear 22 = .ok (.iaload, 1) := dk_46 (dk_at dksX3_swear_0 22 rfl rfl)
theorem dX3_swear_23 : decode cX3_swear 23 = .ok (.ifCond .eq 14, 3) := dk_153 0 14 (dk_at dksX3_swear_1 0 rfl rfl)
theorem dX3_swear_26 : decode cX3_swear 26 = .ok (.aload_n 0, 1) := dk_42 (dk_at dksX3_swear_1 3 rfl rfl)
theorem dX3_swear_27 : decode cX3_swear 27 = .ok (.getfield 61, 3) := dk_180 0 61 (dk_at dksX3_swear_1 4 rfl rfl)
theorem dX3_swear_30 : decode cX3_swear 30 = .ok (.bipush 17, 2) := dk_16 17 (dk_at dksX3_swear_1 7 rfl rfl)
theorem dX3_swear_32 : decode cX3_swear 32 = .ok (.iaload, 1) := dk_46 (dk_at dksX3_swear_1 9 rfl rfl)
theorem dX3_swear_33 : decode cX3_swear 33 = .ok (.iconst 4, 1) := dk_7 (dk_at dksX3_swear_1 10 rfl rfl)
theorem dX3_swear_34 : decode cX3_swear 34 = .ok (.if_icmp .ge 5, 3) := dk_162 0 5 (dk_at dksX3_swear_1 11 rfl rfl)
theorem dX3_swear_37 : decode cX3_swear 37 = .ok (.iconst (-1), 1) := dk_2 (dk_at dksX3_swear_1 14 rfl rfl)
theorem dX3_swear_38 : decode cX3_swear 38 = .ok (.ireturn, 1) := dk_172 (dk_at dksX3_swear_1 15 rfl rfl)
theorem dX3_swear_39 : decode cX3_swear 39 = .ok (.aload_n 0, 1) := dk_42 (dk_at dksX3_swear_1 16 rfl rfl)
theorem dX3_swear_40 : decode cX3_swear 40 = .ok (.invokevirtual 359, 3) := dk_182 1 103 (dk_at dksX3_swear_1 17 rfl rfl)
theorem dX3_swear_43 : decode cX3_swear 43 = .ok (.aload_n 0, 1) := dk_42 (dk_at dksX3_swear_1 20 rfl rfl)
theorem dX3_swear_44 : decode cX3_swear 44 = .ok (.getfield 61, 3) := dk_180 0 61 (dk_at dksX3_swear_1 21 rfl rfl)
theorem dX3_swear_47 : decode cX3_swear 47 = .ok (.iload_n 1, 1) := dk_27 (dk_at dksX3_swear_2 0 rfl rfl)
theorem dX3_swear_48 : decode cX3_swear 48 = .ok (.iconst 1, 1) := dk_4 (dk_at dksX3_swear_2 1 rfl rfl)
theorem dX3_swear_49 : decode cX3_swear 49 = .ok (.iconst 4, 1) := dk_7 (dk_at dksX3_swear_2 2 rfl rfl)
theorem dX3_swear_50 : decode cX3_swear 50 = .ok (.invokestatic 370, 3) := dk_184 1 114 (dk_at dksX3_swear_2 3 rfl rfl)
theorem dX3_swear_53 : decode cX3_swear 53 = .ok (.aload_n 0, 1) := dk_42 (dk_at dksX3_swear_2 6 rfl rfl)
theorem dX3_swear_54 : decode cX3_swear 54 = .ok (.getfield 61, 3) := dk_180 0 61 (dk_at dksX3_swear_2 7 rfl rfl)
theorem dX3_swear_57 : decode cX3_swear 57 = .ok (.iconst 4, 1) := dk_7 (dk_at dksX3_swear_2 10 rfl rfl)
theorem dX3_swear_58 : decode cX3_swear 58 = .ok (.iload_n 1, 1) := dk_27 (dk_at dksX3_swear_2 11 rfl rfl)
theorem dX3_swear_59 : decode cX3_swear 59 = .ok (.imul, 1) := dk_104 (dk_at dksX3_swear_2 12 rfl rfl)
theorem dX3_swear_60 : decode cX3_swear 60 = .ok (.iconst 1, 1) := dk_4 (dk_at dksX3_swear_2 13 rfl rfl)
theorem dX3_swear_61 : decode cX3_swear 61 = .ok (.iadd, 1) := dk_96 (dk_at dksX3_swear_2 14 rfl rfl)
theorem dX3_swear_62 : decode cX3_swear 62 = .ok (.iaload, 1) := dk_46 (dk_at dksX3_swear_2 15 rfl rfl)
theorem dX3_swear_63 : decode cX3_swear 63 = .ok (.ireturn, 1) := dk_172 (dk_at dksX3_swear_2 16 rfl rfl)
abbrev cX3_burn : ByteArray := prog_14_method_64_code
def yX3_burn : MethodName := ⟨RX3, "burn", "(I)I"⟩
def dkwX3_burn_1 : List UInt8 := [2, 172, 42, 182, 1, 103, 42, 180, 0, 61, 27, 184, 1, 80, 42, 180, 0, 61, 16, 19, 46, 172]
abbrev dktX3_burn_1 : List UInt8 := dkwX3_burn_1 ++ []
def dkwX3_burn_0 : List UInt8 := [42, 3, 181, 0, 99, 27, 133, 9, 42, 180, 0, 61, 16, 19, 46, 4, 100, 133, 184, 1, 14, 154, 0, 5]
abbrev dktX3_burn_0 : List UInt8 := dkwX3_burn_0 ++ dktX3_burn_1
theorem dksX3_burn_0 : cX3_burn.data.toList.drop 0 = dktX3_burn_0 := by decide +kernel
theorem dksX3_burn_1 : cX3_burn.data.toList.drop 24 = dktX3_burn_1 := dk_seg dksX3_burn_0 24 rfl rfl
theorem dX3_burn_0 : decode cX3_burn 0 = .ok (.aload_n 0, 1) := dk_42 (dk_at dksX3_burn_0 0 rfl rfl)
theorem dX3_burn_1 : decode cX3_burn 1 = .ok (.iconst 0, 1) := dk_3 (dk_at dksX3_burn_0 1 rfl rfl)
theorem dX3_burn_2 : decode cX3_burn 2 = .ok (.putfield 99, 3) := dk_181 0 99 (dk_at dksX3_burn_0 2 rfl rfl)
theorem dX3_burn_5 : decode cX3_burn 5 = .ok (.iload_n 1, 1) := dk_27 (dk_at dksX3_burn_0 5 rfl rfl)
theorem dX3_burn_6 : decode cX3_burn 6 = .ok (.i2l, 1) := dk_133 (dk_at dksX3_burn_0 6 rfl rfl)
theorem dX3_burn_7 : decode cX3_burn 7 = .ok (.lconst 0, 1) := dk_9 (dk_at dksX3_burn_0 7 rfl rfl)
theorem dX3_burn_8 : decode cX3_burn 8 = .ok (.aload_n 0, 1) := dk_42 (dk_at dksX3_burn_0 8 rfl rfl)
theorem dX3_burn_9 : decode cX3_burn 9 = .ok (.getfield 61, 3) := dk_180 0 61 (dk_at dksX3_burn_0 9 rfl rfl)
theorem dX3_burn_12 : decode cX3_burn 12 = .ok (.bipush 19, 2) := dk_16 19 (dk_at dksX3_burn_0 12 rfl rfl)
theorem dX3_burn_14 : decode cX3_burn 14 = .ok (.iaload, 1) := dk_46 (dk_at dksX3_burn_0 14 rfl rfl)
theorem dX3_burn_15 : decode cX3_burn 15 = .ok (.iconst 1, 1) := dk_4 (dk_at dksX3_burn_0 15 rfl rfl)
theorem dX3_burn_16 : decode cX3_burn 16 = .ok (.isub, 1) := dk_100 (dk_at dksX3_burn_0 16 rfl rfl)
theorem dX3_burn_17 : decode cX3_burn 17 = .ok (.i2l, 1) := dk_133 (dk_at dksX3_burn_0 17 rfl rfl)
theorem dX3_burn_18 : decode cX3_burn 18 = .ok (.invokestatic 270, 3) := dk_184 1 14 (dk_at dksX3_burn_0 18 rfl rfl)
theorem dX3_burn_21 : decode cX3_burn 21 = .ok (.ifCond .ne 5, 3) := dk_154 0 5 (dk_at dksX3_burn_0 21 rfl rfl)
theorem dX3_burn_24 : decode cX3_burn 24 = .ok (.iconst (-1), 1) := dk_2 (dk_at dksX3_burn_1 0 rfl rfl)
theorem dX3_burn_25 : decode cX3_burn 25 = .ok (.ireturn, 1) := dk_172 (dk_at dksX3_burn_1 1 rfl rfl)
theorem dX3_burn_26 : decode cX3_burn 26 = .ok (.aload_n 0, 1) := dk_42 (dk_at dksX3_burn_1 2 rfl rfl)
theorem dX3_burn_27 : decode cX3_burn 27 = .ok (.invokevirtual 359, 3) := dk_182 1 103 (dk_at dksX3_burn_1 3 rfl rfl)
theorem dX3_burn_30 : decode cX3_burn 30 = .ok (.aload_n 0, 1) := dk_42 (dk_at dksX3_burn_1 6 rfl rfl)
theorem dX3_burn_31 : decode cX3_burn 31 = .ok (.getfield 61, 3) := dk_180 0 61 (dk_at dksX3_burn_1 7 rfl rfl)
theorem dX3_burn_34 : decode cX3_burn 34 = .ok (.iload_n 1, 1) := dk_27 (dk_at dksX3_burn_1 10 rfl rfl)
theorem dX3_burn_35 : decode cX3_burn 35 = .ok (.invokestatic 336, 3) := dk_184 1 80 (dk_at dksX3_burn_1 11 rfl rfl)
theorem dX3_burn_38 : decode cX3_burn 38 = .ok (.aload_n 0, 1) := dk_42 (dk_at dksX3_burn_1 14 rfl rfl)
theorem dX3_burn_39 : decode cX3_burn 39 = .ok (.getfield 61, 3) := dk_180 0 61 (dk_at dksX3_burn_1 15 rfl rfl)
theorem dX3_burn_42 : decode cX3_burn 42 = .ok (.bipush 19, 2) := dk_16 19 (dk_at dksX3_burn_1 18 rfl rfl)
theorem dX3_burn_44 : decode cX3_burn 44 = .ok (.iaload, 1) := dk_46 (dk_at dksX3_burn_1 20 rfl rfl)
theorem dX3_burn_45 : decode cX3_burn 45 = .ok (.ireturn, 1) := dk_172 (dk_at dksX3_burn_1 21 rfl rfl)
abbrev cX3_give : ByteArray := prog_14_method_65_code
def yX3_give : MethodName := ⟨RX3, "give", "(I)I"⟩
def dkwX3_give_2 : List UInt8 := [180, 0, 61, 16, 17, 92, 46, 27, 96, 79, 42, 180, 0, 61, 16, 17, 46, 172]
abbrev dktX3_give_2 : List UInt8 := dkwX3_give_2 ++ []
def dkwX3_give_1 : List UInt8 := [42, 180, 0, 61, 16, 17, 46, 27, 96, 17, 3, 231, 164, 0, 5, 2, 172, 42, 182, 1, 103, 42]
abbrev dktX3_give_1 : List UInt8 := dkwX3_give_1 ++ dktX3_give_2
def dkwX3_give_0 : List UInt8 := [42, 3, 181, 0, 99, 42, 180, 1, 35, 153, 0, 30, 27, 133, 10, 20, 1, 120, 184, 1, 14, 153, 0, 18]
abbrev dktX3_give_0 : List UInt8 := dkwX3_give_0 ++ dktX3_give_1
theorem dksX3_give_0 : cX3_give.data.toList.drop 0 = dktX3_give_0 := by decide +kernel
theorem dksX3_give_1 : cX3_give.data.toList.drop 24 = dktX3_give_1 := dk_seg dksX3_give_0 24 rfl rfl
theorem dksX3_give_2 : cX3_give.data.toList.drop 46 = dktX3_give_2 := dk_seg dksX3_give_1 22 rfl rfl
theorem dX3_give_0 : decode cX3_give 0 = .ok (.aload_n 0, 1) := dk_42 (dk_at dksX3_give_0 0 rfl rfl)
theorem dX3_give_1 : decode cX3_give 1 = .ok (.iconst 0, 1) := dk_3 (dk_at dksX3_give_0 1 rfl rfl)
theorem dX3_give_2 : decode cX3_give 2 = .ok (.putfield 99, 3) := dk_181 0 99 (dk_at dksX3_give_0 2 rfl rfl)
theorem dX3_give_5 : decode cX3_give 5 = .ok (.aload_n 0, 1) := dk_42 (dk_at dksX3_give_0 5 rfl rfl)
theorem dX3_give_6 : decode cX3_give 6 = .ok (.getfield 291, 3) := dk_180 1 35 (dk_at dksX3_give_0 6 rfl rfl)
theorem dX3_give_9 : decode cX3_give 9 = .ok (.ifCond .eq 30, 3) := dk_153 0 30 (dk_at dksX3_give_0 9 rfl rfl)
theorem dX3_give_12 : decode cX3_give 12 = .ok (.iload_n 1, 1) := dk_27 (dk_at dksX3_give_0 12 rfl rfl)
theorem dX3_give_13 : decode cX3_give 13 = .ok (.i2l, 1) := dk_133 (dk_at dksX3_give_0 13 rfl rfl)
theorem dX3_give_14 : decode cX3_give 14 = .ok (.lconst 1, 1) := dk_10 (dk_at dksX3_give_0 14 rfl rfl)
theorem dX3_give_15 : decode cX3_give 15 = .ok (.ldc2_w 376, 3) := dk_20 1 120 (dk_at dksX3_give_0 15 rfl rfl)
theorem dX3_give_18 : decode cX3_give 18 = .ok (.invokestatic 270, 3) := dk_184 1 14 (dk_at dksX3_give_0 18 rfl rfl)
theorem dX3_give_21 : decode cX3_give 21 = .ok (.ifCond .eq 18, 3) := dk_153 0 18 (dk_at dksX3_give_0 21 rfl rfl)
theorem dX3_give_24 : decode cX3_give 24 = .ok (.aload_n 0, 1) := dk_42 (dk_at dksX3_give_1 0 rfl rfl)
theorem dX3_give_25 : decode cX3_give 25 = .ok (.getfield 61, 3) := dk_180 0 61 (dk_at dksX3_give_1 1 rfl rfl)
theorem dX3_give_28 : decode cX3_give 28 = .ok (.bipush 17, 2) := dk_16 17 (dk_at dksX3_give_1 4 rfl rfl)
theorem dX3_give_30 : decode cX3_give 30 = .ok (.iaload, 1) := dk_46 (dk_at dksX3_give_1 6 rfl rfl)
theorem dX3_give_31 : decode cX3_give 31 = .ok (.iload_n 1, 1) := dk_27 (dk_at dksX3_give_1 7 rfl rfl)
theorem dX3_give_32 : decode cX3_give 32 = .ok (.iadd, 1) := dk_96 (dk_at dksX3_give_1 8 rfl rfl)
theorem dX3_give_33 : decode cX3_give 33 = .ok (.sipush 999, 3) := dk_17 3 231 (dk_at dksX3_give_1 9 rfl rfl)
theorem dX3_give_36 : decode cX3_give 36 = .ok (.if_icmp .le 5, 3) := dk_164 0 5 (dk_at dksX3_give_1 12 rfl rfl)
theorem dX3_give_39 : decode cX3_give 39 = .ok (.iconst (-1), 1) := dk_2 (dk_at dksX3_give_1 15 rfl rfl)
theorem dX3_give_40 : decode cX3_give 40 = .ok (.ireturn, 1) := dk_172 (dk_at dksX3_give_1 16 rfl rfl)
theorem dX3_give_41 : decode cX3_give 41 = .ok (.aload_n 0, 1) := dk_42 (dk_at dksX3_give_1 17 rfl rfl)
theorem dX3_give_42 : decode cX3_give 42 = .ok (.invokevirtual 359, 3) := dk_182 1 103 (dk_at dksX3_give_1 18 rfl rfl)
theorem dX3_give_45 : decode cX3_give 45 = .ok (.aload_n 0, 1) := dk_42 (dk_at dksX3_give_1 21 rfl rfl)
theorem dX3_give_46 : decode cX3_give 46 = .ok (.getfield 61, 3) := dk_180 0 61 (dk_at dksX3_give_2 0 rfl rfl)
theorem dX3_give_49 : decode cX3_give 49 = .ok (.bipush 17, 2) := dk_16 17 (dk_at dksX3_give_2 3 rfl rfl)
theorem dX3_give_51 : decode cX3_give 51 = .ok (.dup2, 1) := dk_92 (dk_at dksX3_give_2 5 rfl rfl)
theorem dX3_give_52 : decode cX3_give 52 = .ok (.iaload, 1) := dk_46 (dk_at dksX3_give_2 6 rfl rfl)
theorem dX3_give_53 : decode cX3_give 53 = .ok (.iload_n 1, 1) := dk_27 (dk_at dksX3_give_2 7 rfl rfl)
theorem dX3_give_54 : decode cX3_give 54 = .ok (.iadd, 1) := dk_96 (dk_at dksX3_give_2 8 rfl rfl)
theorem dX3_give_55 : decode cX3_give 55 = .ok (.iastore, 1) := dk_79 (dk_at dksX3_give_2 9 rfl rfl)
theorem dX3_give_56 : decode cX3_give 56 = .ok (.aload_n 0, 1) := dk_42 (dk_at dksX3_give_2 10 rfl rfl)
theorem dX3_give_57 : decode cX3_give 57 = .ok (.getfield 61, 3) := dk_180 0 61 (dk_at dksX3_give_2 11 rfl rfl)
theorem dX3_give_60 : decode cX3_give 60 = .ok (.bipush 17, 2) := dk_16 17 (dk_at dksX3_give_2 14 rfl rfl)
theorem dX3_give_62 : decode cX3_give 62 = .ok (.iaload, 1) := dk_46 (dk_at dksX3_give_2 16 rfl rfl)
theorem dX3_give_63 : decode cX3_give 63 = .ok (.ireturn, 1) := dk_172 (dk_at dksX3_give_2 17 rfl rfl)
abbrev cX3_years : ByteArray := prog_14_method_67_code
def yX3_years : MethodName := ⟨RX3, "years", "(IJ)I"⟩
def dkwX3_years_7 : List UInt8 := [172]
abbrev dktX3_years_7 : List UInt8 := dkwX3_years_7 ++ []
def dkwX3_years_6 : List UInt8 := [79, 42, 42, 180, 0, 61, 182, 1, 106, 54, 5, 132, 4, 1, 167, 255, 150, 42, 180, 0, 61, 16, 18, 46]
abbrev dktX3_years_6 : List UInt8 := dkwX3_years_6 ++ dktX3_years_7
def dkwX3_years_5 : List UInt8 := [7, 21, 5, 104, 3, 96, 16, 30, 42, 180, 0, 61, 7, 21, 5, 104, 3, 96, 46, 5, 96, 184, 1, 68]
abbrev dktX3_years_5 : List UInt8 := dkwX3_years_5 ++ dktX3_years_6
def dkwX3_years_4 : List UInt8 := [16, 10, 182, 1, 132, 16, 7, 161, 0, 42, 42, 42, 180, 1, 35, 182, 1, 132, 54, 5, 42, 180, 0, 61]
abbrev dktX3_years_4 : List UInt8 := dkwX3_years_4 ++ dktX3_years_5
def dkwX3_years_3 : List UInt8 := [162, 0, 23, 42, 180, 0, 61, 16, 16, 92, 46, 4, 42, 42, 180, 1, 35, 182, 1, 132, 120, 130, 79, 42]
abbrev dktX3_years_3 : List UInt8 := dkwX3_years_3 ++ dktX3_years_4
def dkwX3_years_2 : List UInt8 := [54, 4, 21, 4, 27, 162, 0, 106, 42, 182, 1, 103, 42, 16, 10, 182, 1, 132, 42, 180, 0, 71]
abbrev dktX3_years_2 : List UInt8 := dkwX3_years_2 ++ dktX3_years_3
def dkwX3_years_1 : List UInt8 := [42, 180, 0, 61, 16, 18, 46, 27, 96, 17, 3, 231, 164, 0, 5, 2, 172, 42, 32, 181, 1, 122, 3]
abbrev dktX3_years_1 : List UInt8 := dkwX3_years_1 ++ dktX3_years_2
def dkwX3_years_0 : List UInt8 := [42, 3, 181, 0, 99, 42, 180, 1, 35, 153, 0, 30, 27, 133, 10, 20, 1, 130, 184, 1, 14, 153, 0, 18]
abbrev dktX3_years_0 : List UInt8 := dkwX3_years_0 ++ dktX3_years_1
theorem dksX3_years_0 : cX3_years.data.toList.drop 0 = dktX3_years_0 := by decide +kernel
theorem dksX3_years_1 : cX3_years.data.toList.drop 24 = dktX3_years_1 := dk_seg dksX3_years_0 24 rfl rfl
theorem dksX3_years_2 : cX3_years.data.toList.drop 47 = dktX3_years_2 := dk_seg dksX3_years_1 23 rfl rfl
theorem dksX3_years_3 : cX3_years.data.toList.drop 69 = dktX3_years_3 := dk_seg dksX3_years_2 22 rfl rfl
theorem dksX3_years_4 : cX3_years.data.toList.drop 93 = dktX3_years_4 := dk_seg dksX3_years_3 24 rfl rfl
theorem dksX3_years_5 : cX3_years.data.toList.drop 117 = dktX3_years_5 := dk_seg dksX3_years_4 24 rfl rfl
theorem dksX3_years_6 : cX3_years.data.toList.drop 141 = dktX3_years_6 := dk_seg dksX3_years_5 24 rfl rfl
theorem dksX3_years_7 : cX3_years.data.toList.drop 165 = dktX3_years_7 := dk_seg dksX3_years_6 24 rfl rfl
theorem dX3_years_0 : decode cX3_years 0 = .ok (.aload_n 0, 1) := dk_42 (dk_at dksX3_years_0 0 rfl rfl)
theorem dX3_years_1 : decode cX3_years 1 = .ok (.iconst 0, 1) := dk_3 (dk_at dksX3_years_0 1 rfl rfl)
theorem dX3_years_2 : decode cX3_years 2 = .ok (.putfield 99, 3) := dk_181 0 99 (dk_at dksX3_years_0 2 rfl rfl)
theorem dX3_years_5 : decode cX3_years 5 = .ok (.aload_n 0, 1) := dk_42 (dk_at dksX3_years_0 5 rfl rfl)
theorem dX3_years_6 : decode cX3_years 6 = .ok (.getfield 291, 3) := dk_180 1 35 (dk_at dksX3_years_0 6 rfl rfl)
theorem dX3_years_9 : decode cX3_years 9 = .ok (.ifCond .eq 30, 3) := dk_153 0 30 (dk_at dksX3_years_0 9 rfl rfl)
theorem dX3_years_12 : decode cX3_years 12 = .ok (.iload_n 1, 1) := dk_27 (dk_at dksX3_years_0 12 rfl rfl)
theorem dX3_years_13 : decode cX3_years 13 = .ok (.i2l, 1) := dk_133 (dk_at dksX3_years_0 13 rfl rfl)
theorem dX3_years_14 : decode cX3_years 14 = .ok (.lconst 1, 1) := dk_10 (dk_at dksX3_years_0 14 rfl rfl)
theorem dX3_years_15 : decode cX3_years 15 = .ok (.ldc2_w 386, 3) := dk_20 1 130 (dk_at dksX3_years_0 15 rfl rfl)
theorem dX3_years_18 : decode cX3_years 18 = .ok (.invokestatic 270, 3) := dk_184 1 14 (dk_at dksX3_years_0 18 rfl rfl)
theorem dX3_years_21 : decode cX3_years 21 = .ok (.ifCond .eq 18, 3) := dk_153 0 18 (dk_at dksX3_years_0 21 rfl rfl)
theorem dX3_years_24 : decode cX3_years 24 = .ok (.aload_n 0, 1) := dk_42 (dk_at dksX3_years_1 0 rfl rfl)
theorem dX3_years_25 : decode cX3_years 25 = .ok (.getfield 61, 3) := dk_180 0 61 (dk_at dksX3_years_1 1 rfl rfl)
theorem dX3_years_28 : decode cX3_years 28 = .ok (.bipush 18, 2) := dk_16 18 (dk_at dksX3_years_1 4 rfl rfl)
theorem dX3_years_30 : decode cX3_years 30 = .ok (.iaload, 1) := dk_46 (dk_at dksX3_years_1 6 rfl rfl)
theorem dX3_years_31 : decode cX3_years 31 = .ok (.iload_n 1, 1) := dk_27 (dk_at dksX3_years_1 7 rfl rfl)
theorem dX3_years_32 : decode cX3_years 32 = .ok (.iadd, 1) := dk_96 (dk_at dksX3_years_1 8 rfl rfl)
theorem dX3_years_33 : decode cX3_years 33 = .ok (.sipush 999, 3) := dk_17 3 231 (dk_at dksX3_years_1 9 rfl rfl)
theorem dX3_years_36 : decode cX3_years 36 = .ok (.if_icmp .le 5, 3) := dk_164 0 5 (dk_at dksX3_years_1 12 rfl rfl)
theorem dX3_years_39 : decode cX3_years 39 = .ok (.iconst (-1), 1) := dk_2 (dk_at dksX3_years_1 15 rfl rfl)
theorem dX3_years_40 : decode cX3_years 40 = .ok (.ireturn, 1) := dk_172 (dk_at dksX3_years_1 16 rfl rfl)
theorem dX3_years_41 : decode cX3_years 41 = .ok (.aload_n 0, 1) := dk_42 (dk_at dksX3_years_1 17 rfl rfl)
theorem dX3_years_42 : decode cX3_years 42 = .ok (.lload_n 2, 1) := dk_32 (dk_at dksX3_years_1 18 rfl rfl)
theorem dX3_years_43 : decode cX3_years 43 = .ok (.putfield 378, 3) := dk_181 1 122 (dk_at dksX3_years_1 19 rfl rfl)
theorem dX3_years_46 : decode cX3_years 46 = .ok (.iconst 0, 1) := dk_3 (dk_at dksX3_years_1 22 rfl rfl)
theorem dX3_years_47 : decode cX3_years 47 = .ok (.istore 4, 2) := dk_54 4 (dk_at dksX3_years_2 0 rfl rfl)
theorem dX3_years_49 : decode cX3_years 49 = .ok (.iload 4, 2) := dk_21 4 (dk_at dksX3_years_2 2 rfl rfl)
theorem dX3_years_51 : decode cX3_years 51 = .ok (.iload_n 1, 1) := dk_27 (dk_at dksX3_years_2 4 rfl rfl)
theorem dX3_years_52 : decode cX3_years 52 = .ok (.if_icmp .ge 106, 3) := dk_162 0 106 (dk_at dksX3_years_2 5 rfl rfl)
theorem dX3_years_55 : decode cX3_years 55 = .ok (.aload_n 0, 1) := dk_42 (dk_at dksX3_years_2 8 rfl rfl)
theorem dX3_years_56 : decode cX3_years 56 = .ok (.invokevirtual 359, 3) := dk_182 1 103 (dk_at dksX3_years_2 9 rfl rfl)
theorem dX3_years_59 : decode cX3_years 59 = .ok (.aload_n 0, 1) := dk_42 (dk_at dksX3_years_2 12 rfl rfl)
theorem dX3_years_60 : decode cX3_years 60 = .ok (.bipush 10, 2) := dk_16 10 (dk_at dksX3_years_2 13 rfl rfl)
theorem dX3_years_62 : decode cX3_years 62 = .ok (.invokevirtual 388, 3) := dk_182 1 132 (dk_at dksX3_years_2 15 rfl rfl)
theorem dX3_years_65 : decode cX3_years 65 = .ok (.aload_n 0, 1) := dk_42 (dk_at dksX3_years_2 18 rfl rfl)
theorem dX3_years_66 : decode cX3_years 66 = .ok (.getfield 71, 3) := dk_180 0 71 (dk_at dksX3_years_2 19 rfl rfl)
theorem dX3_years_69 : decode cX3_years 69 = .ok (.if_icmp .ge 23, 3) := dk_162 0 23 (dk_at dksX3_years_3 0 rfl rfl)
theorem dX3_years_72 : decode cX3_years 72 = .ok (.aload_n 0, 1) := dk_42 (dk_at dksX3_years_3 3 rfl rfl)
theorem dX3_years_73 : decode cX3_years 73 = .ok (.getfield 61, 3) := dk_180 0 61 (dk_at dksX3_years_3 4 rfl rfl)
theorem dX3_years_76 : decode cX3_years 76 = .ok (.bipush 16, 2) := dk_16 16 (dk_at dksX3_years_3 7 rfl rfl)
theorem dX3_years_78 : decode cX3_years 78 = .ok (.dup2, 1) := dk_92 (dk_at dksX3_years_3 9 rfl rfl)
theorem dX3_years_79 : decode cX3_years 79 = .ok (.iaload, 1) := dk_46 (dk_at dksX3_years_3 10 rfl rfl)
theorem dX3_years_80 : decode cX3_years 80 = .ok (.iconst 1, 1) := dk_4 (dk_at dksX3_years_3 11 rfl rfl)
theorem dX3_years_81 : decode cX3_years 81 = .ok (.aload_n 0, 1) := dk_42 (dk_at dksX3_years_3 12 rfl rfl)
theorem dX3_years_82 : decode cX3_years 82 = .ok (.aload_n 0, 1) := dk_42 (dk_at dksX3_years_3 13 rfl rfl)
theorem dX3_years_83 : decode cX3_years 83 = .ok (.getfield 291, 3) := dk_180 1 35 (dk_at dksX3_years_3 14 rfl rfl)
theorem dX3_years_86 : decode cX3_years 86 = .ok (.invokevirtual 388, 3) := dk_182 1 132 (dk_at dksX3_years_3 17 rfl rfl)
theorem dX3_years_89 : decode cX3_years 89 = .ok (.ishl, 1) := dk_120 (dk_at dksX3_years_3 20 rfl rfl)
theorem dX3_years_90 : decode cX3_years 90 = .ok (.ixor, 1) := dk_130 (dk_at dksX3_years_3 21 rfl rfl)
theorem dX3_years_91 : decode cX3_years 91 = .ok (.iastore, 1) := dk_79 (dk_at dksX3_years_3 22 rfl rfl)
theorem dX3_years_92 : decode cX3_years 92 = .ok (.aload_n 0, 1) := dk_42 (dk_at dksX3_years_3 23 rfl rfl)
theorem dX3_years_93 : decode cX3_years 93 = .ok (.bipush 10, 2) := dk_16 10 (dk_at dksX3_years_4 0 rfl rfl)
theorem dX3_years_95 : decode cX3_years 95 = .ok (.invokevirtual 388, 3) := dk_182 1 132 (dk_at dksX3_years_4 2 rfl rfl)
theorem dX3_years_98 : decode cX3_years 98 = .ok (.bipush 7, 2) := dk_16 7 (dk_at dksX3_years_4 5 rfl rfl)
theorem dX3_years_100 : decode cX3_years 100 = .ok (.if_icmp .lt 42, 3) := dk_161 0 42 (dk_at dksX3_years_4 7 rfl rfl)
theorem dX3_years_103 : decode cX3_years 103 = .ok (.aload_n 0, 1) := dk_42 (dk_at dksX3_years_4 10 rfl rfl)
theorem dX3_years_104 : decode cX3_years 104 = .ok (.aload_n 0, 1) := dk_42 (dk_at dksX3_years_4 11 rfl rfl)
theorem dX3_years_105 : decode cX3_years 105 = .ok (.getfield 291, 3) := dk_180 1 35 (dk_at dksX3_years_4 12 rfl rfl)
theorem dX3_years_108 : decode cX3_years 108 = .ok (.invokevirtual 388, 3) := dk_182 1 132 (dk_at dksX3_years_4 15 rfl rfl)
theorem dX3_years_111 : decode cX3_years 111 = .ok (.istore 5, 2) := dk_54 5 (dk_at dksX3_years_4 18 rfl rfl)
theorem dX3_years_113 : decode cX3_years 113 = .ok (.aload_n 0, 1) := dk_42 (dk_at dksX3_years_4 20 rfl rfl)
theorem dX3_years_114 : decode cX3_years 114 = .ok (.getfield 61, 3) := dk_180 0 61 (dk_at dksX3_years_4 21 rfl rfl)
theorem dX3_years_117 : decode cX3_years 117 = .ok (.iconst 4, 1) := dk_7 (dk_at dksX3_years_5 0 rfl rfl)
theorem dX3_years_118 : decode cX3_years 118 = .ok (.iload 5, 2) := dk_21 5 (dk_at dksX3_years_5 1 rfl rfl)
theorem dX3_years_120 : decode cX3_years 120 = .ok (.imul, 1) := dk_104 (dk_at dksX3_years_5 3 rfl rfl)
theorem dX3_years_121 : decode cX3_years 121 = .ok (.iconst 0, 1) := dk_3 (dk_at dksX3_years_5 4 rfl rfl)
theorem dX3_years_122 : decode cX3_years 122 = .ok (.iadd, 1) := dk_96 (dk_at dksX3_years_5 5 rfl rfl)
theorem dX3_years_123 : decode cX3_years 123 = .ok (.bipush 30, 2) := dk_16 30 (dk_at dksX3_years_5 6 rfl rfl)
theorem dX3_years_125 : decode cX3_years 125 = .ok (.aload_n 0, 1) := dk_42 (dk_at dksX3_years_5 8 rfl rfl)
theorem dX3_years_126 : decode cX3_years 126 = .ok (.getfield 61, 3) := dk_180 0 61 (dk_at dksX3_years_5 9 rfl rfl)
theorem dX3_years_129 : decode cX3_years 129 = .ok (.iconst 4, 1) := dk_7 (dk_at dksX3_years_5 12 rfl rfl)
theorem dX3_years_130 : decode cX3_years 130 = .ok (.iload 5, 2) := dk_21 5 (dk_at dksX3_years_5 13 rfl rfl)
theorem dX3_years_132 : decode cX3_years 132 = .ok (.imul, 1) := dk_104 (dk_at dksX3_years_5 15 rfl rfl)
theorem dX3_years_133 : decode cX3_years 133 = .ok (.iconst 0, 1) := dk_3 (dk_at dksX3_years_5 16 rfl rfl)
theorem dX3_years_134 : decode cX3_years 134 = .ok (.iadd, 1) := dk_96 (dk_at dksX3_years_5 17 rfl rfl)
theorem dX3_years_135 : decode cX3_years 135 = .ok (.iaload, 1) := dk_46 (dk_at dksX3_years_5 18 rfl rfl)
theorem dX3_years_136 : decode cX3_years 136 = .ok (.iconst 2, 1) := dk_5 (dk_at dksX3_years_5 19 rfl rfl)
theorem dX3_years_137 : decode cX3_years 137 = .ok (.iadd, 1) := dk_96 (dk_at dksX3_years_5 20 rfl rfl)
theorem dX3_years_138 : decode cX3_years 138 = .ok (.invokestatic 324, 3) := dk_184 1 68 (dk_at dksX3_years_5 21 rfl rfl)
theorem dX3_years_141 : decode cX3_years 141 = .ok (.iastore, 1) := dk_79 (dk_at dksX3_years_6 0 rfl rfl)
theorem dX3_years_142 : decode cX3_years 142 = .ok (.aload_n 0, 1) := dk_42 (dk_at dksX3_years_6 1 rfl rfl)
theorem dX3_years_143 : decode cX3_years 143 = .ok (.aload_n 0, 1) := dk_42 (dk_at dksX3_years_6 2 rfl rfl)
theorem dX3_years_144 : decode cX3_years 144 = .ok (.getfield 61, 3) := dk_180 0 61 (dk_at dksX3_years_6 3 rfl rfl)
theorem dX3_years_147 : decode cX3_years 147 = .ok (.invokevirtual 362, 3) := dk_182 1 106 (dk_at dksX3_years_6 6 rfl rfl)
theorem dX3_years_150 : decode cX3_years 150 = .ok (.istore 5, 2) := dk_54 5 (dk_at dksX3_years_6 9 rfl rfl)
theorem dX3_years_152 : decode cX3_years 152 = .ok (.iinc 4 1, 3) := dk_132 4 1 (dk_at dksX3_years_6 11 rfl rfl)
theorem dX3_years_155 : decode cX3_years 155 = .ok (.goto (-106), 3) := dk_167 255 150 (dk_at dksX3_years_6 14 rfl rfl)
theorem dX3_years_158 : decode cX3_years 158 = .ok (.aload_n 0, 1) := dk_42 (dk_at dksX3_years_6 17 rfl rfl)
theorem dX3_years_159 : decode cX3_years 159 = .ok (.getfield 61, 3) := dk_180 0 61 (dk_at dksX3_years_6 18 rfl rfl)
theorem dX3_years_162 : decode cX3_years 162 = .ok (.bipush 18, 2) := dk_16 18 (dk_at dksX3_years_6 21 rfl rfl)
theorem dX3_years_164 : decode cX3_years 164 = .ok (.iaload, 1) := dk_46 (dk_at dksX3_years_6 23 rfl rfl)
theorem dX3_years_165 : decode cX3_years 165 = .ok (.ireturn, 1) := dk_172 (dk_at dksX3_years_7 0 rfl rfl)
abbrev cX3_draw : ByteArray := prog_14_method_66_code
def yX3_draw : MethodName := ⟨RX3, "draw", "(I)I"⟩
def dkwX3_draw_1 : List UInt8 := [133, 113, 136, 172]
abbrev dktX3_draw_1 : List UInt8 := dkwX3_draw_1 ++ []
def dkwX3_draw_0 : List UInt8 := [42, 42, 180, 1, 122, 20, 1, 126, 105, 20, 1, 128, 97, 181, 1, 122, 42, 180, 1, 122, 16, 33, 125, 27]
abbrev dktX3_draw_0 : List UInt8 := dkwX3_draw_0 ++ dktX3_draw_1
theorem dksX3_draw_0 : cX3_draw.data.toList.drop 0 = dktX3_draw_0 := by decide +kernel
theorem dksX3_draw_1 : cX3_draw.data.toList.drop 24 = dktX3_draw_1 := dk_seg dksX3_draw_0 24 rfl rfl
theorem dX3_draw_0 : decode cX3_draw 0 = .ok (.aload_n 0, 1) := dk_42 (dk_at dksX3_draw_0 0 rfl rfl)
theorem dX3_draw_1 : decode cX3_draw 1 = .ok (.aload_n 0, 1) := dk_42 (dk_at dksX3_draw_0 1 rfl rfl)
theorem dX3_draw_2 : decode cX3_draw 2 = .ok (.getfield 378, 3) := dk_180 1 122 (dk_at dksX3_draw_0 2 rfl rfl)
theorem dX3_draw_5 : decode cX3_draw 5 = .ok (.ldc2_w 382, 3) := dk_20 1 126 (dk_at dksX3_draw_0 5 rfl rfl)
theorem dX3_draw_8 : decode cX3_draw 8 = .ok (.lmul, 1) := dk_105 (dk_at dksX3_draw_0 8 rfl rfl)
theorem dX3_draw_9 : decode cX3_draw 9 = .ok (.ldc2_w 384, 3) := dk_20 1 128 (dk_at dksX3_draw_0 9 rfl rfl)
theorem dX3_draw_12 : decode cX3_draw 12 = .ok (.ladd, 1) := dk_97 (dk_at dksX3_draw_0 12 rfl rfl)
theorem dX3_draw_13 : decode cX3_draw 13 = .ok (.putfield 378, 3) := dk_181 1 122 (dk_at dksX3_draw_0 13 rfl rfl)
theorem dX3_draw_16 : decode cX3_draw 16 = .ok (.aload_n 0, 1) := dk_42 (dk_at dksX3_draw_0 16 rfl rfl)
theorem dX3_draw_17 : decode cX3_draw 17 = .ok (.getfield 378, 3) := dk_180 1 122 (dk_at dksX3_draw_0 17 rfl rfl)
theorem dX3_draw_20 : decode cX3_draw 20 = .ok (.bipush 33, 2) := dk_16 33 (dk_at dksX3_draw_0 20 rfl rfl)
theorem dX3_draw_22 : decode cX3_draw 22 = .ok (.lushr, 1) := dk_125 (dk_at dksX3_draw_0 22 rfl rfl)
theorem dX3_draw_23 : decode cX3_draw 23 = .ok (.iload_n 1, 1) := dk_27 (dk_at dksX3_draw_0 23 rfl rfl)
theorem dX3_draw_24 : decode cX3_draw 24 = .ok (.i2l, 1) := dk_133 (dk_at dksX3_draw_1 0 rfl rfl)
theorem dX3_draw_25 : decode cX3_draw 25 = .ok (.lrem, 1) := dk_113 (dk_at dksX3_draw_1 1 rfl rfl)
theorem dX3_draw_26 : decode cX3_draw 26 = .ok (.l2i, 1) := dk_136 (dk_at dksX3_draw_1 2 rfl rfl)
theorem dX3_draw_27 : decode cX3_draw 27 = .ok (.ireturn, 1) := dk_172 (dk_at dksX3_draw_1 3 rfl rfl)
abbrev cX3_undo : ByteArray := prog_14_method_68_code
def yX3_undo : MethodName := ⟨RX3, "undo", "()I"⟩
def dkwX3_undo_2 : List UInt8 := [180, 1, 44, 104, 27, 96, 46, 79, 132, 1, 1, 167, 255, 225, 42, 180, 1, 44, 172]
abbrev dktX3_undo_2 : List UInt8 := dkwX3_undo_2 ++ []
def dkwX3_undo_1 : List UInt8 := [3, 60, 27, 17, 1, 35, 162, 0, 30, 42, 180, 0, 61, 27, 42, 180, 0, 81, 17, 1, 35, 42]
abbrev dktX3_undo_1 : List UInt8 := dkwX3_undo_1 ++ dktX3_undo_2
def dkwX3_undo_0 : List UInt8 := [42, 3, 181, 0, 99, 42, 180, 1, 44, 154, 0, 5, 2, 172, 42, 89, 180, 1, 44, 4, 100, 181, 1, 44]
abbrev dktX3_undo_0 : List UInt8 := dkwX3_undo_0 ++ dktX3_undo_1
theorem dksX3_undo_0 : cX3_undo.data.toList.drop 0 = dktX3_undo_0 := by decide +kernel
theorem dksX3_undo_1 : cX3_undo.data.toList.drop 24 = dktX3_undo_1 := dk_seg dksX3_undo_0 24 rfl rfl
theorem dksX3_undo_2 : cX3_undo.data.toList.drop 46 = dktX3_undo_2 := dk_seg dksX3_undo_1 22 rfl rfl
theorem dX3_undo_0 : decode cX3_undo 0 = .ok (.aload_n 0, 1) := dk_42 (dk_at dksX3_undo_0 0 rfl rfl)
theorem dX3_undo_1 : decode cX3_undo 1 = .ok (.iconst 0, 1) := dk_3 (dk_at dksX3_undo_0 1 rfl rfl)
theorem dX3_undo_2 : decode cX3_undo 2 = .ok (.putfield 99, 3) := dk_181 0 99 (dk_at dksX3_undo_0 2 rfl rfl)
theorem dX3_undo_5 : decode cX3_undo 5 = .ok (.aload_n 0, 1) := dk_42 (dk_at dksX3_undo_0 5 rfl rfl)
theorem dX3_undo_6 : decode cX3_undo 6 = .ok (.getfield 300, 3) := dk_180 1 44 (dk_at dksX3_undo_0 6 rfl rfl)
theorem dX3_undo_9 : decode cX3_undo 9 = .ok (.ifCond .ne 5, 3) := dk_154 0 5 (dk_at dksX3_undo_0 9 rfl rfl)
theorem dX3_undo_12 : decode cX3_undo 12 = .ok (.iconst (-1), 1) := dk_2 (dk_at dksX3_undo_0 12 rfl rfl)
theorem dX3_undo_13 : decode cX3_undo 13 = .ok (.ireturn, 1) := dk_172 (dk_at dksX3_undo_0 13 rfl rfl)
theorem dX3_undo_14 : decode cX3_undo 14 = .ok (.aload_n 0, 1) := dk_42 (dk_at dksX3_undo_0 14 rfl rfl)
theorem dX3_undo_15 : decode cX3_undo 15 = .ok (.dup, 1) := dk_89 (dk_at dksX3_undo_0 15 rfl rfl)
theorem dX3_undo_16 : decode cX3_undo 16 = .ok (.getfield 300, 3) := dk_180 1 44 (dk_at dksX3_undo_0 16 rfl rfl)
theorem dX3_undo_19 : decode cX3_undo 19 = .ok (.iconst 1, 1) := dk_4 (dk_at dksX3_undo_0 19 rfl rfl)
theorem dX3_undo_20 : decode cX3_undo 20 = .ok (.isub, 1) := dk_100 (dk_at dksX3_undo_0 20 rfl rfl)
theorem dX3_undo_21 : decode cX3_undo 21 = .ok (.putfield 300, 3) := dk_181 1 44 (dk_at dksX3_undo_0 21 rfl rfl)
theorem dX3_undo_24 : decode cX3_undo 24 = .ok (.iconst 0, 1) := dk_3 (dk_at dksX3_undo_1 0 rfl rfl)
theorem dX3_undo_25 : decode cX3_undo 25 = .ok (.istore_n 1, 1) := dk_60 (dk_at dksX3_undo_1 1 rfl rfl)
theorem dX3_undo_26 : decode cX3_undo 26 = .ok (.iload_n 1, 1) := dk_27 (dk_at dksX3_undo_1 2 rfl rfl)
theorem dX3_undo_27 : decode cX3_undo 27 = .ok (.sipush 291, 3) := dk_17 1 35 (dk_at dksX3_undo_1 3 rfl rfl)
theorem dX3_undo_30 : decode cX3_undo 30 = .ok (.if_icmp .ge 30, 3) := dk_162 0 30 (dk_at dksX3_undo_1 6 rfl rfl)
theorem dX3_undo_33 : decode cX3_undo 33 = .ok (.aload_n 0, 1) := dk_42 (dk_at dksX3_undo_1 9 rfl rfl)
theorem dX3_undo_34 : decode cX3_undo 34 = .ok (.getfield 61, 3) := dk_180 0 61 (dk_at dksX3_undo_1 10 rfl rfl)
theorem dX3_undo_37 : decode cX3_undo 37 = .ok (.iload_n 1, 1) := dk_27 (dk_at dksX3_undo_1 13 rfl rfl)
theorem dX3_undo_38 : decode cX3_undo 38 = .ok (.aload_n 0, 1) := dk_42 (dk_at dksX3_undo_1 14 rfl rfl)
theorem dX3_undo_39 : decode cX3_undo 39 = .ok (.getfield 81, 3) := dk_180 0 81 (dk_at dksX3_undo_1 15 rfl rfl)
theorem dX3_undo_42 : decode cX3_undo 42 = .ok (.sipush 291, 3) := dk_17 1 35 (dk_at dksX3_undo_1 18 rfl rfl)
theorem dX3_undo_45 : decode cX3_undo 45 = .ok (.aload_n 0, 1) := dk_42 (dk_at dksX3_undo_1 21 rfl rfl)
theorem dX3_undo_46 : decode cX3_undo 46 = .ok (.getfield 300, 3) := dk_180 1 44 (dk_at dksX3_undo_2 0 rfl rfl)
theorem dX3_undo_49 : decode cX3_undo 49 = .ok (.imul, 1) := dk_104 (dk_at dksX3_undo_2 3 rfl rfl)
theorem dX3_undo_50 : decode cX3_undo 50 = .ok (.iload_n 1, 1) := dk_27 (dk_at dksX3_undo_2 4 rfl rfl)
theorem dX3_undo_51 : decode cX3_undo 51 = .ok (.iadd, 1) := dk_96 (dk_at dksX3_undo_2 5 rfl rfl)
theorem dX3_undo_52 : decode cX3_undo 52 = .ok (.iaload, 1) := dk_46 (dk_at dksX3_undo_2 6 rfl rfl)
theorem dX3_undo_53 : decode cX3_undo 53 = .ok (.iastore, 1) := dk_79 (dk_at dksX3_undo_2 7 rfl rfl)
theorem dX3_undo_54 : decode cX3_undo 54 = .ok (.iinc 1 1, 3) := dk_132 1 1 (dk_at dksX3_undo_2 8 rfl rfl)
theorem dX3_undo_57 : decode cX3_undo 57 = .ok (.goto (-31), 3) := dk_167 255 225 (dk_at dksX3_undo_2 11 rfl rfl)
theorem dX3_undo_60 : decode cX3_undo 60 = .ok (.aload_n 0, 1) := dk_42 (dk_at dksX3_undo_2 14 rfl rfl)
theorem dX3_undo_61 : decode cX3_undo 61 = .ok (.getfield 300, 3) := dk_180 1 44 (dk_at dksX3_undo_2 15 rfl rfl)
theorem dX3_undo_64 : decode cX3_undo 64 = .ok (.ireturn, 1) := dk_172 (dk_at dksX3_undo_2 18 rfl rfl)
abbrev cX3_log : ByteArray := prog_14_method_69_code
def yX3_log : MethodName := ⟨RX3, "log", "(II)I"⟩
def dkwX3_log_2 : List UInt8 := [16, 110, 46, 4, 100, 27, 100, 104, 96, 28, 96, 46, 167, 0, 6, 19, 1, 135, 172]
abbrev dktX3_log_2 : List UInt8 := dkwX3_log_2 ++ []
def dkwX3_log_1 : List UInt8 := [28, 133, 9, 20, 1, 12, 184, 1, 14, 153, 0, 29, 42, 180, 0, 61, 16, 111, 6, 42, 180, 0, 61]
abbrev dktX3_log_1 : List UInt8 := dkwX3_log_1 ++ dktX3_log_2
def dkwX3_log_0 : List UInt8 := [42, 3, 181, 0, 99, 27, 133, 9, 42, 180, 0, 61, 16, 110, 46, 4, 100, 133, 184, 1, 14, 153, 0, 41]
abbrev dktX3_log_0 : List UInt8 := dkwX3_log_0 ++ dktX3_log_1
theorem dksX3_log_0 : cX3_log.data.toList.drop 0 = dktX3_log_0 := by decide +kernel
theorem dksX3_log_1 : cX3_log.data.toList.drop 24 = dktX3_log_1 := dk_seg dksX3_log_0 24 rfl rfl
theorem dksX3_log_2 : cX3_log.data.toList.drop 47 = dktX3_log_2 := dk_seg dksX3_log_1 23 rfl rfl
theorem dX3_log_0 : decode cX3_log 0 = .ok (.aload_n 0, 1) := dk_42 (dk_at dksX3_log_0 0 rfl rfl)
theorem dX3_log_1 : decode cX3_log 1 = .ok (.iconst 0, 1) := dk_3 (dk_at dksX3_log_0 1 rfl rfl)
theorem dX3_log_2 : decode cX3_log 2 = .ok (.putfield 99, 3) := dk_181 0 99 (dk_at dksX3_log_0 2 rfl rfl)
theorem dX3_log_5 : decode cX3_log 5 = .ok (.iload_n 1, 1) := dk_27 (dk_at dksX3_log_0 5 rfl rfl)
theorem dX3_log_6 : decode cX3_log 6 = .ok (.i2l, 1) := dk_133 (dk_at dksX3_log_0 6 rfl rfl)
theorem dX3_log_7 : decode cX3_log 7 = .ok (.lconst 0, 1) := dk_9 (dk_at dksX3_log_0 7 rfl rfl)
theorem dX3_log_8 : decode cX3_log 8 = .ok (.aload_n 0, 1) := dk_42 (dk_at dksX3_log_0 8 rfl rfl)
theorem dX3_log_9 : decode cX3_log 9 = .ok (.getfield 61, 3) := dk_180 0 61 (dk_at dksX3_log_0 9 rfl rfl)
theorem dX3_log_12 : decode cX3_log 12 = .ok (.bipush 110, 2) := dk_16 110 (dk_at dksX3_log_0 12 rfl rfl)
theorem dX3_log_14 : decode cX3_log 14 = .ok (.iaload, 1) := dk_46 (dk_at dksX3_log_0 14 rfl rfl)
theorem dX3_log_15 : decode cX3_log 15 = .ok (.iconst 1, 1) := dk_4 (dk_at dksX3_log_0 15 rfl rfl)
theorem dX3_log_16 : decode cX3_log 16 = .ok (.isub, 1) := dk_100 (dk_at dksX3_log_0 16 rfl rfl)
theorem dX3_log_17 : decode cX3_log 17 = .ok (.i2l, 1) := dk_133 (dk_at dksX3_log_0 17 rfl rfl)
theorem dX3_log_18 : decode cX3_log 18 = .ok (.invokestatic 270, 3) := dk_184 1 14 (dk_at dksX3_log_0 18 rfl rfl)
theorem dX3_log_21 : decode cX3_log 21 = .ok (.ifCond .eq 41, 3) := dk_153 0 41 (dk_at dksX3_log_0 21 rfl rfl)
theorem dX3_log_24 : decode cX3_log 24 = .ok (.iload_n 2, 1) := dk_28 (dk_at dksX3_log_1 0 rfl rfl)
theorem dX3_log_25 : decode cX3_log 25 = .ok (.i2l, 1) := dk_133 (dk_at dksX3_log_1 1 rfl rfl)
theorem dX3_log_26 : decode cX3_log 26 = .ok (.lconst 0, 1) := dk_9 (dk_at dksX3_log_1 2 rfl rfl)
theorem dX3_log_27 : decode cX3_log 27 = .ok (.ldc2_w 268, 3) := dk_20 1 12 (dk_at dksX3_log_1 3 rfl rfl)
theorem dX3_log_30 : decode cX3_log 30 = .ok (.invokestatic 270, 3) := dk_184 1 14 (dk_at dksX3_log_1 6 rfl rfl)
theorem dX3_log_33 : decode cX3_log 33 = .ok (.ifCond .eq 29, 3) := dk_153 0 29 (dk_at dksX3_log_1 9 rfl rfl)
theorem dX3_log_36 : decode cX3_log 36 = .ok (.aload_n 0, 1) := dk_42 (dk_at dksX3_log_1 12 rfl rfl)
theorem dX3_log_37 : decode cX3_log 37 = .ok (.getfield 61, 3) := dk_180 0 61 (dk_at dksX3_log_1 13 rfl rfl)
theorem dX3_log_40 : decode cX3_log 40 = .ok (.bipush 111, 2) := dk_16 111 (dk_at dksX3_log_1 16 rfl rfl)
theorem dX3_log_42 : decode cX3_log 42 = .ok (.iconst 3, 1) := dk_6 (dk_at dksX3_log_1 18 rfl rfl)
theorem dX3_log_43 : decode cX3_log 43 = .ok (.aload_n 0, 1) := dk_42 (dk_at dksX3_log_1 19 rfl rfl)
theorem dX3_log_44 : decode cX3_log 44 = .ok (.getfield 61, 3) := dk_180 0 61 (dk_at dksX3_log_1 20 rfl rfl)
theorem dX3_log_47 : decode cX3_log 47 = .ok (.bipush 110, 2) := dk_16 110 (dk_at dksX3_log_2 0 rfl rfl)
theorem dX3_log_49 : decode cX3_log 49 = .ok (.iaload, 1) := dk_46 (dk_at dksX3_log_2 2 rfl rfl)
theorem dX3_log_50 : decode cX3_log 50 = .ok (.iconst 1, 1) := dk_4 (dk_at dksX3_log_2 3 rfl rfl)
theorem dX3_log_51 : decode cX3_log 51 = .ok (.isub, 1) := dk_100 (dk_at dksX3_log_2 4 rfl rfl)
theorem dX3_log_52 : decode cX3_log 52 = .ok (.iload_n 1, 1) := dk_27 (dk_at dksX3_log_2 5 rfl rfl)
theorem dX3_log_53 : decode cX3_log 53 = .ok (.isub, 1) := dk_100 (dk_at dksX3_log_2 6 rfl rfl)
theorem dX3_log_54 : decode cX3_log 54 = .ok (.imul, 1) := dk_104 (dk_at dksX3_log_2 7 rfl rfl)
theorem dX3_log_55 : decode cX3_log 55 = .ok (.iadd, 1) := dk_96 (dk_at dksX3_log_2 8 rfl rfl)
theorem dX3_log_56 : decode cX3_log 56 = .ok (.iload_n 2, 1) := dk_28 (dk_at dksX3_log_2 9 rfl rfl)
theorem dX3_log_57 : decode cX3_log 57 = .ok (.iadd, 1) := dk_96 (dk_at dksX3_log_2 10 rfl rfl)
theorem dX3_log_58 : decode cX3_log 58 = .ok (.iaload, 1) := dk_46 (dk_at dksX3_log_2 11 rfl rfl)
theorem dX3_log_59 : decode cX3_log 59 = .ok (.goto 6, 3) := dk_167 0 6 (dk_at dksX3_log_2 12 rfl rfl)
theorem dX3_log_62 : decode cX3_log 62 = .ok (.ldc_w 391, 3) := dk_19 1 135 (dk_at dksX3_log_2 15 rfl rfl)
theorem dX3_log_65 : decode cX3_log 65 = .ok (.ireturn, 1) := dk_172 (dk_at dksX3_log_2 18 rfl rfl)
abbrev cX3_step : ByteArray := prog_14_method_71_code
def yX3_step : MethodName := ⟨RX3, "step", "(III)I"⟩
def dkwX3_step_2 : List UInt8 := [27, 104, 28, 96, 104, 29, 96, 46, 167, 0, 6, 19, 1, 135, 172]
abbrev dktX3_step_2 : List UInt8 := dkwX3_step_2 ++ []
def dkwX3_step_1 : List UInt8 := [133, 184, 1, 14, 153, 0, 31, 29, 133, 9, 10, 184, 1, 14, 153, 0, 21, 42, 180, 0, 55, 5, 16, 16]
abbrev dktX3_step_1 : List UInt8 := dkwX3_step_1 ++ dktX3_step_2
def dkwX3_step_0 : List UInt8 := [42, 3, 181, 0, 99, 42, 27, 182, 1, 136, 153, 0, 49, 28, 133, 9, 42, 180, 0, 58, 27, 46, 4, 100]
abbrev dktX3_step_0 : List UInt8 := dkwX3_step_0 ++ dktX3_step_1
theorem dksX3_step_0 : cX3_step.data.toList.drop 0 = dktX3_step_0 := by decide +kernel
theorem dksX3_step_1 : cX3_step.data.toList.drop 24 = dktX3_step_1 := dk_seg dksX3_step_0 24 rfl rfl
theorem dksX3_step_2 : cX3_step.data.toList.drop 48 = dktX3_step_2 := dk_seg dksX3_step_1 24 rfl rfl
theorem dX3_step_0 : decode cX3_step 0 = .ok (.aload_n 0, 1) := dk_42 (dk_at dksX3_step_0 0 rfl rfl)
theorem dX3_step_1 : decode cX3_step 1 = .ok (.iconst 0, 1) := dk_3 (dk_at dksX3_step_0 1 rfl rfl)
theorem dX3_step_2 : decode cX3_step 2 = .ok (.putfield 99, 3) := dk_181 0 99 (dk_at dksX3_step_0 2 rfl rfl)
theorem dX3_step_5 : decode cX3_step 5 = .ok (.aload_n 0, 1) := dk_42 (dk_at dksX3_step_0 5 rfl rfl)
theorem dX3_step_6 : decode cX3_step 6 = .ok (.iload_n 1, 1) := dk_27 (dk_at dksX3_step_0 6 rfl rfl)
theorem dX3_step_7 : decode cX3_step 7 = .ok (.invokevirtual 392, 3) := dk_182 1 136 (dk_at dksX3_step_0 7 rfl rfl)
theorem dX3_step_10 : decode cX3_step 10 = .ok (.ifCond .eq 49, 3) := dk_153 0 49 (dk_at dksX3_step_0 10 rfl rfl)
theorem dX3_step_13 : decode cX3_step 13 = .ok (.iload_n 2, 1) := dk_28 (dk_at dksX3_step_0 13 rfl rfl)
theorem dX3_step_14 : decode cX3_step 14 = .ok (.i2l, 1) := dk_133 (dk_at dksX3_step_0 14 rfl rfl)
theorem dX3_step_15 : decode cX3_step 15 = .ok (.lconst 0, 1) := dk_9 (dk_at dksX3_step_0 15 rfl rfl)
theorem dX3_step_16 : decode cX3_step 16 = .ok (.aload_n 0, 1) := dk_42 (dk_at dksX3_step_0 16 rfl rfl)
theorem dX3_step_17 : decode cX3_step 17 = .ok (.getfield 58, 3) := dk_180 0 58 (dk_at dksX3_step_0 17 rfl rfl)
theorem dX3_step_20 : decode cX3_step 20 = .ok (.iload_n 1, 1) := dk_27 (dk_at dksX3_step_0 20 rfl rfl)
theorem dX3_step_21 : decode cX3_step 21 = .ok (.iaload, 1) := dk_46 (dk_at dksX3_step_0 21 rfl rfl)
theorem dX3_step_22 : decode cX3_step 22 = .ok (.iconst 1, 1) := dk_4 (dk_at dksX3_step_0 22 rfl rfl)
theorem dX3_step_23 : decode cX3_step 23 = .ok (.isub, 1) := dk_100 (dk_at dksX3_step_0 23 rfl rfl)
theorem dX3_step_24 : decode cX3_step 24 = .ok (.i2l, 1) := dk_133 (dk_at dksX3_step_1 0 rfl rfl)
theorem dX3_step_25 : decode cX3_step 25 = .ok (.invokestatic 270, 3) := dk_184 1 14 (dk_at dksX3_step_1 1 rfl rfl)
theorem dX3_step_28 : decode cX3_step 28 = .ok (.ifCond .eq 31, 3) := dk_153 0 31 (dk_at dksX3_step_1 4 rfl rfl)
theorem dX3_step_31 : decode cX3_step 31 = .ok (.iload_n 3, 1) := dk_29 (dk_at dksX3_step_1 7 rfl rfl)
theorem dX3_step_32 : decode cX3_step 32 = .ok (.i2l, 1) := dk_133 (dk_at dksX3_step_1 8 rfl rfl)
theorem dX3_step_33 : decode cX3_step 33 = .ok (.lconst 0, 1) := dk_9 (dk_at dksX3_step_1 9 rfl rfl)
theorem dX3_step_34 : decode cX3_step 34 = .ok (.lconst 1, 1) := dk_10 (dk_at dksX3_step_1 10 rfl rfl)
theorem dX3_step_35 : decode cX3_step 35 = .ok (.invokestatic 270, 3) := dk_184 1 14 (dk_at dksX3_step_1 11 rfl rfl)
theorem dX3_step_38 : decode cX3_step 38 = .ok (.ifCond .eq 21, 3) := dk_153 0 21 (dk_at dksX3_step_1 14 rfl rfl)
theorem dX3_step_41 : decode cX3_step 41 = .ok (.aload_n 0, 1) := dk_42 (dk_at dksX3_step_1 17 rfl rfl)
theorem dX3_step_42 : decode cX3_step 42 = .ok (.getfield 55, 3) := dk_180 0 55 (dk_at dksX3_step_1 18 rfl rfl)
theorem dX3_step_45 : decode cX3_step 45 = .ok (.iconst 2, 1) := dk_5 (dk_at dksX3_step_1 21 rfl rfl)
theorem dX3_step_46 : decode cX3_step 46 = .ok (.bipush 16, 2) := dk_16 16 (dk_at dksX3_step_1 22 rfl rfl)
theorem dX3_step_48 : decode cX3_step 48 = .ok (.iload_n 1, 1) := dk_27 (dk_at dksX3_step_2 0 rfl rfl)
theorem dX3_step_49 : decode cX3_step 49 = .ok (.imul, 1) := dk_104 (dk_at dksX3_step_2 1 rfl rfl)
theorem dX3_step_50 : decode cX3_step 50 = .ok (.iload_n 2, 1) := dk_28 (dk_at dksX3_step_2 2 rfl rfl)
theorem dX3_step_51 : decode cX3_step 51 = .ok (.iadd, 1) := dk_96 (dk_at dksX3_step_2 3 rfl rfl)
theorem dX3_step_52 : decode cX3_step 52 = .ok (.imul, 1) := dk_104 (dk_at dksX3_step_2 4 rfl rfl)
theorem dX3_step_53 : decode cX3_step 53 = .ok (.iload_n 3, 1) := dk_29 (dk_at dksX3_step_2 5 rfl rfl)
theorem dX3_step_54 : decode cX3_step 54 = .ok (.iadd, 1) := dk_96 (dk_at dksX3_step_2 6 rfl rfl)
theorem dX3_step_55 : decode cX3_step 55 = .ok (.iaload, 1) := dk_46 (dk_at dksX3_step_2 7 rfl rfl)
theorem dX3_step_56 : decode cX3_step 56 = .ok (.goto 6, 3) := dk_167 0 6 (dk_at dksX3_step_2 8 rfl rfl)
theorem dX3_step_59 : decode cX3_step 59 = .ok (.ldc_w 391, 3) := dk_19 1 135 (dk_at dksX3_step_2 11 rfl rfl)
theorem dX3_step_62 : decode cX3_step 62 = .ok (.ireturn, 1) := dk_172 (dk_at dksX3_step_2 14 rfl rfl)
abbrev cX3_isPlan : ByteArray := prog_14_method_70_code
def yX3_isPlan : MethodName := ⟨RX3, "isPlan", "(I)Z"⟩
def dkwX3_isPlan_0 : List UInt8 := [27, 155, 0, 15, 27, 42, 180, 1, 30, 162, 0, 7, 4, 167, 0, 4, 3, 172]
abbrev dktX3_isPlan_0 : List UInt8 := dkwX3_isPlan_0 ++ []
theorem dksX3_isPlan_0 : cX3_isPlan.data.toList.drop 0 = dktX3_isPlan_0 := by decide +kernel
theorem dX3_isPlan_0 : decode cX3_isPlan 0 = .ok (.iload_n 1, 1) := dk_27 (dk_at dksX3_isPlan_0 0 rfl rfl)
theorem dX3_isPlan_1 : decode cX3_isPlan 1 = .ok (.ifCond .lt 15, 3) := dk_155 0 15 (dk_at dksX3_isPlan_0 1 rfl rfl)
theorem dX3_isPlan_4 : decode cX3_isPlan 4 = .ok (.iload_n 1, 1) := dk_27 (dk_at dksX3_isPlan_0 4 rfl rfl)
theorem dX3_isPlan_5 : decode cX3_isPlan 5 = .ok (.aload_n 0, 1) := dk_42 (dk_at dksX3_isPlan_0 5 rfl rfl)
theorem dX3_isPlan_6 : decode cX3_isPlan 6 = .ok (.getfield 286, 3) := dk_180 1 30 (dk_at dksX3_isPlan_0 6 rfl rfl)
theorem dX3_isPlan_9 : decode cX3_isPlan 9 = .ok (.if_icmp .ge 7, 3) := dk_162 0 7 (dk_at dksX3_isPlan_0 9 rfl rfl)
theorem dX3_isPlan_12 : decode cX3_isPlan 12 = .ok (.iconst 1, 1) := dk_4 (dk_at dksX3_isPlan_0 12 rfl rfl)
theorem dX3_isPlan_13 : decode cX3_isPlan 13 = .ok (.goto 4, 3) := dk_167 0 4 (dk_at dksX3_isPlan_0 13 rfl rfl)
theorem dX3_isPlan_16 : decode cX3_isPlan 16 = .ok (.iconst 0, 1) := dk_3 (dk_at dksX3_isPlan_0 16 rfl rfl)
theorem dX3_isPlan_17 : decode cX3_isPlan 17 = .ok (.ireturn, 1) := dk_172 (dk_at dksX3_isPlan_0 17 rfl rfl)
abbrev cX3_run : ByteArray := prog_14_method_74_code
def yX3_run : MethodName := ⟨RX3, "run", "(II)I"⟩
def dkwX3_run_5 : List UInt8 := [180, 0, 58, 27, 46, 160, 0, 7, 2, 167, 0, 4, 29, 172]
abbrev dktX3_run_5 : List UInt8 := dkwX3_run_5 ++ []
def dkwX3_run_4 : List UInt8 := [182, 1, 146, 96, 54, 4, 132, 3, 1, 167, 255, 203, 28, 4, 160, 0, 6, 21, 4, 172, 29, 42]
abbrev dktX3_run_4 : List UInt8 := dkwX3_run_4 ++ dktX3_run_5
def dkwX3_run_3 : List UInt8 := [104, 182, 1, 143, 153, 0, 30, 21, 4, 42, 42, 180, 0, 64, 5, 16, 16, 27, 104, 29, 96, 104]
abbrev dktX3_run_3 : List UInt8 := dkwX3_run_3 ++ dktX3_run_4
def dkwX3_run_2 : List UInt8 := [54, 4, 29, 42, 180, 0, 58, 27, 46, 162, 0, 49, 42, 42, 180, 0, 64, 5, 16, 16, 27, 104, 29, 96]
abbrev dktX3_run_2 : List UInt8 := dkwX3_run_2 ++ dktX3_run_3
def dkwX3_run_1 : List UInt8 := [184, 1, 14, 154, 0, 7, 19, 1, 135, 172, 42, 180, 0, 61, 42, 180, 0, 64, 184, 1, 139, 3, 62, 3]
abbrev dktX3_run_1 : List UInt8 := dkwX3_run_1 ++ dktX3_run_2
def dkwX3_run_0 : List UInt8 := [42, 3, 181, 0, 99, 42, 27, 182, 1, 136, 153, 0, 20, 42, 180, 1, 35, 153, 0, 13, 28, 133, 9, 10]
abbrev dktX3_run_0 : List UInt8 := dkwX3_run_0 ++ dktX3_run_1
theorem dksX3_run_0 : cX3_run.data.toList.drop 0 = dktX3_run_0 := by decide +kernel
theorem dksX3_run_1 : cX3_run.data.toList.drop 24 = dktX3_run_1 := dk_seg dksX3_run_0 24 rfl rfl
theorem dksX3_run_2 : cX3_run.data.toList.drop 48 = dktX3_run_2 := dk_seg dksX3_run_1 24 rfl rfl
theorem dksX3_run_3 : cX3_run.data.toList.drop 72 = dktX3_run_3 := dk_seg dksX3_run_2 24 rfl rfl
theorem dksX3_run_4 : cX3_run.data.toList.drop 94 = dktX3_run_4 := dk_seg dksX3_run_3 22 rfl rfl
theorem dksX3_run_5 : cX3_run.data.toList.drop 116 = dktX3_run_5 := dk_seg dksX3_run_4 22 rfl rfl
theorem dX3_run_0 : decode cX3_run 0 = .ok (.aload_n 0, 1) := dk_42 (dk_at dksX3_run_0 0 rfl rfl)
theorem dX3_run_1 : decode cX3_run 1 = .ok (.iconst 0, 1) := dk_3 (dk_at dksX3_run_0 1 rfl rfl)
theorem dX3_run_2 : decode cX3_run 2 = .ok (.putfield 99, 3) := dk_181 0 99 (dk_at dksX3_run_0 2 rfl rfl)
theorem dX3_run_5 : decode cX3_run 5 = .ok (.aload_n 0, 1) := dk_42 (dk_at dksX3_run_0 5 rfl rfl)
theorem dX3_run_6 : decode cX3_run 6 = .ok (.iload_n 1, 1) := dk_27 (dk_at dksX3_run_0 6 rfl rfl)
theorem dX3_run_7 : decode cX3_run 7 = .ok (.invokevirtual 392, 3) := dk_182 1 136 (dk_at dksX3_run_0 7 rfl rfl)
theorem dX3_run_10 : decode cX3_run 10 = .ok (.ifCond .eq 20, 3) := dk_153 0 20 (dk_at dksX3_run_0 10 rfl rfl)
theorem dX3_run_13 : decode cX3_run 13 = .ok (.aload_n 0, 1) := dk_42 (dk_at dksX3_run_0 13 rfl rfl)
theorem dX3_run_14 : decode cX3_run 14 = .ok (.getfield 291, 3) := dk_180 1 35 (dk_at dksX3_run_0 14 rfl rfl)
theorem dX3_run_17 : decode cX3_run 17 = .ok (.ifCond .eq 13, 3) := dk_153 0 13 (dk_at dksX3_run_0 17 rfl rfl)
theorem dX3_run_20 : decode cX3_run 20 = .ok (.iload_n 2, 1) := dk_28 (dk_at dksX3_run_0 20 rfl rfl)
theorem dX3_run_21 : decode cX3_run 21 = .ok (.i2l, 1) := dk_133 (dk_at dksX3_run_0 21 rfl rfl)
theorem dX3_run_22 : decode cX3_run 22 = .ok (.lconst 0, 1) := dk_9 (dk_at dksX3_run_0 22 rfl rfl)
theorem dX3_run_23 : decode cX3_run 23 = .ok (.lconst 1, 1) := dk_10 (dk_at dksX3_run_0 23 rfl rfl)
theorem dX3_run_24 : decode cX3_run 24 = .ok (.invokestatic 270, 3) := dk_184 1 14 (dk_at dksX3_run_1 0 rfl rfl)
theorem dX3_run_27 : decode cX3_run 27 = .ok (.ifCond .ne 7, 3) := dk_154 0 7 (dk_at dksX3_run_1 3 rfl rfl)
theorem dX3_run_30 : decode cX3_run 30 = .ok (.ldc_w 391, 3) := dk_19 1 135 (dk_at dksX3_run_1 6 rfl rfl)
theorem dX3_run_33 : decode cX3_run 33 = .ok (.ireturn, 1) := dk_172 (dk_at dksX3_run_1 9 rfl rfl)
theorem dX3_run_34 : decode cX3_run 34 = .ok (.aload_n 0, 1) := dk_42 (dk_at dksX3_run_1 10 rfl rfl)
theorem dX3_run_35 : decode cX3_run 35 = .ok (.getfield 61, 3) := dk_180 0 61 (dk_at dksX3_run_1 11 rfl rfl)
theorem dX3_run_38 : decode cX3_run 38 = .ok (.aload_n 0, 1) := dk_42 (dk_at dksX3_run_1 14 rfl rfl)
theorem dX3_run_39 : decode cX3_run 39 = .ok (.getfield 64, 3) := dk_180 0 64 (dk_at dksX3_run_1 15 rfl rfl)
theorem dX3_run_42 : decode cX3_run 42 = .ok (.invokestatic 395, 3) := dk_184 1 139 (dk_at dksX3_run_1 18 rfl rfl)
theorem dX3_run_45 : decode cX3_run 45 = .ok (.iconst 0, 1) := dk_3 (dk_at dksX3_run_1 21 rfl rfl)
theorem dX3_run_46 : decode cX3_run 46 = .ok (.istore_n 3, 1) := dk_62 (dk_at dksX3_run_1 22 rfl rfl)
theorem dX3_run_47 : decode cX3_run 47 = .ok (.iconst 0, 1) := dk_3 (dk_at dksX3_run_1 23 rfl rfl)
theorem dX3_run_48 : decode cX3_run 48 = .ok (.istore 4, 2) := dk_54 4 (dk_at dksX3_run_2 0 rfl rfl)
theorem dX3_run_50 : decode cX3_run 50 = .ok (.iload_n 3, 1) := dk_29 (dk_at dksX3_run_2 2 rfl rfl)
theorem dX3_run_51 : decode cX3_run 51 = .ok (.aload_n 0, 1) := dk_42 (dk_at dksX3_run_2 3 rfl rfl)
theorem dX3_run_52 : decode cX3_run 52 = .ok (.getfield 58, 3) := dk_180 0 58 (dk_at dksX3_run_2 4 rfl rfl)
theorem dX3_run_55 : decode cX3_run 55 = .ok (.iload_n 1, 1) := dk_27 (dk_at dksX3_run_2 7 rfl rfl)
theorem dX3_run_56 : decode cX3_run 56 = .ok (.iaload, 1) := dk_46 (dk_at dksX3_run_2 8 rfl rfl)
theorem dX3_run_57 : decode cX3_run 57 = .ok (.if_icmp .ge 49, 3) := dk_162 0 49 (dk_at dksX3_run_2 9 rfl rfl)
theorem dX3_run_60 : decode cX3_run 60 = .ok (.aload_n 0, 1) := dk_42 (dk_at dksX3_run_2 12 rfl rfl)
theorem dX3_run_61 : decode cX3_run 61 = .ok (.aload_n 0, 1) := dk_42 (dk_at dksX3_run_2 13 rfl rfl)
theorem dX3_run_62 : decode cX3_run 62 = .ok (.getfield 64, 3) := dk_180 0 64 (dk_at dksX3_run_2 14 rfl rfl)
theorem dX3_run_65 : decode cX3_run 65 = .ok (.iconst 2, 1) := dk_5 (dk_at dksX3_run_2 17 rfl rfl)
theorem dX3_run_66 : decode cX3_run 66 = .ok (.bipush 16, 2) := dk_16 16 (dk_at dksX3_run_2 18 rfl rfl)
theorem dX3_run_68 : decode cX3_run 68 = .ok (.iload_n 1, 1) := dk_27 (dk_at dksX3_run_2 20 rfl rfl)
theorem dX3_run_69 : decode cX3_run 69 = .ok (.imul, 1) := dk_104 (dk_at dksX3_run_2 21 rfl rfl)
theorem dX3_run_70 : decode cX3_run 70 = .ok (.iload_n 3, 1) := dk_29 (dk_at dksX3_run_2 22 rfl rfl)
theorem dX3_run_71 : decode cX3_run 71 = .ok (.iadd, 1) := dk_96 (dk_at dksX3_run_2 23 rfl rfl)
theorem dX3_run_72 : decode cX3_run 72 = .ok (.imul, 1) := dk_104 (dk_at dksX3_run_3 0 rfl rfl)
theorem dX3_run_73 : decode cX3_run 73 = .ok (.invokevirtual 399, 3) := dk_182 1 143 (dk_at dksX3_run_3 1 rfl rfl)
theorem dX3_run_76 : decode cX3_run 76 = .ok (.ifCond .eq 30, 3) := dk_153 0 30 (dk_at dksX3_run_3 4 rfl rfl)
theorem dX3_run_79 : decode cX3_run 79 = .ok (.iload 4, 2) := dk_21 4 (dk_at dksX3_run_3 7 rfl rfl)
theorem dX3_run_81 : decode cX3_run 81 = .ok (.aload_n 0, 1) := dk_42 (dk_at dksX3_run_3 9 rfl rfl)
theorem dX3_run_82 : decode cX3_run 82 = .ok (.aload_n 0, 1) := dk_42 (dk_at dksX3_run_3 10 rfl rfl)
theorem dX3_run_83 : decode cX3_run 83 = .ok (.getfield 64, 3) := dk_180 0 64 (dk_at dksX3_run_3 11 rfl rfl)
theorem dX3_run_86 : decode cX3_run 86 = .ok (.iconst 2, 1) := dk_5 (dk_at dksX3_run_3 14 rfl rfl)
theorem dX3_run_87 : decode cX3_run 87 = .ok (.bipush 16, 2) := dk_16 16 (dk_at dksX3_run_3 15 rfl rfl)
theorem dX3_run_89 : decode cX3_run 89 = .ok (.iload_n 1, 1) := dk_27 (dk_at dksX3_run_3 17 rfl rfl)
theorem dX3_run_90 : decode cX3_run 90 = .ok (.imul, 1) := dk_104 (dk_at dksX3_run_3 18 rfl rfl)
theorem dX3_run_91 : decode cX3_run 91 = .ok (.iload_n 3, 1) := dk_29 (dk_at dksX3_run_3 19 rfl rfl)
theorem dX3_run_92 : decode cX3_run 92 = .ok (.iadd, 1) := dk_96 (dk_at dksX3_run_3 20 rfl rfl)
theorem dX3_run_93 : decode cX3_run 93 = .ok (.imul, 1) := dk_104 (dk_at dksX3_run_3 21 rfl rfl)
theorem dX3_run_94 : decode cX3_run 94 = .ok (.invokevirtual 402, 3) := dk_182 1 146 (dk_at dksX3_run_4 0 rfl rfl)
theorem dX3_run_97 : decode cX3_run 97 = .ok (.iadd, 1) := dk_96 (dk_at dksX3_run_4 3 rfl rfl)
theorem dX3_run_98 : decode cX3_run 98 = .ok (.istore 4, 2) := dk_54 4 (dk_at dksX3_run_4 4 rfl rfl)
theorem dX3_run_100 : decode cX3_run 100 = .ok (.iinc 3 1, 3) := dk_132 3 1 (dk_at dksX3_run_4 6 rfl rfl)
theorem dX3_run_103 : decode cX3_run 103 = .ok (.goto (-53), 3) := dk_167 255 203 (dk_at dksX3_run_4 9 rfl rfl)
theorem dX3_run_106 : decode cX3_run 106 = .ok (.iload_n 2, 1) := dk_28 (dk_at dksX3_run_4 12 rfl rfl)
theorem dX3_run_107 : decode cX3_run 107 = .ok (.iconst 1, 1) := dk_4 (dk_at dksX3_run_4 13 rfl rfl)
theorem dX3_run_108 : decode cX3_run 108 = .ok (.if_icmp .ne 6, 3) := dk_160 0 6 (dk_at dksX3_run_4 14 rfl rfl)
theorem dX3_run_111 : decode cX3_run 111 = .ok (.iload 4, 2) := dk_21 4 (dk_at dksX3_run_4 17 rfl rfl)
theorem dX3_run_113 : decode cX3_run 113 = .ok (.ireturn, 1) := dk_172 (dk_at dksX3_run_4 19 rfl rfl)
theorem dX3_run_114 : decode cX3_run 114 = .ok (.iload_n 3, 1) := dk_29 (dk_at dksX3_run_4 20 rfl rfl)
theorem dX3_run_115 : decode cX3_run 115 = .ok (.aload_n 0, 1) := dk_42 (dk_at dksX3_run_4 21 rfl rfl)
theorem dX3_run_116 : decode cX3_run 116 = .ok (.getfield 58, 3) := dk_180 0 58 (dk_at dksX3_run_5 0 rfl rfl)
theorem dX3_run_119 : decode cX3_run 119 = .ok (.iload_n 1, 1) := dk_27 (dk_at dksX3_run_5 3 rfl rfl)
theorem dX3_run_120 : decode cX3_run 120 = .ok (.iaload, 1) := dk_46 (dk_at dksX3_run_5 4 rfl rfl)
theorem dX3_run_121 : decode cX3_run 121 = .ok (.if_icmp .ne 7, 3) := dk_160 0 7 (dk_at dksX3_run_5 5 rfl rfl)
theorem dX3_run_124 : decode cX3_run 124 = .ok (.iconst (-1), 1) := dk_2 (dk_at dksX3_run_5 8 rfl rfl)
theorem dX3_run_125 : decode cX3_run 125 = .ok (.goto 4, 3) := dk_167 0 4 (dk_at dksX3_run_5 9 rfl rfl)
theorem dX3_run_128 : decode cX3_run 128 = .ok (.iload_n 3, 1) := dk_29 (dk_at dksX3_run_5 12 rfl rfl)
theorem dX3_run_129 : decode cX3_run 129 = .ok (.ireturn, 1) := dk_172 (dk_at dksX3_run_5 13 rfl rfl)
abbrev cX3_copy : ByteArray := prog_14_method_40_code
def yX3_copy : MethodName := ⟨RX3, "copy", "([I[I)V"⟩
def dkwX3_copy_1 : List UInt8 := [79, 177]
abbrev dktX3_copy_1 : List UInt8 := dkwX3_copy_1 ++ []
def dkwX3_copy_0 : List UInt8 := [3, 61, 28, 16, 110, 162, 0, 15, 43, 28, 42, 28, 46, 79, 132, 2, 1, 167, 255, 241, 43, 16, 110, 3]
abbrev dktX3_copy_0 : List UInt8 := dkwX3_copy_0 ++ dktX3_copy_1
theorem dksX3_copy_0 : cX3_copy.data.toList.drop 0 = dktX3_copy_0 := by decide +kernel
theorem dksX3_copy_1 : cX3_copy.data.toList.drop 24 = dktX3_copy_1 := dk_seg dksX3_copy_0 24 rfl rfl
theorem dX3_copy_0 : decode cX3_copy 0 = .ok (.iconst 0, 1) := dk_3 (dk_at dksX3_copy_0 0 rfl rfl)
theorem dX3_copy_1 : decode cX3_copy 1 = .ok (.istore_n 2, 1) := dk_61 (dk_at dksX3_copy_0 1 rfl rfl)
theorem dX3_copy_2 : decode cX3_copy 2 = .ok (.iload_n 2, 1) := dk_28 (dk_at dksX3_copy_0 2 rfl rfl)
theorem dX3_copy_3 : decode cX3_copy 3 = .ok (.bipush 110, 2) := dk_16 110 (dk_at dksX3_copy_0 3 rfl rfl)
theorem dX3_copy_5 : decode cX3_copy 5 = .ok (.if_icmp .ge 15, 3) := dk_162 0 15 (dk_at dksX3_copy_0 5 rfl rfl)
theorem dX3_copy_8 : decode cX3_copy 8 = .ok (.aload_n 1, 1) := dk_43 (dk_at dksX3_copy_0 8 rfl rfl)
theorem dX3_copy_9 : decode cX3_copy 9 = .ok (.iload_n 2, 1) := dk_28 (dk_at dksX3_copy_0 9 rfl rfl)
theorem dX3_copy_10 : decode cX3_copy 10 = .ok (.aload_n 0, 1) := dk_42 (dk_at dksX3_copy_0 10 rfl rfl)
theorem dX3_copy_11 : decode cX3_copy 11 = .ok (.iload_n 2, 1) := dk_28 (dk_at dksX3_copy_0 11 rfl rfl)
theorem dX3_copy_12 : decode cX3_copy 12 = .ok (.iaload, 1) := dk_46 (dk_at dksX3_copy_0 12 rfl rfl)
theorem dX3_copy_13 : decode cX3_copy 13 = .ok (.iastore, 1) := dk_79 (dk_at dksX3_copy_0 13 rfl rfl)
theorem dX3_copy_14 : decode cX3_copy 14 = .ok (.iinc 2 1, 3) := dk_132 2 1 (dk_at dksX3_copy_0 14 rfl rfl)
theorem dX3_copy_17 : decode cX3_copy 17 = .ok (.goto (-15), 3) := dk_167 255 241 (dk_at dksX3_copy_0 17 rfl rfl)
theorem dX3_copy_20 : decode cX3_copy 20 = .ok (.aload_n 1, 1) := dk_43 (dk_at dksX3_copy_0 20 rfl rfl)
theorem dX3_copy_21 : decode cX3_copy 21 = .ok (.bipush 110, 2) := dk_16 110 (dk_at dksX3_copy_0 21 rfl rfl)
theorem dX3_copy_23 : decode cX3_copy 23 = .ok (.iconst 0, 1) := dk_3 (dk_at dksX3_copy_0 23 rfl rfl)
theorem dX3_copy_24 : decode cX3_copy 24 = .ok (.iastore, 1) := dk_79 (dk_at dksX3_copy_1 0 rfl rfl)
theorem dX3_copy_25 : decode cX3_copy 25 = .ok (.return_, 1) := dk_177 (dk_at dksX3_copy_1 1 rfl rfl)
abbrev cX3_canStep : ByteArray := prog_14_method_72_code
def yX3_canStep : MethodName := ⟨RX3, "canStep", "([II)Z"⟩
def dkwX3_canStep_3 : List UInt8 := [29, 182, 1, 110, 172, 42, 43, 29, 182, 1, 117, 172]
abbrev dktX3_canStep_3 : List UInt8 := dkwX3_canStep_3 ++ []
def dkwX3_canStep_2 : List UInt8 := [43, 16, 18, 46, 17, 3, 231, 162, 0, 7, 4, 167, 0, 4, 3, 172, 42, 29, 182, 1, 91, 172, 42, 43]
abbrev dktX3_canStep_2 : List UInt8 := dkwX3_canStep_2 ++ dktX3_canStep_3
def dkwX3_canStep_1 : List UInt8 := [170, 0, 0, 0, 54, 0, 0, 0, 0, 0, 0, 0, 2, 0, 0, 0, 25, 0, 0, 0, 41, 0, 0, 0, 47]
abbrev dktX3_canStep_1 : List UInt8 := dkwX3_canStep_1 ++ dktX3_canStep_2
def dkwX3_canStep_0 : List UInt8 := [42, 180, 0, 55, 28, 4, 96, 46, 62, 42, 180, 0, 55, 28, 46]
abbrev dktX3_canStep_0 : List UInt8 := dkwX3_canStep_0 ++ dktX3_canStep_1
theorem dksX3_canStep_0 : cX3_canStep.data.toList.drop 0 = dktX3_canStep_0 := by decide +kernel
theorem dksX3_canStep_1 : cX3_canStep.data.toList.drop 15 = dktX3_canStep_1 := dk_seg dksX3_canStep_0 15 rfl rfl
theorem dksX3_canStep_2 : cX3_canStep.data.toList.drop 40 = dktX3_canStep_2 := dk_seg dksX3_canStep_1 25 rfl rfl
theorem dksX3_canStep_3 : cX3_canStep.data.toList.drop 64 = dktX3_canStep_3 := dk_seg dksX3_canStep_2 24 rfl rfl
theorem dX3_canStep_0 : decode cX3_canStep 0 = .ok (.aload_n 0, 1) := dk_42 (dk_at dksX3_canStep_0 0 rfl rfl)
theorem dX3_canStep_1 : decode cX3_canStep 1 = .ok (.getfield 55, 3) := dk_180 0 55 (dk_at dksX3_canStep_0 1 rfl rfl)
theorem dX3_canStep_4 : decode cX3_canStep 4 = .ok (.iload_n 2, 1) := dk_28 (dk_at dksX3_canStep_0 4 rfl rfl)
theorem dX3_canStep_5 : decode cX3_canStep 5 = .ok (.iconst 1, 1) := dk_4 (dk_at dksX3_canStep_0 5 rfl rfl)
theorem dX3_canStep_6 : decode cX3_canStep 6 = .ok (.iadd, 1) := dk_96 (dk_at dksX3_canStep_0 6 rfl rfl)
theorem dX3_canStep_7 : decode cX3_canStep 7 = .ok (.iaload, 1) := dk_46 (dk_at dksX3_canStep_0 7 rfl rfl)
theorem dX3_canStep_8 : decode cX3_canStep 8 = .ok (.istore_n 3, 1) := dk_62 (dk_at dksX3_canStep_0 8 rfl rfl)
theorem dX3_canStep_9 : decode cX3_canStep 9 = .ok (.aload_n 0, 1) := dk_42 (dk_at dksX3_canStep_0 9 rfl rfl)
theorem dX3_canStep_10 : decode cX3_canStep 10 = .ok (.getfield 55, 3) := dk_180 0 55 (dk_at dksX3_canStep_0 10 rfl rfl)
theorem dX3_canStep_13 : decode cX3_canStep 13 = .ok (.iload_n 2, 1) := dk_28 (dk_at dksX3_canStep_0 13 rfl rfl)
theorem dX3_canStep_14 : decode cX3_canStep 14 = .ok (.iaload, 1) := dk_46 (dk_at dksX3_canStep_0 14 rfl rfl)
theorem dX3_canStep_15 : decode cX3_canStep 15 = .ok (.tableswitch 54 0 2 #[25, 41, 47], 25) := by decide +kernel
theorem dX3_canStep_40 : decode cX3_canStep 40 = .ok (.aload_n 1, 1) := dk_43 (dk_at dksX3_canStep_2 0 rfl rfl)
theorem dX3_canStep_41 : decode cX3_canStep 41 = .ok (.bipush 18, 2) := dk_16 18 (dk_at dksX3_canStep_2 1 rfl rfl)
theorem dX3_canStep_43 : decode cX3_canStep 43 = .ok (.iaload, 1) := dk_46 (dk_at dksX3_canStep_2 3 rfl rfl)
theorem dX3_canStep_44 : decode cX3_canStep 44 = .ok (.sipush 999, 3) := dk_17 3 231 (dk_at dksX3_canStep_2 4 rfl rfl)
theorem dX3_canStep_47 : decode cX3_canStep 47 = .ok (.if_icmp .ge 7, 3) := dk_162 0 7 (dk_at dksX3_canStep_2 7 rfl rfl)
theorem dX3_canStep_50 : decode cX3_canStep 50 = .ok (.iconst 1, 1) := dk_4 (dk_at dksX3_canStep_2 10 rfl rfl)
theorem dX3_canStep_51 : decode cX3_canStep 51 = .ok (.goto 4, 3) := dk_167 0 4 (dk_at dksX3_canStep_2 11 rfl rfl)
theorem dX3_canStep_54 : decode cX3_canStep 54 = .ok (.iconst 0, 1) := dk_3 (dk_at dksX3_canStep_2 14 rfl rfl)
theorem dX3_canStep_55 : decode cX3_canStep 55 = .ok (.ireturn, 1) := dk_172 (dk_at dksX3_canStep_2 15 rfl rfl)
theorem dX3_canStep_56 : decode cX3_canStep 56 = .ok (.aload_n 0, 1) := dk_42 (dk_at dksX3_canStep_2 16 rfl rfl)
theorem dX3_canStep_57 : decode cX3_canStep 57 = .ok (.iload_n 3, 1) := dk_29 (dk_at dksX3_canStep_2 17 rfl rfl)
theorem dX3_canStep_58 : decode cX3_canStep 58 = .ok (.invokevirtual 347, 3) := dk_182 1 91 (dk_at dksX3_canStep_2 18 rfl rfl)
theorem dX3_canStep_61 : decode cX3_canStep 61 = .ok (.ireturn, 1) := dk_172 (dk_at dksX3_canStep_2 21 rfl rfl)
theorem dX3_canStep_62 : decode cX3_canStep 62 = .ok (.aload_n 0, 1) := dk_42 (dk_at dksX3_canStep_2 22 rfl rfl)
theorem dX3_canStep_63 : decode cX3_canStep 63 = .ok (.aload_n 1, 1) := dk_43 (dk_at dksX3_canStep_2 23 rfl rfl)
theorem dX3_canStep_64 : decode cX3_canStep 64 = .ok (.iload_n 3, 1) := dk_29 (dk_at dksX3_canStep_3 0 rfl rfl)
theorem dX3_canStep_65 : decode cX3_canStep 65 = .ok (.invokevirtual 366, 3) := dk_182 1 110 (dk_at dksX3_canStep_3 1 rfl rfl)
theorem dX3_canStep_68 : decode cX3_canStep 68 = .ok (.ireturn, 1) := dk_172 (dk_at dksX3_canStep_3 4 rfl rfl)
theorem dX3_canStep_69 : decode cX3_canStep 69 = .ok (.aload_n 0, 1) := dk_42 (dk_at dksX3_canStep_3 5 rfl rfl)
theorem dX3_canStep_70 : decode cX3_canStep 70 = .ok (.aload_n 1, 1) := dk_43 (dk_at dksX3_canStep_3 6 rfl rfl)
theorem dX3_canStep_71 : decode cX3_canStep 71 = .ok (.iload_n 3, 1) := dk_29 (dk_at dksX3_canStep_3 7 rfl rfl)
theorem dX3_canStep_72 : decode cX3_canStep 72 = .ok (.invokevirtual 373, 3) := dk_182 1 117 (dk_at dksX3_canStep_3 8 rfl rfl)
theorem dX3_canStep_75 : decode cX3_canStep 75 = .ok (.ireturn, 1) := dk_172 (dk_at dksX3_canStep_3 11 rfl rfl)
abbrev cX3_goStep : ByteArray := prog_14_method_73_code
def yX3_goStep : MethodName := ⟨RX3, "goStep", "([II)I"⟩
def dkwX3_goStep_3 : List UInt8 := [79, 3, 172, 43, 29, 3, 5, 184, 1, 114, 3, 172, 43, 29, 5, 6, 184, 1, 114, 3, 172]
abbrev dktX3_goStep_3 : List UInt8 := dkwX3_goStep_3 ++ []
def dkwX3_goStep_2 : List UInt8 := [42, 43, 182, 1, 106, 2, 160, 0, 7, 3, 167, 0, 4, 4, 172, 43, 16, 16, 92, 46, 4, 29, 120, 130]
abbrev dktX3_goStep_2 : List UInt8 := dkwX3_goStep_2 ++ dktX3_goStep_3
def dkwX3_goStep_1 : List UInt8 := [170, 0, 0, 0, 61, 0, 0, 0, 0, 0, 0, 0, 2, 0, 0, 0, 25, 0, 0, 0, 40, 0, 0, 0, 52]
abbrev dktX3_goStep_1 : List UInt8 := dkwX3_goStep_1 ++ dktX3_goStep_2
def dkwX3_goStep_0 : List UInt8 := [42, 180, 0, 55, 28, 4, 96, 46, 62, 42, 180, 0, 55, 28, 46]
abbrev dktX3_goStep_0 : List UInt8 := dkwX3_goStep_0 ++ dktX3_goStep_1
theorem dksX3_goStep_0 : cX3_goStep.data.toList.drop 0 = dktX3_goStep_0 := by decide +kernel
theorem dksX3_goStep_1 : cX3_goStep.data.toList.drop 15 = dktX3_goStep_1 := dk_seg dksX3_goStep_0 15 rfl rfl
theorem dksX3_goStep_2 : cX3_goStep.data.toList.drop 40 = dktX3_goStep_2 := dk_seg dksX3_goStep_1 25 rfl rfl
theorem dksX3_goStep_3 : cX3_goStep.data.toList.drop 64 = dktX3_goStep_3 := dk_seg dksX3_goStep_2 24 rfl rfl
theorem dX3_goStep_0 : decode cX3_goStep 0 = .ok (.aload_n 0, 1) := dk_42 (dk_at dksX3_goStep_0 0 rfl rfl)
theorem dX3_goStep_1 : decode cX3_goStep 1 = .ok (.getfield 55, 3) := dk_180 0 55 (dk_at dksX3_goStep_0 1 rfl rfl)
theorem dX3_goStep_4 : decode cX3_goStep 4 = .ok (.iload_n 2, 1) := dk_28 (dk_at dksX3_goStep_0 4 rfl rfl)
theorem dX3_goStep_5 : decode cX3_goStep 5 = .ok (.iconst 1, 1) := dk_4 (dk_at dksX3_goStep_0 5 rfl rfl)
theorem dX3_goStep_6 : decode cX3_goStep 6 = .ok (.iadd, 1) := dk_96 (dk_at dksX3_goStep_0 6 rfl rfl)
theorem dX3_goStep_7 : decode cX3_goStep 7 = .ok (.iaload, 1) := dk_46 (dk_at dksX3_goStep_0 7 rfl rfl)
theorem dX3_goStep_8 : decode cX3_goStep 8 = .ok (.istore_n 3, 1) := dk_62 (dk_at dksX3_goStep_0 8 rfl rfl)
theorem dX3_goStep_9 : decode cX3_goStep 9 = .ok (.aload_n 0, 1) := dk_42 (dk_at dksX3_goStep_0 9 rfl rfl)
theorem dX3_goStep_10 : decode cX3_goStep 10 = .ok (.getfield 55, 3) := dk_180 0 55 (dk_at dksX3_goStep_0 10 rfl rfl)
theorem dX3_goStep_13 : decode cX3_goStep 13 = .ok (.iload_n 2, 1) := dk_28 (dk_at dksX3_goStep_0 13 rfl rfl)
theorem dX3_goStep_14 : decode cX3_goStep 14 = .ok (.iaload, 1) := dk_46 (dk_at dksX3_goStep_0 14 rfl rfl)
theorem dX3_goStep_15 : decode cX3_goStep 15 = .ok (.tableswitch 61 0 2 #[25, 40, 52], 25) := by decide +kernel
theorem dX3_goStep_40 : decode cX3_goStep 40 = .ok (.aload_n 0, 1) := dk_42 (dk_at dksX3_goStep_2 0 rfl rfl)
theorem dX3_goStep_41 : decode cX3_goStep 41 = .ok (.aload_n 1, 1) := dk_43 (dk_at dksX3_goStep_2 1 rfl rfl)
theorem dX3_goStep_42 : decode cX3_goStep 42 = .ok (.invokevirtual 362, 3) := dk_182 1 106 (dk_at dksX3_goStep_2 2 rfl rfl)
theorem dX3_goStep_45 : decode cX3_goStep 45 = .ok (.iconst (-1), 1) := dk_2 (dk_at dksX3_goStep_2 5 rfl rfl)
theorem dX3_goStep_46 : decode cX3_goStep 46 = .ok (.if_icmp .ne 7, 3) := dk_160 0 7 (dk_at dksX3_goStep_2 6 rfl rfl)
theorem dX3_goStep_49 : decode cX3_goStep 49 = .ok (.iconst 0, 1) := dk_3 (dk_at dksX3_goStep_2 9 rfl rfl)
theorem dX3_goStep_50 : decode cX3_goStep 50 = .ok (.goto 4, 3) := dk_167 0 4 (dk_at dksX3_goStep_2 10 rfl rfl)
theorem dX3_goStep_53 : decode cX3_goStep 53 = .ok (.iconst 1, 1) := dk_4 (dk_at dksX3_goStep_2 13 rfl rfl)
theorem dX3_goStep_54 : decode cX3_goStep 54 = .ok (.ireturn, 1) := dk_172 (dk_at dksX3_goStep_2 14 rfl rfl)
theorem dX3_goStep_55 : decode cX3_goStep 55 = .ok (.aload_n 1, 1) := dk_43 (dk_at dksX3_goStep_2 15 rfl rfl)
theorem dX3_goStep_56 : decode cX3_goStep 56 = .ok (.bipush 16, 2) := dk_16 16 (dk_at dksX3_goStep_2 16 rfl rfl)
theorem dX3_goStep_58 : decode cX3_goStep 58 = .ok (.dup2, 1) := dk_92 (dk_at dksX3_goStep_2 18 rfl rfl)
theorem dX3_goStep_59 : decode cX3_goStep 59 = .ok (.iaload, 1) := dk_46 (dk_at dksX3_goStep_2 19 rfl rfl)
theorem dX3_goStep_60 : decode cX3_goStep 60 = .ok (.iconst 1, 1) := dk_4 (dk_at dksX3_goStep_2 20 rfl rfl)
theorem dX3_goStep_61 : decode cX3_goStep 61 = .ok (.iload_n 3, 1) := dk_29 (dk_at dksX3_goStep_2 21 rfl rfl)
theorem dX3_goStep_62 : decode cX3_goStep 62 = .ok (.ishl, 1) := dk_120 (dk_at dksX3_goStep_2 22 rfl rfl)
theorem dX3_goStep_63 : decode cX3_goStep 63 = .ok (.ixor, 1) := dk_130 (dk_at dksX3_goStep_2 23 rfl rfl)
theorem dX3_goStep_64 : decode cX3_goStep 64 = .ok (.iastore, 1) := dk_79 (dk_at dksX3_goStep_3 0 rfl rfl)
theorem dX3_goStep_65 : decode cX3_goStep 65 = .ok (.iconst 0, 1) := dk_3 (dk_at dksX3_goStep_3 1 rfl rfl)
theorem dX3_goStep_66 : decode cX3_goStep 66 = .ok (.ireturn, 1) := dk_172 (dk_at dksX3_goStep_3 2 rfl rfl)
theorem dX3_goStep_67 : decode cX3_goStep 67 = .ok (.aload_n 1, 1) := dk_43 (dk_at dksX3_goStep_3 3 rfl rfl)
theorem dX3_goStep_68 : decode cX3_goStep 68 = .ok (.iload_n 3, 1) := dk_29 (dk_at dksX3_goStep_3 4 rfl rfl)
theorem dX3_goStep_69 : decode cX3_goStep 69 = .ok (.iconst 0, 1) := dk_3 (dk_at dksX3_goStep_3 5 rfl rfl)
theorem dX3_goStep_70 : decode cX3_goStep 70 = .ok (.iconst 2, 1) := dk_5 (dk_at dksX3_goStep_3 6 rfl rfl)
theorem dX3_goStep_71 : decode cX3_goStep 71 = .ok (.invokestatic 370, 3) := dk_184 1 114 (dk_at dksX3_goStep_3 7 rfl rfl)
theorem dX3_goStep_74 : decode cX3_goStep 74 = .ok (.iconst 0, 1) := dk_3 (dk_at dksX3_goStep_3 10 rfl rfl)
theorem dX3_goStep_75 : decode cX3_goStep 75 = .ok (.ireturn, 1) := dk_172 (dk_at dksX3_goStep_3 11 rfl rfl)
theorem dX3_goStep_76 : decode cX3_goStep 76 = .ok (.aload_n 1, 1) := dk_43 (dk_at dksX3_goStep_3 12 rfl rfl)
theorem dX3_goStep_77 : decode cX3_goStep 77 = .ok (.iload_n 3, 1) := dk_29 (dk_at dksX3_goStep_3 13 rfl rfl)
theorem dX3_goStep_78 : decode cX3_goStep 78 = .ok (.iconst 2, 1) := dk_5 (dk_at dksX3_goStep_3 14 rfl rfl)
theorem dX3_goStep_79 : decode cX3_goStep 79 = .ok (.iconst 3, 1) := dk_6 (dk_at dksX3_goStep_3 15 rfl rfl)
theorem dX3_goStep_80 : decode cX3_goStep 80 = .ok (.invokestatic 370, 3) := dk_184 1 114 (dk_at dksX3_goStep_3 16 rfl rfl)
theorem dX3_goStep_83 : decode cX3_goStep 83 = .ok (.iconst 0, 1) := dk_3 (dk_at dksX3_goStep_3 19 rfl rfl)
theorem dX3_goStep_84 : decode cX3_goStep 84 = .ok (.ireturn, 1) := dk_172 (dk_at dksX3_goStep_3 20 rfl rfl)
abbrev cX3_perform : ByteArray := prog_14_method_75_code
def yX3_perform : MethodName := ⟨RX3, "perform", "(I)I"⟩
def dkwX3_perform_3 : List UInt8 := [182, 1, 146, 62, 132, 2, 1, 167, 255, 203, 28, 172]
abbrev dktX3_perform_3 : List UInt8 := dkwX3_perform_3 ++ []
def dkwX3_perform_2 : List UInt8 := [182, 1, 143, 153, 0, 30, 42, 182, 1, 103, 42, 42, 180, 0, 61, 5, 16, 16, 27, 104, 28, 96, 104]
abbrev dktX3_perform_2 : List UInt8 := dkwX3_perform_2 ++ dktX3_perform_3
def dkwX3_perform_1 : List UInt8 := [28, 42, 180, 0, 58, 27, 46, 162, 0, 49, 42, 42, 180, 0, 61, 5, 16, 16, 27, 104, 28, 96, 104]
abbrev dktX3_perform_1 : List UInt8 := dkwX3_perform_1 ++ dktX3_perform_2
def dkwX3_perform_0 : List UInt8 := [42, 3, 181, 0, 99, 42, 27, 182, 1, 136, 153, 0, 10, 42, 180, 1, 35, 154, 0, 5, 2, 172, 3, 61]
abbrev dktX3_perform_0 : List UInt8 := dkwX3_perform_0 ++ dktX3_perform_1
theorem dksX3_perform_0 : cX3_perform.data.toList.drop 0 = dktX3_perform_0 := by decide +kernel
theorem dksX3_perform_1 : cX3_perform.data.toList.drop 24 = dktX3_perform_1 := dk_seg dksX3_perform_0 24 rfl rfl
theorem dksX3_perform_2 : cX3_perform.data.toList.drop 47 = dktX3_perform_2 := dk_seg dksX3_perform_1 23 rfl rfl
theorem dksX3_perform_3 : cX3_perform.data.toList.drop 70 = dktX3_perform_3 := dk_seg dksX3_perform_2 23 rfl rfl
theorem dX3_perform_0 : decode cX3_perform 0 = .ok (.aload_n 0, 1) := dk_42 (dk_at dksX3_perform_0 0 rfl rfl)
theorem dX3_perform_1 : decode cX3_perform 1 = .ok (.iconst 0, 1) := dk_3 (dk_at dksX3_perform_0 1 rfl rfl)
theorem dX3_perform_2 : decode cX3_perform 2 = .ok (.putfield 99, 3) := dk_181 0 99 (dk_at dksX3_perform_0 2 rfl rfl)
theorem dX3_perform_5 : decode cX3_perform 5 = .ok (.aload_n 0, 1) := dk_42 (dk_at dksX3_perform_0 5 rfl rfl)
theorem dX3_perform_6 : decode cX3_perform 6 = .ok (.iload_n 1, 1) := dk_27 (dk_at dksX3_perform_0 6 rfl rfl)
theorem dX3_perform_7 : decode cX3_perform 7 = .ok (.invokevirtual 392, 3) := dk_182 1 136 (dk_at dksX3_perform_0 7 rfl rfl)
theorem dX3_perform_10 : decode cX3_perform 10 = .ok (.ifCond .eq 10, 3) := dk_153 0 10 (dk_at dksX3_perform_0 10 rfl rfl)
theorem dX3_perform_13 : decode cX3_perform 13 = .ok (.aload_n 0, 1) := dk_42 (dk_at dksX3_perform_0 13 rfl rfl)
theorem dX3_perform_14 : decode cX3_perform 14 = .ok (.getfield 291, 3) := dk_180 1 35 (dk_at dksX3_perform_0 14 rfl rfl)
theorem dX3_perform_17 : decode cX3_perform 17 = .ok (.ifCond .ne 5, 3) := dk_154 0 5 (dk_at dksX3_perform_0 17 rfl rfl)
theorem dX3_perform_20 : decode cX3_perform 20 = .ok (.iconst (-1), 1) := dk_2 (dk_at dksX3_perform_0 20 rfl rfl)
theorem dX3_perform_21 : decode cX3_perform 21 = .ok (.ireturn, 1) := dk_172 (dk_at dksX3_perform_0 21 rfl rfl)
theorem dX3_perform_22 : decode cX3_perform 22 = .ok (.iconst 0, 1) := dk_3 (dk_at dksX3_perform_0 22 rfl rfl)
theorem dX3_perform_23 : decode cX3_perform 23 = .ok (.istore_n 2, 1) := dk_61 (dk_at dksX3_perform_0 23 rfl rfl)
theorem dX3_perform_24 : decode cX3_perform 24 = .ok (.iload_n 2, 1) := dk_28 (dk_at dksX3_perform_1 0 rfl rfl)
theorem dX3_perform_25 : decode cX3_perform 25 = .ok (.aload_n 0, 1) := dk_42 (dk_at dksX3_perform_1 1 rfl rfl)
theorem dX3_perform_26 : decode cX3_perform 26 = .ok (.getfield 58, 3) := dk_180 0 58 (dk_at dksX3_perform_1 2 rfl rfl)
theorem dX3_perform_29 : decode cX3_perform 29 = .ok (.iload_n 1, 1) := dk_27 (dk_at dksX3_perform_1 5 rfl rfl)
theorem dX3_perform_30 : decode cX3_perform 30 = .ok (.iaload, 1) := dk_46 (dk_at dksX3_perform_1 6 rfl rfl)
theorem dX3_perform_31 : decode cX3_perform 31 = .ok (.if_icmp .ge 49, 3) := dk_162 0 49 (dk_at dksX3_perform_1 7 rfl rfl)
theorem dX3_perform_34 : decode cX3_perform 34 = .ok (.aload_n 0, 1) := dk_42 (dk_at dksX3_perform_1 10 rfl rfl)
theorem dX3_perform_35 : decode cX3_perform 35 = .ok (.aload_n 0, 1) := dk_42 (dk_at dksX3_perform_1 11 rfl rfl)
theorem dX3_perform_36 : decode cX3_perform 36 = .ok (.getfield 61, 3) := dk_180 0 61 (dk_at dksX3_perform_1 12 rfl rfl)
theorem dX3_perform_39 : decode cX3_perform 39 = .ok (.iconst 2, 1) := dk_5 (dk_at dksX3_perform_1 15 rfl rfl)
theorem dX3_perform_40 : decode cX3_perform 40 = .ok (.bipush 16, 2) := dk_16 16 (dk_at dksX3_perform_1 16 rfl rfl)
theorem dX3_perform_42 : decode cX3_perform 42 = .ok (.iload_n 1, 1) := dk_27 (dk_at dksX3_perform_1 18 rfl rfl)
theorem dX3_perform_43 : decode cX3_perform 43 = .ok (.imul, 1) := dk_104 (dk_at dksX3_perform_1 19 rfl rfl)
theorem dX3_perform_44 : decode cX3_perform 44 = .ok (.iload_n 2, 1) := dk_28 (dk_at dksX3_perform_1 20 rfl rfl)
theorem dX3_perform_45 : decode cX3_perform 45 = .ok (.iadd, 1) := dk_96 (dk_at dksX3_perform_1 21 rfl rfl)
theorem dX3_perform_46 : decode cX3_perform 46 = .ok (.imul, 1) := dk_104 (dk_at dksX3_perform_1 22 rfl rfl)
theorem dX3_perform_47 : decode cX3_perform 47 = .ok (.invokevirtual 399, 3) := dk_182 1 143 (dk_at dksX3_perform_2 0 rfl rfl)
theorem dX3_perform_50 : decode cX3_perform 50 = .ok (.ifCond .eq 30, 3) := dk_153 0 30 (dk_at dksX3_perform_2 3 rfl rfl)
theorem dX3_perform_53 : decode cX3_perform 53 = .ok (.aload_n 0, 1) := dk_42 (dk_at dksX3_perform_2 6 rfl rfl)
theorem dX3_perform_54 : decode cX3_perform 54 = .ok (.invokevirtual 359, 3) := dk_182 1 103 (dk_at dksX3_perform_2 7 rfl rfl)
theorem dX3_perform_57 : decode cX3_perform 57 = .ok (.aload_n 0, 1) := dk_42 (dk_at dksX3_perform_2 10 rfl rfl)
theorem dX3_perform_58 : decode cX3_perform 58 = .ok (.aload_n 0, 1) := dk_42 (dk_at dksX3_perform_2 11 rfl rfl)
theorem dX3_perform_59 : decode cX3_perform 59 = .ok (.getfield 61, 3) := dk_180 0 61 (dk_at dksX3_perform_2 12 rfl rfl)
theorem dX3_perform_62 : decode cX3_perform 62 = .ok (.iconst 2, 1) := dk_5 (dk_at dksX3_perform_2 15 rfl rfl)
theorem dX3_perform_63 : decode cX3_perform 63 = .ok (.bipush 16, 2) := dk_16 16 (dk_at dksX3_perform_2 16 rfl rfl)
theorem dX3_perform_65 : decode cX3_perform 65 = .ok (.iload_n 1, 1) := dk_27 (dk_at dksX3_perform_2 18 rfl rfl)
theorem dX3_perform_66 : decode cX3_perform 66 = .ok (.imul, 1) := dk_104 (dk_at dksX3_perform_2 19 rfl rfl)
theorem dX3_perform_67 : decode cX3_perform 67 = .ok (.iload_n 2, 1) := dk_28 (dk_at dksX3_perform_2 20 rfl rfl)
theorem dX3_perform_68 : decode cX3_perform 68 = .ok (.iadd, 1) := dk_96 (dk_at dksX3_perform_2 21 rfl rfl)
theorem dX3_perform_69 : decode cX3_perform 69 = .ok (.imul, 1) := dk_104 (dk_at dksX3_perform_2 22 rfl rfl)
theorem dX3_perform_70 : decode cX3_perform 70 = .ok (.invokevirtual 402, 3) := dk_182 1 146 (dk_at dksX3_perform_3 0 rfl rfl)
theorem dX3_perform_73 : decode cX3_perform 73 = .ok (.istore_n 3, 1) := dk_62 (dk_at dksX3_perform_3 3 rfl rfl)
theorem dX3_perform_74 : decode cX3_perform 74 = .ok (.iinc 2 1, 3) := dk_132 2 1 (dk_at dksX3_perform_3 4 rfl rfl)
theorem dX3_perform_77 : decode cX3_perform 77 = .ok (.goto (-53), 3) := dk_167 255 203 (dk_at dksX3_perform_3 7 rfl rfl)
theorem dX3_perform_80 : decode cX3_perform 80 = .ok (.iload_n 2, 1) := dk_28 (dk_at dksX3_perform_3 10 rfl rfl)
theorem dX3_perform_81 : decode cX3_perform 81 = .ok (.ireturn, 1) := dk_172 (dk_at dksX3_perform_3 11 rfl rfl)
abbrev cX3_force : ByteArray := prog_14_method_76_code
def yX3_force : MethodName := ⟨RX3, "force", "(II)I"⟩
def dkwX3_force_3 : List UInt8 := [180, 0, 61, 28, 29, 42, 180, 0, 61, 16, 16, 46, 27, 184, 0, 228, 182, 1, 72, 172]
abbrev dktX3_force_3 : List UInt8 := dkwX3_force_3 ++ []
def dkwX3_force_2 : List UInt8 := [46, 27, 160, 0, 7, 4, 167, 0, 4, 2, 62, 29, 2, 160, 0, 7, 2, 167, 0, 24, 42, 42]
abbrev dktX3_force_2 : List UInt8 := dkwX3_force_2 ++ dktX3_force_3
def dkwX3_force_1 : List UInt8 := [180, 0, 49, 7, 28, 104, 46, 27, 160, 0, 7, 3, 167, 0, 22, 42, 180, 0, 49, 7, 28, 104, 4, 96]
abbrev dktX3_force_1 : List UInt8 := dkwX3_force_1 ++ dktX3_force_2
def dkwX3_force_0 : List UInt8 := [42, 3, 181, 0, 99, 42, 27, 182, 1, 91, 153, 0, 11, 42, 28, 182, 1, 96, 154, 0, 5, 2, 172, 42]
abbrev dktX3_force_0 : List UInt8 := dkwX3_force_0 ++ dktX3_force_1
theorem dksX3_force_0 : cX3_force.data.toList.drop 0 = dktX3_force_0 := by decide +kernel
theorem dksX3_force_1 : cX3_force.data.toList.drop 24 = dktX3_force_1 := dk_seg dksX3_force_0 24 rfl rfl
theorem dksX3_force_2 : cX3_force.data.toList.drop 48 = dktX3_force_2 := dk_seg dksX3_force_1 24 rfl rfl
theorem dksX3_force_3 : cX3_force.data.toList.drop 70 = dktX3_force_3 := dk_seg dksX3_force_2 22 rfl rfl
theorem dX3_force_0 : decode cX3_force 0 = .ok (.aload_n 0, 1) := dk_42 (dk_at dksX3_force_0 0 rfl rfl)
theorem dX3_force_1 : decode cX3_force 1 = .ok (.iconst 0, 1) := dk_3 (dk_at dksX3_force_0 1 rfl rfl)
theorem dX3_force_2 : decode cX3_force 2 = .ok (.putfield 99, 3) := dk_181 0 99 (dk_at dksX3_force_0 2 rfl rfl)
theorem dX3_force_5 : decode cX3_force 5 = .ok (.aload_n 0, 1) := dk_42 (dk_at dksX3_force_0 5 rfl rfl)
theorem dX3_force_6 : decode cX3_force 6 = .ok (.iload_n 1, 1) := dk_27 (dk_at dksX3_force_0 6 rfl rfl)
theorem dX3_force_7 : decode cX3_force 7 = .ok (.invokevirtual 347, 3) := dk_182 1 91 (dk_at dksX3_force_0 7 rfl rfl)
theorem dX3_force_10 : decode cX3_force 10 = .ok (.ifCond .eq 11, 3) := dk_153 0 11 (dk_at dksX3_force_0 10 rfl rfl)
theorem dX3_force_13 : decode cX3_force 13 = .ok (.aload_n 0, 1) := dk_42 (dk_at dksX3_force_0 13 rfl rfl)
theorem dX3_force_14 : decode cX3_force 14 = .ok (.iload_n 2, 1) := dk_28 (dk_at dksX3_force_0 14 rfl rfl)
theorem dX3_force_15 : decode cX3_force 15 = .ok (.invokevirtual 352, 3) := dk_182 1 96 (dk_at dksX3_force_0 15 rfl rfl)
theorem dX3_force_18 : decode cX3_force 18 = .ok (.ifCond .ne 5, 3) := dk_154 0 5 (dk_at dksX3_force_0 18 rfl rfl)
theorem dX3_force_21 : decode cX3_force 21 = .ok (.iconst (-1), 1) := dk_2 (dk_at dksX3_force_0 21 rfl rfl)
theorem dX3_force_22 : decode cX3_force 22 = .ok (.ireturn, 1) := dk_172 (dk_at dksX3_force_0 22 rfl rfl)
theorem dX3_force_23 : decode cX3_force 23 = .ok (.aload_n 0, 1) := dk_42 (dk_at dksX3_force_0 23 rfl rfl)
theorem dX3_force_24 : decode cX3_force 24 = .ok (.getfield 49, 3) := dk_180 0 49 (dk_at dksX3_force_1 0 rfl rfl)
theorem dX3_force_27 : decode cX3_force 27 = .ok (.iconst 4, 1) := dk_7 (dk_at dksX3_force_1 3 rfl rfl)
theorem dX3_force_28 : decode cX3_force 28 = .ok (.iload_n 2, 1) := dk_28 (dk_at dksX3_force_1 4 rfl rfl)
theorem dX3_force_29 : decode cX3_force 29 = .ok (.imul, 1) := dk_104 (dk_at dksX3_force_1 5 rfl rfl)
theorem dX3_force_30 : decode cX3_force 30 = .ok (.iaload, 1) := dk_46 (dk_at dksX3_force_1 6 rfl rfl)
theorem dX3_force_31 : decode cX3_force 31 = .ok (.iload_n 1, 1) := dk_27 (dk_at dksX3_force_1 7 rfl rfl)
theorem dX3_force_32 : decode cX3_force 32 = .ok (.if_icmp .ne 7, 3) := dk_160 0 7 (dk_at dksX3_force_1 8 rfl rfl)
theorem dX3_force_35 : decode cX3_force 35 = .ok (.iconst 0, 1) := dk_3 (dk_at dksX3_force_1 11 rfl rfl)
theorem dX3_force_36 : decode cX3_force 36 = .ok (.goto 22, 3) := dk_167 0 22 (dk_at dksX3_force_1 12 rfl rfl)
theorem dX3_force_39 : decode cX3_force 39 = .ok (.aload_n 0, 1) := dk_42 (dk_at dksX3_force_1 15 rfl rfl)
theorem dX3_force_40 : decode cX3_force 40 = .ok (.getfield 49, 3) := dk_180 0 49 (dk_at dksX3_force_1 16 rfl rfl)
theorem dX3_force_43 : decode cX3_force 43 = .ok (.iconst 4, 1) := dk_7 (dk_at dksX3_force_1 19 rfl rfl)
theorem dX3_force_44 : decode cX3_force 44 = .ok (.iload_n 2, 1) := dk_28 (dk_at dksX3_force_1 20 rfl rfl)
theorem dX3_force_45 : decode cX3_force 45 = .ok (.imul, 1) := dk_104 (dk_at dksX3_force_1 21 rfl rfl)
theorem dX3_force_46 : decode cX3_force 46 = .ok (.iconst 1, 1) := dk_4 (dk_at dksX3_force_1 22 rfl rfl)
theorem dX3_force_47 : decode cX3_force 47 = .ok (.iadd, 1) := dk_96 (dk_at dksX3_force_1 23 rfl rfl)
theorem dX3_force_48 : decode cX3_force 48 = .ok (.iaload, 1) := dk_46 (dk_at dksX3_force_2 0 rfl rfl)
theorem dX3_force_49 : decode cX3_force 49 = .ok (.iload_n 1, 1) := dk_27 (dk_at dksX3_force_2 1 rfl rfl)
theorem dX3_force_50 : decode cX3_force 50 = .ok (.if_icmp .ne 7, 3) := dk_160 0 7 (dk_at dksX3_force_2 2 rfl rfl)
theorem dX3_force_53 : decode cX3_force 53 = .ok (.iconst 1, 1) := dk_4 (dk_at dksX3_force_2 5 rfl rfl)
theorem dX3_force_54 : decode cX3_force 54 = .ok (.goto 4, 3) := dk_167 0 4 (dk_at dksX3_force_2 6 rfl rfl)
theorem dX3_force_57 : decode cX3_force 57 = .ok (.iconst (-1), 1) := dk_2 (dk_at dksX3_force_2 9 rfl rfl)
theorem dX3_force_58 : decode cX3_force 58 = .ok (.istore_n 3, 1) := dk_62 (dk_at dksX3_force_2 10 rfl rfl)
theorem dX3_force_59 : decode cX3_force 59 = .ok (.iload_n 3, 1) := dk_29 (dk_at dksX3_force_2 11 rfl rfl)
theorem dX3_force_60 : decode cX3_force 60 = .ok (.iconst (-1), 1) := dk_2 (dk_at dksX3_force_2 12 rfl rfl)
theorem dX3_force_61 : decode cX3_force 61 = .ok (.if_icmp .ne 7, 3) := dk_160 0 7 (dk_at dksX3_force_2 13 rfl rfl)
theorem dX3_force_64 : decode cX3_force 64 = .ok (.iconst (-1), 1) := dk_2 (dk_at dksX3_force_2 16 rfl rfl)
theorem dX3_force_65 : decode cX3_force 65 = .ok (.goto 24, 3) := dk_167 0 24 (dk_at dksX3_force_2 17 rfl rfl)
theorem dX3_force_68 : decode cX3_force 68 = .ok (.aload_n 0, 1) := dk_42 (dk_at dksX3_force_2 20 rfl rfl)
theorem dX3_force_69 : decode cX3_force 69 = .ok (.aload_n 0, 1) := dk_42 (dk_at dksX3_force_2 21 rfl rfl)
theorem dX3_force_70 : decode cX3_force 70 = .ok (.getfield 61, 3) := dk_180 0 61 (dk_at dksX3_force_3 0 rfl rfl)
theorem dX3_force_73 : decode cX3_force 73 = .ok (.iload_n 2, 1) := dk_28 (dk_at dksX3_force_3 3 rfl rfl)
theorem dX3_force_74 : decode cX3_force 74 = .ok (.iload_n 3, 1) := dk_29 (dk_at dksX3_force_3 4 rfl rfl)
theorem dX3_force_75 : decode cX3_force 75 = .ok (.aload_n 0, 1) := dk_42 (dk_at dksX3_force_3 5 rfl rfl)
theorem dX3_force_76 : decode cX3_force 76 = .ok (.getfield 61, 3) := dk_180 0 61 (dk_at dksX3_force_3 6 rfl rfl)
theorem dX3_force_79 : decode cX3_force 79 = .ok (.bipush 16, 2) := dk_16 16 (dk_at dksX3_force_3 9 rfl rfl)
theorem dX3_force_81 : decode cX3_force 81 = .ok (.iaload, 1) := dk_46 (dk_at dksX3_force_3 11 rfl rfl)
theorem dX3_force_82 : decode cX3_force 82 = .ok (.iload_n 1, 1) := dk_27 (dk_at dksX3_force_3 12 rfl rfl)
theorem dX3_force_83 : decode cX3_force 83 = .ok (.invokestatic 228, 3) := dk_184 0 228 (dk_at dksX3_force_3 13 rfl rfl)
theorem dX3_force_86 : decode cX3_force 86 = .ok (.invokevirtual 328, 3) := dk_182 1 72 (dk_at dksX3_force_3 16 rfl rfl)
theorem dX3_force_89 : decode cX3_force 89 = .ok (.ireturn, 1) := dk_172 (dk_at dksX3_force_3 19 rfl rfl)
abbrev cX3_wins : ByteArray := prog_14_method_77_code
def yX3_wins : MethodName := ⟨RX3, "wins", "(I)I"⟩
def dkwX3_wins_1 : List UInt8 := [182, 1, 84, 61, 28, 2, 160, 0, 7, 2, 167, 0, 13, 42, 180, 0, 49, 7, 27, 104, 28, 96, 46, 172]
abbrev dktX3_wins_1 : List UInt8 := dkwX3_wins_1 ++ []
def dkwX3_wins_0 : List UInt8 := [42, 3, 181, 0, 99, 42, 27, 182, 1, 96, 154, 0, 6, 16, 254, 172, 42, 42, 180, 0, 61, 27]
abbrev dktX3_wins_0 : List UInt8 := dkwX3_wins_0 ++ dktX3_wins_1
theorem dksX3_wins_0 : cX3_wins.data.toList.drop 0 = dktX3_wins_0 := by decide +kernel
theorem dksX3_wins_1 : cX3_wins.data.toList.drop 22 = dktX3_wins_1 := dk_seg dksX3_wins_0 22 rfl rfl
theorem dX3_wins_0 : decode cX3_wins 0 = .ok (.aload_n 0, 1) := dk_42 (dk_at dksX3_wins_0 0 rfl rfl)
theorem dX3_wins_1 : decode cX3_wins 1 = .ok (.iconst 0, 1) := dk_3 (dk_at dksX3_wins_0 1 rfl rfl)
theorem dX3_wins_2 : decode cX3_wins 2 = .ok (.putfield 99, 3) := dk_181 0 99 (dk_at dksX3_wins_0 2 rfl rfl)
theorem dX3_wins_5 : decode cX3_wins 5 = .ok (.aload_n 0, 1) := dk_42 (dk_at dksX3_wins_0 5 rfl rfl)
theorem dX3_wins_6 : decode cX3_wins 6 = .ok (.iload_n 1, 1) := dk_27 (dk_at dksX3_wins_0 6 rfl rfl)
theorem dX3_wins_7 : decode cX3_wins 7 = .ok (.invokevirtual 352, 3) := dk_182 1 96 (dk_at dksX3_wins_0 7 rfl rfl)
theorem dX3_wins_10 : decode cX3_wins 10 = .ok (.ifCond .ne 6, 3) := dk_154 0 6 (dk_at dksX3_wins_0 10 rfl rfl)
theorem dX3_wins_13 : decode cX3_wins 13 = .ok (.bipush (-2), 2) := dk_16 254 (dk_at dksX3_wins_0 13 rfl rfl)
theorem dX3_wins_15 : decode cX3_wins 15 = .ok (.ireturn, 1) := dk_172 (dk_at dksX3_wins_0 15 rfl rfl)
theorem dX3_wins_16 : decode cX3_wins 16 = .ok (.aload_n 0, 1) := dk_42 (dk_at dksX3_wins_0 16 rfl rfl)
theorem dX3_wins_17 : decode cX3_wins 17 = .ok (.aload_n 0, 1) := dk_42 (dk_at dksX3_wins_0 17 rfl rfl)
theorem dX3_wins_18 : decode cX3_wins 18 = .ok (.getfield 61, 3) := dk_180 0 61 (dk_at dksX3_wins_0 18 rfl rfl)
theorem dX3_wins_21 : decode cX3_wins 21 = .ok (.iload_n 1, 1) := dk_27 (dk_at dksX3_wins_0 21 rfl rfl)
theorem dX3_wins_22 : decode cX3_wins 22 = .ok (.invokevirtual 340, 3) := dk_182 1 84 (dk_at dksX3_wins_1 0 rfl rfl)
theorem dX3_wins_25 : decode cX3_wins 25 = .ok (.istore_n 2, 1) := dk_61 (dk_at dksX3_wins_1 3 rfl rfl)
theorem dX3_wins_26 : decode cX3_wins 26 = .ok (.iload_n 2, 1) := dk_28 (dk_at dksX3_wins_1 4 rfl rfl)
theorem dX3_wins_27 : decode cX3_wins 27 = .ok (.iconst (-1), 1) := dk_2 (dk_at dksX3_wins_1 5 rfl rfl)
theorem dX3_wins_28 : decode cX3_wins 28 = .ok (.if_icmp .ne 7, 3) := dk_160 0 7 (dk_at dksX3_wins_1 6 rfl rfl)
theorem dX3_wins_31 : decode cX3_wins 31 = .ok (.iconst (-1), 1) := dk_2 (dk_at dksX3_wins_1 9 rfl rfl)
theorem dX3_wins_32 : decode cX3_wins 32 = .ok (.goto 13, 3) := dk_167 0 13 (dk_at dksX3_wins_1 10 rfl rfl)
theorem dX3_wins_35 : decode cX3_wins 35 = .ok (.aload_n 0, 1) := dk_42 (dk_at dksX3_wins_1 13 rfl rfl)
theorem dX3_wins_36 : decode cX3_wins 36 = .ok (.getfield 49, 3) := dk_180 0 49 (dk_at dksX3_wins_1 14 rfl rfl)
theorem dX3_wins_39 : decode cX3_wins 39 = .ok (.iconst 4, 1) := dk_7 (dk_at dksX3_wins_1 17 rfl rfl)
theorem dX3_wins_40 : decode cX3_wins 40 = .ok (.iload_n 1, 1) := dk_27 (dk_at dksX3_wins_1 18 rfl rfl)
theorem dX3_wins_41 : decode cX3_wins 41 = .ok (.imul, 1) := dk_104 (dk_at dksX3_wins_1 19 rfl rfl)
theorem dX3_wins_42 : decode cX3_wins 42 = .ok (.iload_n 2, 1) := dk_28 (dk_at dksX3_wins_1 20 rfl rfl)
theorem dX3_wins_43 : decode cX3_wins 43 = .ok (.iadd, 1) := dk_96 (dk_at dksX3_wins_1 21 rfl rfl)
theorem dX3_wins_44 : decode cX3_wins 44 = .ok (.iaload, 1) := dk_46 (dk_at dksX3_wins_1 22 rfl rfl)
theorem dX3_wins_45 : decode cX3_wins 45 = .ok (.ireturn, 1) := dk_172 (dk_at dksX3_wins_1 23 rfl rfl)
abbrev cX3_shelf : ByteArray := prog_14_method_78_code
def yX3_shelf : MethodName := ⟨RX3, "shelf", "(II)I"⟩
def dkwX3_shelf_3 : List UInt8 := [132, 3, 1, 167, 255, 223, 2, 172]
abbrev dktX3_shelf_3 : List UInt8 := dkwX3_shelf_3 ++ []
def dkwX3_shelf_2 : List UInt8 := [42, 180, 0, 64, 27, 184, 1, 60, 28, 161, 0, 5, 29, 172, 42, 42, 180, 0, 64, 182, 1, 106, 54, 4]
abbrev dktX3_shelf_2 : List UInt8 := dkwX3_shelf_2 ++ dktX3_shelf_3
def dkwX3_shelf_1 : List UInt8 := [154, 0, 5, 2, 172, 42, 180, 0, 61, 42, 180, 0, 64, 184, 1, 139, 3, 62, 29, 16, 60, 163, 0, 33]
abbrev dktX3_shelf_1 : List UInt8 := dkwX3_shelf_1 ++ dktX3_shelf_2
def dkwX3_shelf_0 : List UInt8 := [42, 3, 181, 0, 99, 42, 27, 182, 1, 91, 153, 0, 15, 28, 133, 10, 20, 1, 130, 184, 1, 14]
abbrev dktX3_shelf_0 : List UInt8 := dkwX3_shelf_0 ++ dktX3_shelf_1
theorem dksX3_shelf_0 : cX3_shelf.data.toList.drop 0 = dktX3_shelf_0 := by decide +kernel
theorem dksX3_shelf_1 : cX3_shelf.data.toList.drop 22 = dktX3_shelf_1 := dk_seg dksX3_shelf_0 22 rfl rfl
theorem dksX3_shelf_2 : cX3_shelf.data.toList.drop 46 = dktX3_shelf_2 := dk_seg dksX3_shelf_1 24 rfl rfl
theorem dksX3_shelf_3 : cX3_shelf.data.toList.drop 70 = dktX3_shelf_3 := dk_seg dksX3_shelf_2 24 rfl rfl
theorem dX3_shelf_0 : decode cX3_shelf 0 = .ok (.aload_n 0, 1) := dk_42 (dk_at dksX3_shelf_0 0 rfl rfl)
theorem dX3_shelf_1 : decode cX3_shelf 1 = .ok (.iconst 0, 1) := dk_3 (dk_at dksX3_shelf_0 1 rfl rfl)
theorem dX3_shelf_2 : decode cX3_shelf 2 = .ok (.putfield 99, 3) := dk_181 0 99 (dk_at dksX3_shelf_0 2 rfl rfl)
theorem dX3_shelf_5 : decode cX3_shelf 5 = .ok (.aload_n 0, 1) := dk_42 (dk_at dksX3_shelf_0 5 rfl rfl)
theorem dX3_shelf_6 : decode cX3_shelf 6 = .ok (.iload_n 1, 1) := dk_27 (dk_at dksX3_shelf_0 6 rfl rfl)
theorem dX3_shelf_7 : decode cX3_shelf 7 = .ok (.invokevirtual 347, 3) := dk_182 1 91 (dk_at dksX3_shelf_0 7 rfl rfl)
theorem dX3_shelf_10 : decode cX3_shelf 10 = .ok (.ifCond .eq 15, 3) := dk_153 0 15 (dk_at dksX3_shelf_0 10 rfl rfl)
theorem dX3_shelf_13 : decode cX3_shelf 13 = .ok (.iload_n 2, 1) := dk_28 (dk_at dksX3_shelf_0 13 rfl rfl)
theorem dX3_shelf_14 : decode cX3_shelf 14 = .ok (.i2l, 1) := dk_133 (dk_at dksX3_shelf_0 14 rfl rfl)
theorem dX3_shelf_15 : decode cX3_shelf 15 = .ok (.lconst 1, 1) := dk_10 (dk_at dksX3_shelf_0 15 rfl rfl)
theorem dX3_shelf_16 : decode cX3_shelf 16 = .ok (.ldc2_w 386, 3) := dk_20 1 130 (dk_at dksX3_shelf_0 16 rfl rfl)
theorem dX3_shelf_19 : decode cX3_shelf 19 = .ok (.invokestatic 270, 3) := dk_184 1 14 (dk_at dksX3_shelf_0 19 rfl rfl)
theorem dX3_shelf_22 : decode cX3_shelf 22 = .ok (.ifCond .ne 5, 3) := dk_154 0 5 (dk_at dksX3_shelf_1 0 rfl rfl)
theorem dX3_shelf_25 : decode cX3_shelf 25 = .ok (.iconst (-1), 1) := dk_2 (dk_at dksX3_shelf_1 3 rfl rfl)
theorem dX3_shelf_26 : decode cX3_shelf 26 = .ok (.ireturn, 1) := dk_172 (dk_at dksX3_shelf_1 4 rfl rfl)
theorem dX3_shelf_27 : decode cX3_shelf 27 = .ok (.aload_n 0, 1) := dk_42 (dk_at dksX3_shelf_1 5 rfl rfl)
theorem dX3_shelf_28 : decode cX3_shelf 28 = .ok (.getfield 61, 3) := dk_180 0 61 (dk_at dksX3_shelf_1 6 rfl rfl)
theorem dX3_shelf_31 : decode cX3_shelf 31 = .ok (.aload_n 0, 1) := dk_42 (dk_at dksX3_shelf_1 9 rfl rfl)
theorem dX3_shelf_32 : decode cX3_shelf 32 = .ok (.getfield 64, 3) := dk_180 0 64 (dk_at dksX3_shelf_1 10 rfl rfl)
theorem dX3_shelf_35 : decode cX3_shelf 35 = .ok (.invokestatic 395, 3) := dk_184 1 139 (dk_at dksX3_shelf_1 13 rfl rfl)
theorem dX3_shelf_38 : decode cX3_shelf 38 = .ok (.iconst 0, 1) := dk_3 (dk_at dksX3_shelf_1 16 rfl rfl)
theorem dX3_shelf_39 : decode cX3_shelf 39 = .ok (.istore_n 3, 1) := dk_62 (dk_at dksX3_shelf_1 17 rfl rfl)
theorem dX3_shelf_40 : decode cX3_shelf 40 = .ok (.iload_n 3, 1) := dk_29 (dk_at dksX3_shelf_1 18 rfl rfl)
theorem dX3_shelf_41 : decode cX3_shelf 41 = .ok (.bipush 60, 2) := dk_16 60 (dk_at dksX3_shelf_1 19 rfl rfl)
theorem dX3_shelf_43 : decode cX3_shelf 43 = .ok (.if_icmp .gt 33, 3) := dk_163 0 33 (dk_at dksX3_shelf_1 21 rfl rfl)
theorem dX3_shelf_46 : decode cX3_shelf 46 = .ok (.aload_n 0, 1) := dk_42 (dk_at dksX3_shelf_2 0 rfl rfl)
theorem dX3_shelf_47 : decode cX3_shelf 47 = .ok (.getfield 64, 3) := dk_180 0 64 (dk_at dksX3_shelf_2 1 rfl rfl)
theorem dX3_shelf_50 : decode cX3_shelf 50 = .ok (.iload_n 1, 1) := dk_27 (dk_at dksX3_shelf_2 4 rfl rfl)
theorem dX3_shelf_51 : decode cX3_shelf 51 = .ok (.invokestatic 316, 3) := dk_184 1 60 (dk_at dksX3_shelf_2 5 rfl rfl)
theorem dX3_shelf_54 : decode cX3_shelf 54 = .ok (.iload_n 2, 1) := dk_28 (dk_at dksX3_shelf_2 8 rfl rfl)
theorem dX3_shelf_55 : decode cX3_shelf 55 = .ok (.if_icmp .lt 5, 3) := dk_161 0 5 (dk_at dksX3_shelf_2 9 rfl rfl)
theorem dX3_shelf_58 : decode cX3_shelf 58 = .ok (.iload_n 3, 1) := dk_29 (dk_at dksX3_shelf_2 12 rfl rfl)
theorem dX3_shelf_59 : decode cX3_shelf 59 = .ok (.ireturn, 1) := dk_172 (dk_at dksX3_shelf_2 13 rfl rfl)
theorem dX3_shelf_60 : decode cX3_shelf 60 = .ok (.aload_n 0, 1) := dk_42 (dk_at dksX3_shelf_2 14 rfl rfl)
theorem dX3_shelf_61 : decode cX3_shelf 61 = .ok (.aload_n 0, 1) := dk_42 (dk_at dksX3_shelf_2 15 rfl rfl)
theorem dX3_shelf_62 : decode cX3_shelf 62 = .ok (.getfield 64, 3) := dk_180 0 64 (dk_at dksX3_shelf_2 16 rfl rfl)
theorem dX3_shelf_65 : decode cX3_shelf 65 = .ok (.invokevirtual 362, 3) := dk_182 1 106 (dk_at dksX3_shelf_2 19 rfl rfl)
theorem dX3_shelf_68 : decode cX3_shelf 68 = .ok (.istore 4, 2) := dk_54 4 (dk_at dksX3_shelf_2 22 rfl rfl)
theorem dX3_shelf_70 : decode cX3_shelf 70 = .ok (.iinc 3 1, 3) := dk_132 3 1 (dk_at dksX3_shelf_3 0 rfl rfl)
theorem dX3_shelf_73 : decode cX3_shelf 73 = .ok (.goto (-33), 3) := dk_167 255 223 (dk_at dksX3_shelf_3 3 rfl rfl)
theorem dX3_shelf_76 : decode cX3_shelf 76 = .ok (.iconst (-1), 1) := dk_2 (dk_at dksX3_shelf_3 6 rfl rfl)
theorem dX3_shelf_77 : decode cX3_shelf 77 = .ok (.ireturn, 1) := dk_172 (dk_at dksX3_shelf_3 7 rfl rfl)
abbrev cX3_scheme : ByteArray := prog_14_method_79_code
def yX3_scheme : MethodName := ⟨RX3, "scheme", "(III)I"⟩
def dkwX3_scheme_7 : List UInt8 := [154, 0, 8, 21, 4, 167, 0, 5, 21, 5, 172]
abbrev dktX3_scheme_7 : List UInt8 := dkwX3_scheme_7 ++ []
def dkwX3_scheme_6 : List UInt8 := [184, 1, 151, 161, 0, 6, 167, 0, 11, 21, 6, 54, 4, 21, 7, 54, 5, 132, 6, 1, 167, 255, 143, 29]
abbrev dktX3_scheme_6 : List UInt8 := dkwX3_scheme_6 ++ dktX3_scheme_7
def dkwX3_scheme_5 : List UInt8 := [159, 0, 33, 21, 7, 21, 5, 161, 0, 34, 21, 7, 21, 5, 160, 0, 19, 21, 6, 184, 1, 151, 21, 4]
abbrev dktX3_scheme_5 : List UInt8 := dkwX3_scheme_5 ++ dktX3_scheme_6
def dkwX3_scheme_4 : List UInt8 := [182, 1, 106, 54, 8, 132, 7, 1, 167, 255, 237, 42, 180, 0, 64, 27, 184, 1, 60, 54, 7, 21, 4, 2]
abbrev dktX3_scheme_4 : List UInt8 := dkwX3_scheme_4 ++ dktX3_scheme_5
def dkwX3_scheme_3 : List UInt8 := [180, 0, 64, 16, 16, 21, 6, 79, 3, 54, 7, 21, 7, 28, 162, 0, 19, 42, 42, 180, 0, 64]
abbrev dktX3_scheme_3 : List UInt8 := dkwX3_scheme_3 ++ dktX3_scheme_4
def dkwX3_scheme_2 : List UInt8 := [21, 6, 4, 42, 180, 1, 35, 120, 162, 0, 108, 42, 180, 0, 61, 42, 180, 0, 64, 184, 1, 139, 42]
abbrev dktX3_scheme_2 : List UInt8 := dkwX3_scheme_2 ++ dktX3_scheme_3
def dkwX3_scheme_1 : List UInt8 := [153, 0, 13, 29, 133, 9, 10, 184, 1, 14, 154, 0, 5, 2, 172, 2, 54, 4, 3, 54, 5, 3, 54, 6]
abbrev dktX3_scheme_1 : List UInt8 := dkwX3_scheme_1 ++ dktX3_scheme_2
def dkwX3_scheme_0 : List UInt8 := [42, 3, 181, 0, 99, 42, 27, 182, 1, 91, 153, 0, 25, 28, 133, 10, 20, 1, 149, 184, 1, 14]
abbrev dktX3_scheme_0 : List UInt8 := dkwX3_scheme_0 ++ dktX3_scheme_1
theorem dksX3_scheme_0 : cX3_scheme.data.toList.drop 0 = dktX3_scheme_0 := by decide +kernel
theorem dksX3_scheme_1 : cX3_scheme.data.toList.drop 22 = dktX3_scheme_1 := dk_seg dksX3_scheme_0 22 rfl rfl
theorem dksX3_scheme_2 : cX3_scheme.data.toList.drop 46 = dktX3_scheme_2 := dk_seg dksX3_scheme_1 24 rfl rfl
theorem dksX3_scheme_3 : cX3_scheme.data.toList.drop 69 = dktX3_scheme_3 := dk_seg dksX3_scheme_2 23 rfl rfl
theorem dksX3_scheme_4 : cX3_scheme.data.toList.drop 91 = dktX3_scheme_4 := dk_seg dksX3_scheme_3 22 rfl rfl
theorem dksX3_scheme_5 : cX3_scheme.data.toList.drop 115 = dktX3_scheme_5 := dk_seg dksX3_scheme_4 24 rfl rfl
theorem dksX3_scheme_6 : cX3_scheme.data.toList.drop 139 = dktX3_scheme_6 := dk_seg dksX3_scheme_5 24 rfl rfl
theorem dksX3_scheme_7 : cX3_scheme.data.toList.drop 163 = dktX3_scheme_7 := dk_seg dksX3_scheme_6 24 rfl rfl
theorem dX3_scheme_0 : decode cX3_scheme 0 = .ok (.aload_n 0, 1) := dk_42 (dk_at dksX3_scheme_0 0 rfl rfl)
theorem dX3_scheme_1 : decode cX3_scheme 1 = .ok (.iconst 0, 1) := dk_3 (dk_at dksX3_scheme_0 1 rfl rfl)
theorem dX3_scheme_2 : decode cX3_scheme 2 = .ok (.putfield 99, 3) := dk_181 0 99 (dk_at dksX3_scheme_0 2 rfl rfl)
theorem dX3_scheme_5 : decode cX3_scheme 5 = .ok (.aload_n 0, 1) := dk_42 (dk_at dksX3_scheme_0 5 rfl rfl)
theorem dX3_scheme_6 : decode cX3_scheme 6 = .ok (.iload_n 1, 1) := dk_27 (dk_at dksX3_scheme_0 6 rfl rfl)
theorem dX3_scheme_7 : decode cX3_scheme 7 = .ok (.invokevirtual 347, 3) := dk_182 1 91 (dk_at dksX3_scheme_0 7 rfl rfl)
theorem dX3_scheme_10 : decode cX3_scheme 10 = .ok (.ifCond .eq 25, 3) := dk_153 0 25 (dk_at dksX3_scheme_0 10 rfl rfl)
theorem dX3_scheme_13 : decode cX3_scheme 13 = .ok (.iload_n 2, 1) := dk_28 (dk_at dksX3_scheme_0 13 rfl rfl)
theorem dX3_scheme_14 : decode cX3_scheme 14 = .ok (.i2l, 1) := dk_133 (dk_at dksX3_scheme_0 14 rfl rfl)
theorem dX3_scheme_15 : decode cX3_scheme 15 = .ok (.lconst 1, 1) := dk_10 (dk_at dksX3_scheme_0 15 rfl rfl)
theorem dX3_scheme_16 : decode cX3_scheme 16 = .ok (.ldc2_w 405, 3) := dk_20 1 149 (dk_at dksX3_scheme_0 16 rfl rfl)
theorem dX3_scheme_19 : decode cX3_scheme 19 = .ok (.invokestatic 270, 3) := dk_184 1 14 (dk_at dksX3_scheme_0 19 rfl rfl)
theorem dX3_scheme_22 : decode cX3_scheme 22 = .ok (.ifCond .eq 13, 3) := dk_153 0 13 (dk_at dksX3_scheme_1 0 rfl rfl)
theorem dX3_scheme_25 : decode cX3_scheme 25 = .ok (.iload_n 3, 1) := dk_29 (dk_at dksX3_scheme_1 3 rfl rfl)
theorem dX3_scheme_26 : decode cX3_scheme 26 = .ok (.i2l, 1) := dk_133 (dk_at dksX3_scheme_1 4 rfl rfl)
theorem dX3_scheme_27 : decode cX3_scheme 27 = .ok (.lconst 0, 1) := dk_9 (dk_at dksX3_scheme_1 5 rfl rfl)
theorem dX3_scheme_28 : decode cX3_scheme 28 = .ok (.lconst 1, 1) := dk_10 (dk_at dksX3_scheme_1 6 rfl rfl)
theorem dX3_scheme_29 : decode cX3_scheme 29 = .ok (.invokestatic 270, 3) := dk_184 1 14 (dk_at dksX3_scheme_1 7 rfl rfl)
theorem dX3_scheme_32 : decode cX3_scheme 32 = .ok (.ifCond .ne 5, 3) := dk_154 0 5 (dk_at dksX3_scheme_1 10 rfl rfl)
theorem dX3_scheme_35 : decode cX3_scheme 35 = .ok (.iconst (-1), 1) := dk_2 (dk_at dksX3_scheme_1 13 rfl rfl)
theorem dX3_scheme_36 : decode cX3_scheme 36 = .ok (.ireturn, 1) := dk_172 (dk_at dksX3_scheme_1 14 rfl rfl)
theorem dX3_scheme_37 : decode cX3_scheme 37 = .ok (.iconst (-1), 1) := dk_2 (dk_at dksX3_scheme_1 15 rfl rfl)
theorem dX3_scheme_38 : decode cX3_scheme 38 = .ok (.istore 4, 2) := dk_54 4 (dk_at dksX3_scheme_1 16 rfl rfl)
theorem dX3_scheme_40 : decode cX3_scheme 40 = .ok (.iconst 0, 1) := dk_3 (dk_at dksX3_scheme_1 18 rfl rfl)
theorem dX3_scheme_41 : decode cX3_scheme 41 = .ok (.istore 5, 2) := dk_54 5 (dk_at dksX3_scheme_1 19 rfl rfl)
theorem dX3_scheme_43 : decode cX3_scheme 43 = .ok (.iconst 0, 1) := dk_3 (dk_at dksX3_scheme_1 21 rfl rfl)
theorem dX3_scheme_44 : decode cX3_scheme 44 = .ok (.istore 6, 2) := dk_54 6 (dk_at dksX3_scheme_1 22 rfl rfl)
theorem dX3_scheme_46 : decode cX3_scheme 46 = .ok (.iload 6, 2) := dk_21 6 (dk_at dksX3_scheme_2 0 rfl rfl)
theorem dX3_scheme_48 : decode cX3_scheme 48 = .ok (.iconst 1, 1) := dk_4 (dk_at dksX3_scheme_2 2 rfl rfl)
theorem dX3_scheme_49 : decode cX3_scheme 49 = .ok (.aload_n 0, 1) := dk_42 (dk_at dksX3_scheme_2 3 rfl rfl)
theorem dX3_scheme_50 : decode cX3_scheme 50 = .ok (.getfield 291, 3) := dk_180 1 35 (dk_at dksX3_scheme_2 4 rfl rfl)
theorem dX3_scheme_53 : decode cX3_scheme 53 = .ok (.ishl, 1) := dk_120 (dk_at dksX3_scheme_2 7 rfl rfl)
theorem dX3_scheme_54 : decode cX3_scheme 54 = .ok (.if_icmp .ge 108, 3) := dk_162 0 108 (dk_at dksX3_scheme_2 8 rfl rfl)
theorem dX3_scheme_57 : decode cX3_scheme 57 = .ok (.aload_n 0, 1) := dk_42 (dk_at dksX3_scheme_2 11 rfl rfl)
theorem dX3_scheme_58 : decode cX3_scheme 58 = .ok (.getfield 61, 3) := dk_180 0 61 (dk_at dksX3_scheme_2 12 rfl rfl)
theorem dX3_scheme_61 : decode cX3_scheme 61 = .ok (.aload_n 0, 1) := dk_42 (dk_at dksX3_scheme_2 15 rfl rfl)
theorem dX3_scheme_62 : decode cX3_scheme 62 = .ok (.getfield 64, 3) := dk_180 0 64 (dk_at dksX3_scheme_2 16 rfl rfl)
theorem dX3_scheme_65 : decode cX3_scheme 65 = .ok (.invokestatic 395, 3) := dk_184 1 139 (dk_at dksX3_scheme_2 19 rfl rfl)
theorem dX3_scheme_68 : decode cX3_scheme 68 = .ok (.aload_n 0, 1) := dk_42 (dk_at dksX3_scheme_2 22 rfl rfl)
theorem dX3_scheme_69 : decode cX3_scheme 69 = .ok (.getfield 64, 3) := dk_180 0 64 (dk_at dksX3_scheme_3 0 rfl rfl)
theorem dX3_scheme_72 : decode cX3_scheme 72 = .ok (.bipush 16, 2) := dk_16 16 (dk_at dksX3_scheme_3 3 rfl rfl)
theorem dX3_scheme_74 : decode cX3_scheme 74 = .ok (.iload 6, 2) := dk_21 6 (dk_at dksX3_scheme_3 5 rfl rfl)
theorem dX3_scheme_76 : decode cX3_scheme 76 = .ok (.iastore, 1) := dk_79 (dk_at dksX3_scheme_3 7 rfl rfl)
theorem dX3_scheme_77 : decode cX3_scheme 77 = .ok (.iconst 0, 1) := dk_3 (dk_at dksX3_scheme_3 8 rfl rfl)
theorem dX3_scheme_78 : decode cX3_scheme 78 = .ok (.istore 7, 2) := dk_54 7 (dk_at dksX3_scheme_3 9 rfl rfl)
theorem dX3_scheme_80 : decode cX3_scheme 80 = .ok (.iload 7, 2) := dk_21 7 (dk_at dksX3_scheme_3 11 rfl rfl)
theorem dX3_scheme_82 : decode cX3_scheme 82 = .ok (.iload_n 2, 1) := dk_28 (dk_at dksX3_scheme_3 13 rfl rfl)
theorem dX3_scheme_83 : decode cX3_scheme 83 = .ok (.if_icmp .ge 19, 3) := dk_162 0 19 (dk_at dksX3_scheme_3 14 rfl rfl)
theorem dX3_scheme_86 : decode cX3_scheme 86 = .ok (.aload_n 0, 1) := dk_42 (dk_at dksX3_scheme_3 17 rfl rfl)
theorem dX3_scheme_87 : decode cX3_scheme 87 = .ok (.aload_n 0, 1) := dk_42 (dk_at dksX3_scheme_3 18 rfl rfl)
theorem dX3_scheme_88 : decode cX3_scheme 88 = .ok (.getfield 64, 3) := dk_180 0 64 (dk_at dksX3_scheme_3 19 rfl rfl)
theorem dX3_scheme_91 : decode cX3_scheme 91 = .ok (.invokevirtual 362, 3) := dk_182 1 106 (dk_at dksX3_scheme_4 0 rfl rfl)
theorem dX3_scheme_94 : decode cX3_scheme 94 = .ok (.istore 8, 2) := dk_54 8 (dk_at dksX3_scheme_4 3 rfl rfl)
theorem dX3_scheme_96 : decode cX3_scheme 96 = .ok (.iinc 7 1, 3) := dk_132 7 1 (dk_at dksX3_scheme_4 5 rfl rfl)
theorem dX3_scheme_99 : decode cX3_scheme 99 = .ok (.goto (-19), 3) := dk_167 255 237 (dk_at dksX3_scheme_4 8 rfl rfl)
theorem dX3_scheme_102 : decode cX3_scheme 102 = .ok (.aload_n 0, 1) := dk_42 (dk_at dksX3_scheme_4 11 rfl rfl)
theorem dX3_scheme_103 : decode cX3_scheme 103 = .ok (.getfield 64, 3) := dk_180 0 64 (dk_at dksX3_scheme_4 12 rfl rfl)
theorem dX3_scheme_106 : decode cX3_scheme 106 = .ok (.iload_n 1, 1) := dk_27 (dk_at dksX3_scheme_4 15 rfl rfl)
theorem dX3_scheme_107 : decode cX3_scheme 107 = .ok (.invokestatic 316, 3) := dk_184 1 60 (dk_at dksX3_scheme_4 16 rfl rfl)
theorem dX3_scheme_110 : decode cX3_scheme 110 = .ok (.istore 7, 2) := dk_54 7 (dk_at dksX3_scheme_4 19 rfl rfl)
theorem dX3_scheme_112 : decode cX3_scheme 112 = .ok (.iload 4, 2) := dk_21 4 (dk_at dksX3_scheme_4 21 rfl rfl)
theorem dX3_scheme_114 : decode cX3_scheme 114 = .ok (.iconst (-1), 1) := dk_2 (dk_at dksX3_scheme_4 23 rfl rfl)
theorem dX3_scheme_115 : decode cX3_scheme 115 = .ok (.if_icmp .eq 33, 3) := dk_159 0 33 (dk_at dksX3_scheme_5 0 rfl rfl)
theorem dX3_scheme_118 : decode cX3_scheme 118 = .ok (.iload 7, 2) := dk_21 7 (dk_at dksX3_scheme_5 3 rfl rfl)
theorem dX3_scheme_120 : decode cX3_scheme 120 = .ok (.iload 5, 2) := dk_21 5 (dk_at dksX3_scheme_5 5 rfl rfl)
theorem dX3_scheme_122 : decode cX3_scheme 122 = .ok (.if_icmp .lt 34, 3) := dk_161 0 34 (dk_at dksX3_scheme_5 7 rfl rfl)
theorem dX3_scheme_125 : decode cX3_scheme 125 = .ok (.iload 7, 2) := dk_21 7 (dk_at dksX3_scheme_5 10 rfl rfl)
theorem dX3_scheme_127 : decode cX3_scheme 127 = .ok (.iload 5, 2) := dk_21 5 (dk_at dksX3_scheme_5 12 rfl rfl)
theorem dX3_scheme_129 : decode cX3_scheme 129 = .ok (.if_icmp .ne 19, 3) := dk_160 0 19 (dk_at dksX3_scheme_5 14 rfl rfl)
theorem dX3_scheme_132 : decode cX3_scheme 132 = .ok (.iload 6, 2) := dk_21 6 (dk_at dksX3_scheme_5 17 rfl rfl)
theorem dX3_scheme_134 : decode cX3_scheme 134 = .ok (.invokestatic 407, 3) := dk_184 1 151 (dk_at dksX3_scheme_5 19 rfl rfl)
theorem dX3_scheme_137 : decode cX3_scheme 137 = .ok (.iload 4, 2) := dk_21 4 (dk_at dksX3_scheme_5 22 rfl rfl)
theorem dX3_scheme_139 : decode cX3_scheme 139 = .ok (.invokestatic 407, 3) := dk_184 1 151 (dk_at dksX3_scheme_6 0 rfl rfl)
theorem dX3_scheme_142 : decode cX3_scheme 142 = .ok (.if_icmp .lt 6, 3) := dk_161 0 6 (dk_at dksX3_scheme_6 3 rfl rfl)
theorem dX3_scheme_145 : decode cX3_scheme 145 = .ok (.goto 11, 3) := dk_167 0 11 (dk_at dksX3_scheme_6 6 rfl rfl)
theorem dX3_scheme_148 : decode cX3_scheme 148 = .ok (.iload 6, 2) := dk_21 6 (dk_at dksX3_scheme_6 9 rfl rfl)
theorem dX3_scheme_150 : decode cX3_scheme 150 = .ok (.istore 4, 2) := dk_54 4 (dk_at dksX3_scheme_6 11 rfl rfl)
theorem dX3_scheme_152 : decode cX3_scheme 152 = .ok (.iload 7, 2) := dk_21 7 (dk_at dksX3_scheme_6 13 rfl rfl)
theorem dX3_scheme_154 : decode cX3_scheme 154 = .ok (.istore 5, 2) := dk_54 5 (dk_at dksX3_scheme_6 15 rfl rfl)
theorem dX3_scheme_156 : decode cX3_scheme 156 = .ok (.iinc 6 1, 3) := dk_132 6 1 (dk_at dksX3_scheme_6 17 rfl rfl)
theorem dX3_scheme_159 : decode cX3_scheme 159 = .ok (.goto (-113), 3) := dk_167 255 143 (dk_at dksX3_scheme_6 20 rfl rfl)
theorem dX3_scheme_162 : decode cX3_scheme 162 = .ok (.iload_n 3, 1) := dk_29 (dk_at dksX3_scheme_6 23 rfl rfl)
theorem dX3_scheme_163 : decode cX3_scheme 163 = .ok (.ifCond .ne 8, 3) := dk_154 0 8 (dk_at dksX3_scheme_7 0 rfl rfl)
theorem dX3_scheme_166 : decode cX3_scheme 166 = .ok (.iload 4, 2) := dk_21 4 (dk_at dksX3_scheme_7 3 rfl rfl)
theorem dX3_scheme_168 : decode cX3_scheme 168 = .ok (.goto 5, 3) := dk_167 0 5 (dk_at dksX3_scheme_7 5 rfl rfl)
theorem dX3_scheme_171 : decode cX3_scheme 171 = .ok (.iload 5, 2) := dk_21 5 (dk_at dksX3_scheme_7 8 rfl rfl)
theorem dX3_scheme_173 : decode cX3_scheme 173 = .ok (.ireturn, 1) := dk_172 (dk_at dksX3_scheme_7 10 rfl rfl)
abbrev cX3_peace : ByteArray := prog_14_method_80_code
def yX3_peace : MethodName := ⟨RX3, "peace", "()I"⟩
def dkwX3_peace_2 : List UInt8 := [172, 132, 1, 1, 167, 255, 233, 2, 172]
abbrev dktX3_peace_2 : List UInt8 := dkwX3_peace_2 ++ []
def dkwX3_peace_1 : List UInt8 := [184, 1, 139, 4, 60, 27, 16, 60, 163, 0, 23, 42, 42, 180, 0, 64, 182, 1, 106, 2, 160, 0, 5, 27]
abbrev dktX3_peace_1 : List UInt8 := dkwX3_peace_1 ++ dktX3_peace_2
def dkwX3_peace_0 : List UInt8 := [42, 3, 181, 0, 99, 42, 180, 1, 35, 154, 0, 5, 2, 172, 42, 180, 0, 61, 42, 180, 0, 64]
abbrev dktX3_peace_0 : List UInt8 := dkwX3_peace_0 ++ dktX3_peace_1
theorem dksX3_peace_0 : cX3_peace.data.toList.drop 0 = dktX3_peace_0 := by decide +kernel
theorem dksX3_peace_1 : cX3_peace.data.toList.drop 22 = dktX3_peace_1 := dk_seg dksX3_peace_0 22 rfl rfl
theorem dksX3_peace_2 : cX3_peace.data.toList.drop 46 = dktX3_peace_2 := dk_seg dksX3_peace_1 24 rfl rfl
theorem dX3_peace_0 : decode cX3_peace 0 = .ok (.aload_n 0, 1) := dk_42 (dk_at dksX3_peace_0 0 rfl rfl)
theorem dX3_peace_1 : decode cX3_peace 1 = .ok (.iconst 0, 1) := dk_3 (dk_at dksX3_peace_0 1 rfl rfl)
theorem dX3_peace_2 : decode cX3_peace 2 = .ok (.putfield 99, 3) := dk_181 0 99 (dk_at dksX3_peace_0 2 rfl rfl)
theorem dX3_peace_5 : decode cX3_peace 5 = .ok (.aload_n 0, 1) := dk_42 (dk_at dksX3_peace_0 5 rfl rfl)
theorem dX3_peace_6 : decode cX3_peace 6 = .ok (.getfield 291, 3) := dk_180 1 35 (dk_at dksX3_peace_0 6 rfl rfl)
theorem dX3_peace_9 : decode cX3_peace 9 = .ok (.ifCond .ne 5, 3) := dk_154 0 5 (dk_at dksX3_peace_0 9 rfl rfl)
theorem dX3_peace_12 : decode cX3_peace 12 = .ok (.iconst (-1), 1) := dk_2 (dk_at dksX3_peace_0 12 rfl rfl)
theorem dX3_peace_13 : decode cX3_peace 13 = .ok (.ireturn, 1) := dk_172 (dk_at dksX3_peace_0 13 rfl rfl)
theorem dX3_peace_14 : decode cX3_peace 14 = .ok (.aload_n 0, 1) := dk_42 (dk_at dksX3_peace_0 14 rfl rfl)
theorem dX3_peace_15 : decode cX3_peace 15 = .ok (.getfield 61, 3) := dk_180 0 61 (dk_at dksX3_peace_0 15 rfl rfl)
theorem dX3_peace_18 : decode cX3_peace 18 = .ok (.aload_n 0, 1) := dk_42 (dk_at dksX3_peace_0 18 rfl rfl)
theorem dX3_peace_19 : decode cX3_peace 19 = .ok (.getfield 64, 3) := dk_180 0 64 (dk_at dksX3_peace_0 19 rfl rfl)
theorem dX3_peace_22 : decode cX3_peace 22 = .ok (.invokestatic 395, 3) := dk_184 1 139 (dk_at dksX3_peace_1 0 rfl rfl)
theorem dX3_peace_25 : decode cX3_peace 25 = .ok (.iconst 1, 1) := dk_4 (dk_at dksX3_peace_1 3 rfl rfl)
theorem dX3_peace_26 : decode cX3_peace 26 = .ok (.istore_n 1, 1) := dk_60 (dk_at dksX3_peace_1 4 rfl rfl)
theorem dX3_peace_27 : decode cX3_peace 27 = .ok (.iload_n 1, 1) := dk_27 (dk_at dksX3_peace_1 5 rfl rfl)
theorem dX3_peace_28 : decode cX3_peace 28 = .ok (.bipush 60, 2) := dk_16 60 (dk_at dksX3_peace_1 6 rfl rfl)
theorem dX3_peace_30 : decode cX3_peace 30 = .ok (.if_icmp .gt 23, 3) := dk_163 0 23 (dk_at dksX3_peace_1 8 rfl rfl)
theorem dX3_peace_33 : decode cX3_peace 33 = .ok (.aload_n 0, 1) := dk_42 (dk_at dksX3_peace_1 11 rfl rfl)
theorem dX3_peace_34 : decode cX3_peace 34 = .ok (.aload_n 0, 1) := dk_42 (dk_at dksX3_peace_1 12 rfl rfl)
theorem dX3_peace_35 : decode cX3_peace 35 = .ok (.getfield 64, 3) := dk_180 0 64 (dk_at dksX3_peace_1 13 rfl rfl)
theorem dX3_peace_38 : decode cX3_peace 38 = .ok (.invokevirtual 362, 3) := dk_182 1 106 (dk_at dksX3_peace_1 16 rfl rfl)
theorem dX3_peace_41 : decode cX3_peace 41 = .ok (.iconst (-1), 1) := dk_2 (dk_at dksX3_peace_1 19 rfl rfl)
theorem dX3_peace_42 : decode cX3_peace 42 = .ok (.if_icmp .ne 5, 3) := dk_160 0 5 (dk_at dksX3_peace_1 20 rfl rfl)
theorem dX3_peace_45 : decode cX3_peace 45 = .ok (.iload_n 1, 1) := dk_27 (dk_at dksX3_peace_1 23 rfl rfl)
theorem dX3_peace_46 : decode cX3_peace 46 = .ok (.ireturn, 1) := dk_172 (dk_at dksX3_peace_2 0 rfl rfl)
theorem dX3_peace_47 : decode cX3_peace 47 = .ok (.iinc 1 1, 3) := dk_132 1 1 (dk_at dksX3_peace_2 1 rfl rfl)
theorem dX3_peace_50 : decode cX3_peace 50 = .ok (.goto (-23), 3) := dk_167 255 233 (dk_at dksX3_peace_2 4 rfl rfl)
theorem dX3_peace_53 : decode cX3_peace 53 = .ok (.iconst (-1), 1) := dk_2 (dk_at dksX3_peace_2 7 rfl rfl)
theorem dX3_peace_54 : decode cX3_peace 54 = .ok (.ireturn, 1) := dk_172 (dk_at dksX3_peace_2 8 rfl rfl)
abbrev cX3_last : ByteArray := prog_14_method_81_code
def yX3_last : MethodName := ⟨RX3, "last", "(I)I"⟩
def dkwX3_last_1 : List UInt8 := [180, 1, 38, 112, 100, 42, 180, 1, 38, 96, 42, 180, 1, 38, 112, 4, 96, 167, 0, 4, 2, 172]
abbrev dktX3_last_1 : List UInt8 := dkwX3_last_1 ++ []
def dkwX3_last_0 : List UInt8 := [42, 3, 181, 0, 99, 42, 27, 182, 1, 96, 153, 0, 32, 27, 42, 180, 0, 61, 16, 18, 46, 42]
abbrev dktX3_last_0 : List UInt8 := dkwX3_last_0 ++ dktX3_last_1
theorem dksX3_last_0 : cX3_last.data.toList.drop 0 = dktX3_last_0 := by decide +kernel
theorem dksX3_last_1 : cX3_last.data.toList.drop 22 = dktX3_last_1 := dk_seg dksX3_last_0 22 rfl rfl
theorem dX3_last_0 : decode cX3_last 0 = .ok (.aload_n 0, 1) := dk_42 (dk_at dksX3_last_0 0 rfl rfl)
theorem dX3_last_1 : decode cX3_last 1 = .ok (.iconst 0, 1) := dk_3 (dk_at dksX3_last_0 1 rfl rfl)
theorem dX3_last_2 : decode cX3_last 2 = .ok (.putfield 99, 3) := dk_181 0 99 (dk_at dksX3_last_0 2 rfl rfl)
theorem dX3_last_5 : decode cX3_last 5 = .ok (.aload_n 0, 1) := dk_42 (dk_at dksX3_last_0 5 rfl rfl)
theorem dX3_last_6 : decode cX3_last 6 = .ok (.iload_n 1, 1) := dk_27 (dk_at dksX3_last_0 6 rfl rfl)
theorem dX3_last_7 : decode cX3_last 7 = .ok (.invokevirtual 352, 3) := dk_182 1 96 (dk_at dksX3_last_0 7 rfl rfl)
theorem dX3_last_10 : decode cX3_last 10 = .ok (.ifCond .eq 32, 3) := dk_153 0 32 (dk_at dksX3_last_0 10 rfl rfl)
theorem dX3_last_13 : decode cX3_last 13 = .ok (.iload_n 1, 1) := dk_27 (dk_at dksX3_last_0 13 rfl rfl)
theorem dX3_last_14 : decode cX3_last 14 = .ok (.aload_n 0, 1) := dk_42 (dk_at dksX3_last_0 14 rfl rfl)
theorem dX3_last_15 : decode cX3_last 15 = .ok (.getfield 61, 3) := dk_180 0 61 (dk_at dksX3_last_0 15 rfl rfl)
theorem dX3_last_18 : decode cX3_last 18 = .ok (.bipush 18, 2) := dk_16 18 (dk_at dksX3_last_0 18 rfl rfl)
theorem dX3_last_20 : decode cX3_last 20 = .ok (.iaload, 1) := dk_46 (dk_at dksX3_last_0 20 rfl rfl)
theorem dX3_last_21 : decode cX3_last 21 = .ok (.aload_n 0, 1) := dk_42 (dk_at dksX3_last_0 21 rfl rfl)
theorem dX3_last_22 : decode cX3_last 22 = .ok (.getfield 294, 3) := dk_180 1 38 (dk_at dksX3_last_1 0 rfl rfl)
theorem dX3_last_25 : decode cX3_last 25 = .ok (.irem, 1) := dk_112 (dk_at dksX3_last_1 3 rfl rfl)
theorem dX3_last_26 : decode cX3_last 26 = .ok (.isub, 1) := dk_100 (dk_at dksX3_last_1 4 rfl rfl)
theorem dX3_last_27 : decode cX3_last 27 = .ok (.aload_n 0, 1) := dk_42 (dk_at dksX3_last_1 5 rfl rfl)
theorem dX3_last_28 : decode cX3_last 28 = .ok (.getfield 294, 3) := dk_180 1 38 (dk_at dksX3_last_1 6 rfl rfl)
theorem dX3_last_31 : decode cX3_last 31 = .ok (.iadd, 1) := dk_96 (dk_at dksX3_last_1 9 rfl rfl)
theorem dX3_last_32 : decode cX3_last 32 = .ok (.aload_n 0, 1) := dk_42 (dk_at dksX3_last_1 10 rfl rfl)
theorem dX3_last_33 : decode cX3_last 33 = .ok (.getfield 294, 3) := dk_180 1 38 (dk_at dksX3_last_1 11 rfl rfl)
theorem dX3_last_36 : decode cX3_last 36 = .ok (.irem, 1) := dk_112 (dk_at dksX3_last_1 14 rfl rfl)
theorem dX3_last_37 : decode cX3_last 37 = .ok (.iconst 1, 1) := dk_4 (dk_at dksX3_last_1 15 rfl rfl)
theorem dX3_last_38 : decode cX3_last 38 = .ok (.iadd, 1) := dk_96 (dk_at dksX3_last_1 16 rfl rfl)
theorem dX3_last_39 : decode cX3_last 39 = .ok (.goto 4, 3) := dk_167 0 4 (dk_at dksX3_last_1 17 rfl rfl)
theorem dX3_last_42 : decode cX3_last 42 = .ok (.iconst (-1), 1) := dk_2 (dk_at dksX3_last_1 20 rfl rfl)
theorem dX3_last_43 : decode cX3_last 43 = .ok (.ireturn, 1) := dk_172 (dk_at dksX3_last_1 21 rfl rfl)
abbrev cX3_told : ByteArray := prog_14_method_82_code
def yX3_told : MethodName := ⟨RX3, "told", "(III)I"⟩
def dkwX3_told_4 : List UInt8 := [180, 1, 41, 172]
abbrev dktX3_told_4 : List UInt8 := dkwX3_told_4 ++ []
def dkwX3_told_3 : List UInt8 := [180, 0, 84, 6, 42, 180, 1, 41, 104, 5, 96, 29, 79, 42, 89, 180, 1, 41, 4, 96, 181, 1, 41, 42]
abbrev dktX3_told_3 : List UInt8 := dkwX3_told_3 ++ dktX3_told_4
def dkwX3_told_2 : List UInt8 := [6, 42, 180, 1, 41, 104, 27, 79, 42, 180, 0, 84, 6, 42, 180, 1, 41, 104, 4, 96, 28, 79, 42]
abbrev dktX3_told_2 : List UInt8 := dkwX3_told_2 ++ dktX3_told_3
def dkwX3_told_1 : List UInt8 := [20, 1, 156, 184, 1, 14, 153, 0, 12, 42, 180, 1, 41, 16, 10, 160, 0, 5, 2, 172, 42, 180, 0, 84]
abbrev dktX3_told_1 : List UInt8 := dkwX3_told_1 ++ dktX3_told_2
def dkwX3_told_0 : List UInt8 := [42, 3, 181, 0, 99, 42, 27, 182, 1, 91, 153, 0, 32, 42, 28, 182, 1, 96, 153, 0, 24, 29, 133, 9]
abbrev dktX3_told_0 : List UInt8 := dkwX3_told_0 ++ dktX3_told_1
theorem dksX3_told_0 : cX3_told.data.toList.drop 0 = dktX3_told_0 := by decide +kernel
theorem dksX3_told_1 : cX3_told.data.toList.drop 24 = dktX3_told_1 := dk_seg dksX3_told_0 24 rfl rfl
theorem dksX3_told_2 : cX3_told.data.toList.drop 48 = dktX3_told_2 := dk_seg dksX3_told_1 24 rfl rfl
theorem dksX3_told_3 : cX3_told.data.toList.drop 71 = dktX3_told_3 := dk_seg dksX3_told_2 23 rfl rfl
theorem dksX3_told_4 : cX3_told.data.toList.drop 95 = dktX3_told_4 := dk_seg dksX3_told_3 24 rfl rfl
theorem dX3_told_0 : decode cX3_told 0 = .ok (.aload_n 0, 1) := dk_42 (dk_at dksX3_told_0 0 rfl rfl)
theorem dX3_told_1 : decode cX3_told 1 = .ok (.iconst 0, 1) := dk_3 (dk_at dksX3_told_0 1 rfl rfl)
theorem dX3_told_2 : decode cX3_told 2 = .ok (.putfield 99, 3) := dk_181 0 99 (dk_at dksX3_told_0 2 rfl rfl)
theorem dX3_told_5 : decode cX3_told 5 = .ok (.aload_n 0, 1) := dk_42 (dk_at dksX3_told_0 5 rfl rfl)
theorem dX3_told_6 : decode cX3_told 6 = .ok (.iload_n 1, 1) := dk_27 (dk_at dksX3_told_0 6 rfl rfl)
theorem dX3_told_7 : decode cX3_told 7 = .ok (.invokevirtual 347, 3) := dk_182 1 91 (dk_at dksX3_told_0 7 rfl rfl)
theorem dX3_told_10 : decode cX3_told 10 = .ok (.ifCond .eq 32, 3) := dk_153 0 32 (dk_at dksX3_told_0 10 rfl rfl)
theorem dX3_told_13 : decode cX3_told 13 = .ok (.aload_n 0, 1) := dk_42 (dk_at dksX3_told_0 13 rfl rfl)
theorem dX3_told_14 : decode cX3_told 14 = .ok (.iload_n 2, 1) := dk_28 (dk_at dksX3_told_0 14 rfl rfl)
theorem dX3_told_15 : decode cX3_told 15 = .ok (.invokevirtual 352, 3) := dk_182 1 96 (dk_at dksX3_told_0 15 rfl rfl)
theorem dX3_told_18 : decode cX3_told 18 = .ok (.ifCond .eq 24, 3) := dk_153 0 24 (dk_at dksX3_told_0 18 rfl rfl)
theorem dX3_told_21 : decode cX3_told 21 = .ok (.iload_n 3, 1) := dk_29 (dk_at dksX3_told_0 21 rfl rfl)
theorem dX3_told_22 : decode cX3_told 22 = .ok (.i2l, 1) := dk_133 (dk_at dksX3_told_0 22 rfl rfl)
theorem dX3_told_23 : decode cX3_told 23 = .ok (.lconst 0, 1) := dk_9 (dk_at dksX3_told_0 23 rfl rfl)
theorem dX3_told_24 : decode cX3_told 24 = .ok (.ldc2_w 412, 3) := dk_20 1 156 (dk_at dksX3_told_1 0 rfl rfl)
theorem dX3_told_27 : decode cX3_told 27 = .ok (.invokestatic 270, 3) := dk_184 1 14 (dk_at dksX3_told_1 3 rfl rfl)
theorem dX3_told_30 : decode cX3_told 30 = .ok (.ifCond .eq 12, 3) := dk_153 0 12 (dk_at dksX3_told_1 6 rfl rfl)
theorem dX3_told_33 : decode cX3_told 33 = .ok (.aload_n 0, 1) := dk_42 (dk_at dksX3_told_1 9 rfl rfl)
theorem dX3_told_34 : decode cX3_told 34 = .ok (.getfield 297, 3) := dk_180 1 41 (dk_at dksX3_told_1 10 rfl rfl)
theorem dX3_told_37 : decode cX3_told 37 = .ok (.bipush 10, 2) := dk_16 10 (dk_at dksX3_told_1 13 rfl rfl)
theorem dX3_told_39 : decode cX3_told 39 = .ok (.if_icmp .ne 5, 3) := dk_160 0 5 (dk_at dksX3_told_1 15 rfl rfl)
theorem dX3_told_42 : decode cX3_told 42 = .ok (.iconst (-1), 1) := dk_2 (dk_at dksX3_told_1 18 rfl rfl)
theorem dX3_told_43 : decode cX3_told 43 = .ok (.ireturn, 1) := dk_172 (dk_at dksX3_told_1 19 rfl rfl)
theorem dX3_told_44 : decode cX3_told 44 = .ok (.aload_n 0, 1) := dk_42 (dk_at dksX3_told_1 20 rfl rfl)
theorem dX3_told_45 : decode cX3_told 45 = .ok (.getfield 84, 3) := dk_180 0 84 (dk_at dksX3_told_1 21 rfl rfl)
theorem dX3_told_48 : decode cX3_told 48 = .ok (.iconst 3, 1) := dk_6 (dk_at dksX3_told_2 0 rfl rfl)
theorem dX3_told_49 : decode cX3_told 49 = .ok (.aload_n 0, 1) := dk_42 (dk_at dksX3_told_2 1 rfl rfl)
theorem dX3_told_50 : decode cX3_told 50 = .ok (.getfield 297, 3) := dk_180 1 41 (dk_at dksX3_told_2 2 rfl rfl)
theorem dX3_told_53 : decode cX3_told 53 = .ok (.imul, 1) := dk_104 (dk_at dksX3_told_2 5 rfl rfl)
theorem dX3_told_54 : decode cX3_told 54 = .ok (.iload_n 1, 1) := dk_27 (dk_at dksX3_told_2 6 rfl rfl)
theorem dX3_told_55 : decode cX3_told 55 = .ok (.iastore, 1) := dk_79 (dk_at dksX3_told_2 7 rfl rfl)
theorem dX3_told_56 : decode cX3_told 56 = .ok (.aload_n 0, 1) := dk_42 (dk_at dksX3_told_2 8 rfl rfl)
theorem dX3_told_57 : decode cX3_told 57 = .ok (.getfield 84, 3) := dk_180 0 84 (dk_at dksX3_told_2 9 rfl rfl)
theorem dX3_told_60 : decode cX3_told 60 = .ok (.iconst 3, 1) := dk_6 (dk_at dksX3_told_2 12 rfl rfl)
theorem dX3_told_61 : decode cX3_told 61 = .ok (.aload_n 0, 1) := dk_42 (dk_at dksX3_told_2 13 rfl rfl)
theorem dX3_told_62 : decode cX3_told 62 = .ok (.getfield 297, 3) := dk_180 1 41 (dk_at dksX3_told_2 14 rfl rfl)
theorem dX3_told_65 : decode cX3_told 65 = .ok (.imul, 1) := dk_104 (dk_at dksX3_told_2 17 rfl rfl)
theorem dX3_told_66 : decode cX3_told 66 = .ok (.iconst 1, 1) := dk_4 (dk_at dksX3_told_2 18 rfl rfl)
theorem dX3_told_67 : decode cX3_told 67 = .ok (.iadd, 1) := dk_96 (dk_at dksX3_told_2 19 rfl rfl)
theorem dX3_told_68 : decode cX3_told 68 = .ok (.iload_n 2, 1) := dk_28 (dk_at dksX3_told_2 20 rfl rfl)
theorem dX3_told_69 : decode cX3_told 69 = .ok (.iastore, 1) := dk_79 (dk_at dksX3_told_2 21 rfl rfl)
theorem dX3_told_70 : decode cX3_told 70 = .ok (.aload_n 0, 1) := dk_42 (dk_at dksX3_told_2 22 rfl rfl)
theorem dX3_told_71 : decode cX3_told 71 = .ok (.getfield 84, 3) := dk_180 0 84 (dk_at dksX3_told_3 0 rfl rfl)
theorem dX3_told_74 : decode cX3_told 74 = .ok (.iconst 3, 1) := dk_6 (dk_at dksX3_told_3 3 rfl rfl)
theorem dX3_told_75 : decode cX3_told 75 = .ok (.aload_n 0, 1) := dk_42 (dk_at dksX3_told_3 4 rfl rfl)
theorem dX3_told_76 : decode cX3_told 76 = .ok (.getfield 297, 3) := dk_180 1 41 (dk_at dksX3_told_3 5 rfl rfl)
theorem dX3_told_79 : decode cX3_told 79 = .ok (.imul, 1) := dk_104 (dk_at dksX3_told_3 8 rfl rfl)
theorem dX3_told_80 : decode cX3_told 80 = .ok (.iconst 2, 1) := dk_5 (dk_at dksX3_told_3 9 rfl rfl)
theorem dX3_told_81 : decode cX3_told 81 = .ok (.iadd, 1) := dk_96 (dk_at dksX3_told_3 10 rfl rfl)
theorem dX3_told_82 : decode cX3_told 82 = .ok (.iload_n 3, 1) := dk_29 (dk_at dksX3_told_3 11 rfl rfl)
theorem dX3_told_83 : decode cX3_told 83 = .ok (.iastore, 1) := dk_79 (dk_at dksX3_told_3 12 rfl rfl)
theorem dX3_told_84 : decode cX3_told 84 = .ok (.aload_n 0, 1) := dk_42 (dk_at dksX3_told_3 13 rfl rfl)
theorem dX3_told_85 : decode cX3_told 85 = .ok (.dup, 1) := dk_89 (dk_at dksX3_told_3 14 rfl rfl)
theorem dX3_told_86 : decode cX3_told 86 = .ok (.getfield 297, 3) := dk_180 1 41 (dk_at dksX3_told_3 15 rfl rfl)
theorem dX3_told_89 : decode cX3_told 89 = .ok (.iconst 1, 1) := dk_4 (dk_at dksX3_told_3 18 rfl rfl)
theorem dX3_told_90 : decode cX3_told 90 = .ok (.iadd, 1) := dk_96 (dk_at dksX3_told_3 19 rfl rfl)
theorem dX3_told_91 : decode cX3_told 91 = .ok (.putfield 297, 3) := dk_181 1 41 (dk_at dksX3_told_3 20 rfl rfl)
theorem dX3_told_94 : decode cX3_told 94 = .ok (.aload_n 0, 1) := dk_42 (dk_at dksX3_told_3 23 rfl rfl)
theorem dX3_told_95 : decode cX3_told 95 = .ok (.getfield 297, 3) := dk_180 1 41 (dk_at dksX3_told_4 0 rfl rfl)
theorem dX3_told_98 : decode cX3_told 98 = .ok (.ireturn, 1) := dk_172 (dk_at dksX3_told_4 3 rfl rfl)
abbrev cX3_biases : ByteArray := prog_14_method_86_code
def yX3_biases : MethodName := ⟨RX3, "biases", "(II)I"⟩
def dkwX3_biases_2 : List UInt8 := [180, 0, 90, 27, 46, 120, 167, 0, 4, 3, 128, 62, 132, 4, 1, 167, 255, 220, 29, 28, 184, 1, 164, 172]
abbrev dktX3_biases_2 : List UInt8 := dkwX3_biases_2 ++ []
def dkwX3_biases_1 : List UInt8 := [54, 4, 21, 4, 42, 182, 1, 158, 162, 0, 33, 29, 42, 21, 4, 182, 1, 161, 153, 0, 14, 4, 42]
abbrev dktX3_biases_1 : List UInt8 := dkwX3_biases_1 ++ dktX3_biases_2
def dkwX3_biases_0 : List UInt8 := [42, 3, 181, 0, 99, 42, 27, 182, 1, 91, 153, 0, 8, 28, 2, 162, 0, 5, 2, 172, 3, 62, 3]
abbrev dktX3_biases_0 : List UInt8 := dkwX3_biases_0 ++ dktX3_biases_1
theorem dksX3_biases_0 : cX3_biases.data.toList.drop 0 = dktX3_biases_0 := by decide +kernel
theorem dksX3_biases_1 : cX3_biases.data.toList.drop 23 = dktX3_biases_1 := dk_seg dksX3_biases_0 23 rfl rfl
theorem dksX3_biases_2 : cX3_biases.data.toList.drop 46 = dktX3_biases_2 := dk_seg dksX3_biases_1 23 rfl rfl
theorem dX3_biases_0 : decode cX3_biases 0 = .ok (.aload_n 0, 1) := dk_42 (dk_at dksX3_biases_0 0 rfl rfl)
theorem dX3_biases_1 : decode cX3_biases 1 = .ok (.iconst 0, 1) := dk_3 (dk_at dksX3_biases_0 1 rfl rfl)
theorem dX3_biases_2 : decode cX3_biases 2 = .ok (.putfield 99, 3) := dk_181 0 99 (dk_at dksX3_biases_0 2 rfl rfl)
theorem dX3_biases_5 : decode cX3_biases 5 = .ok (.aload_n 0, 1) := dk_42 (dk_at dksX3_biases_0 5 rfl rfl)
theorem dX3_biases_6 : decode cX3_biases 6 = .ok (.iload_n 1, 1) := dk_27 (dk_at dksX3_biases_0 6 rfl rfl)
theorem dX3_biases_7 : decode cX3_biases 7 = .ok (.invokevirtual 347, 3) := dk_182 1 91 (dk_at dksX3_biases_0 7 rfl rfl)
theorem dX3_biases_10 : decode cX3_biases 10 = .ok (.ifCond .eq 8, 3) := dk_153 0 8 (dk_at dksX3_biases_0 10 rfl rfl)
theorem dX3_biases_13 : decode cX3_biases 13 = .ok (.iload_n 2, 1) := dk_28 (dk_at dksX3_biases_0 13 rfl rfl)
theorem dX3_biases_14 : decode cX3_biases 14 = .ok (.iconst (-1), 1) := dk_2 (dk_at dksX3_biases_0 14 rfl rfl)
theorem dX3_biases_15 : decode cX3_biases 15 = .ok (.if_icmp .ge 5, 3) := dk_162 0 5 (dk_at dksX3_biases_0 15 rfl rfl)
theorem dX3_biases_18 : decode cX3_biases 18 = .ok (.iconst (-1), 1) := dk_2 (dk_at dksX3_biases_0 18 rfl rfl)
theorem dX3_biases_19 : decode cX3_biases 19 = .ok (.ireturn, 1) := dk_172 (dk_at dksX3_biases_0 19 rfl rfl)
theorem dX3_biases_20 : decode cX3_biases 20 = .ok (.iconst 0, 1) := dk_3 (dk_at dksX3_biases_0 20 rfl rfl)
theorem dX3_biases_21 : decode cX3_biases 21 = .ok (.istore_n 3, 1) := dk_62 (dk_at dksX3_biases_0 21 rfl rfl)
theorem dX3_biases_22 : decode cX3_biases 22 = .ok (.iconst 0, 1) := dk_3 (dk_at dksX3_biases_0 22 rfl rfl)
theorem dX3_biases_23 : decode cX3_biases 23 = .ok (.istore 4, 2) := dk_54 4 (dk_at dksX3_biases_1 0 rfl rfl)
theorem dX3_biases_25 : decode cX3_biases 25 = .ok (.iload 4, 2) := dk_21 4 (dk_at dksX3_biases_1 2 rfl rfl)
theorem dX3_biases_27 : decode cX3_biases 27 = .ok (.aload_n 0, 1) := dk_42 (dk_at dksX3_biases_1 4 rfl rfl)
theorem dX3_biases_28 : decode cX3_biases 28 = .ok (.invokevirtual 414, 3) := dk_182 1 158 (dk_at dksX3_biases_1 5 rfl rfl)
theorem dX3_biases_31 : decode cX3_biases 31 = .ok (.if_icmp .ge 33, 3) := dk_162 0 33 (dk_at dksX3_biases_1 8 rfl rfl)
theorem dX3_biases_34 : decode cX3_biases 34 = .ok (.iload_n 3, 1) := dk_29 (dk_at dksX3_biases_1 11 rfl rfl)
theorem dX3_biases_35 : decode cX3_biases 35 = .ok (.aload_n 0, 1) := dk_42 (dk_at dksX3_biases_1 12 rfl rfl)
theorem dX3_biases_36 : decode cX3_biases 36 = .ok (.iload 4, 2) := dk_21 4 (dk_at dksX3_biases_1 13 rfl rfl)
theorem dX3_biases_38 : decode cX3_biases 38 = .ok (.invokevirtual 417, 3) := dk_182 1 161 (dk_at dksX3_biases_1 15 rfl rfl)
theorem dX3_biases_41 : decode cX3_biases 41 = .ok (.ifCond .eq 14, 3) := dk_153 0 14 (dk_at dksX3_biases_1 18 rfl rfl)
theorem dX3_biases_44 : decode cX3_biases 44 = .ok (.iconst 1, 1) := dk_4 (dk_at dksX3_biases_1 21 rfl rfl)
theorem dX3_biases_45 : decode cX3_biases 45 = .ok (.aload_n 0, 1) := dk_42 (dk_at dksX3_biases_1 22 rfl rfl)
theorem dX3_biases_46 : decode cX3_biases 46 = .ok (.getfield 90, 3) := dk_180 0 90 (dk_at dksX3_biases_2 0 rfl rfl)
theorem dX3_biases_49 : decode cX3_biases 49 = .ok (.iload_n 1, 1) := dk_27 (dk_at dksX3_biases_2 3 rfl rfl)
theorem dX3_biases_50 : decode cX3_biases 50 = .ok (.iaload, 1) := dk_46 (dk_at dksX3_biases_2 4 rfl rfl)
theorem dX3_biases_51 : decode cX3_biases 51 = .ok (.ishl, 1) := dk_120 (dk_at dksX3_biases_2 5 rfl rfl)
theorem dX3_biases_52 : decode cX3_biases 52 = .ok (.goto 4, 3) := dk_167 0 4 (dk_at dksX3_biases_2 6 rfl rfl)
theorem dX3_biases_55 : decode cX3_biases 55 = .ok (.iconst 0, 1) := dk_3 (dk_at dksX3_biases_2 9 rfl rfl)
theorem dX3_biases_56 : decode cX3_biases 56 = .ok (.ior, 1) := dk_128 (dk_at dksX3_biases_2 10 rfl rfl)
theorem dX3_biases_57 : decode cX3_biases 57 = .ok (.istore_n 3, 1) := dk_62 (dk_at dksX3_biases_2 11 rfl rfl)
theorem dX3_biases_58 : decode cX3_biases 58 = .ok (.iinc 4 1, 3) := dk_132 4 1 (dk_at dksX3_biases_2 12 rfl rfl)
theorem dX3_biases_61 : decode cX3_biases 61 = .ok (.goto (-36), 3) := dk_167 255 220 (dk_at dksX3_biases_2 15 rfl rfl)
theorem dX3_biases_64 : decode cX3_biases 64 = .ok (.iload_n 3, 1) := dk_29 (dk_at dksX3_biases_2 18 rfl rfl)
theorem dX3_biases_65 : decode cX3_biases 65 = .ok (.iload_n 2, 1) := dk_28 (dk_at dksX3_biases_2 19 rfl rfl)
theorem dX3_biases_66 : decode cX3_biases 66 = .ok (.invokestatic 420, 3) := dk_184 1 164 (dk_at dksX3_biases_2 20 rfl rfl)
theorem dX3_biases_69 : decode cX3_biases 69 = .ok (.ireturn, 1) := dk_172 (dk_at dksX3_biases_2 23 rfl rfl)
abbrev cX3_codes : ByteArray := prog_14_method_84_code
def yX3_codes : MethodName := ⟨RX3, "codes", "()I"⟩
def dkwX3_codes_1 : List UInt8 := [172]
abbrev dktX3_codes_1 : List UInt8 := dkwX3_codes_1 ++ []
def dkwX3_codes_0 : List UInt8 := [4, 60, 3, 61, 28, 42, 180, 1, 35, 162, 0, 14, 27, 16, 10, 104, 60, 132, 2, 1, 167, 255, 240, 27]
abbrev dktX3_codes_0 : List UInt8 := dkwX3_codes_0 ++ dktX3_codes_1
theorem dksX3_codes_0 : cX3_codes.data.toList.drop 0 = dktX3_codes_0 := by decide +kernel
theorem dksX3_codes_1 : cX3_codes.data.toList.drop 24 = dktX3_codes_1 := dk_seg dksX3_codes_0 24 rfl rfl
theorem dX3_codes_0 : decode cX3_codes 0 = .ok (.iconst 1, 1) := dk_4 (dk_at dksX3_codes_0 0 rfl rfl)
theorem dX3_codes_1 : decode cX3_codes 1 = .ok (.istore_n 1, 1) := dk_60 (dk_at dksX3_codes_0 1 rfl rfl)
theorem dX3_codes_2 : decode cX3_codes 2 = .ok (.iconst 0, 1) := dk_3 (dk_at dksX3_codes_0 2 rfl rfl)
theorem dX3_codes_3 : decode cX3_codes 3 = .ok (.istore_n 2, 1) := dk_61 (dk_at dksX3_codes_0 3 rfl rfl)
theorem dX3_codes_4 : decode cX3_codes 4 = .ok (.iload_n 2, 1) := dk_28 (dk_at dksX3_codes_0 4 rfl rfl)
theorem dX3_codes_5 : decode cX3_codes 5 = .ok (.aload_n 0, 1) := dk_42 (dk_at dksX3_codes_0 5 rfl rfl)
theorem dX3_codes_6 : decode cX3_codes 6 = .ok (.getfield 291, 3) := dk_180 1 35 (dk_at dksX3_codes_0 6 rfl rfl)
theorem dX3_codes_9 : decode cX3_codes 9 = .ok (.if_icmp .ge 14, 3) := dk_162 0 14 (dk_at dksX3_codes_0 9 rfl rfl)
theorem dX3_codes_12 : decode cX3_codes 12 = .ok (.iload_n 1, 1) := dk_27 (dk_at dksX3_codes_0 12 rfl rfl)
theorem dX3_codes_13 : decode cX3_codes 13 = .ok (.bipush 10, 2) := dk_16 10 (dk_at dksX3_codes_0 13 rfl rfl)
theorem dX3_codes_15 : decode cX3_codes 15 = .ok (.imul, 1) := dk_104 (dk_at dksX3_codes_0 15 rfl rfl)
theorem dX3_codes_16 : decode cX3_codes 16 = .ok (.istore_n 1, 1) := dk_60 (dk_at dksX3_codes_0 16 rfl rfl)
theorem dX3_codes_17 : decode cX3_codes 17 = .ok (.iinc 2 1, 3) := dk_132 2 1 (dk_at dksX3_codes_0 17 rfl rfl)
theorem dX3_codes_20 : decode cX3_codes 20 = .ok (.goto (-16), 3) := dk_167 255 240 (dk_at dksX3_codes_0 20 rfl rfl)
theorem dX3_codes_23 : decode cX3_codes 23 = .ok (.iload_n 1, 1) := dk_27 (dk_at dksX3_codes_0 23 rfl rfl)
theorem dX3_codes_24 : decode cX3_codes 24 = .ok (.ireturn, 1) := dk_172 (dk_at dksX3_codes_1 0 rfl rfl)
abbrev cX3_fitsAll : ByteArray := prog_14_method_83_code
def yX3_fitsAll : MethodName := ⟨RX3, "fitsAll", "(I)Z"⟩
def dkwX3_fitsAll_6 : List UInt8 := [172, 42, 180, 0, 87, 21, 4, 21, 5, 79, 132, 3, 1, 167, 255, 160, 4, 172]
abbrev dktX3_fitsAll_6 : List UInt8 := dkwX3_fitsAll_6 ++ []
def dkwX3_fitsAll_5 : List UInt8 := [42, 180, 0, 87, 21, 4, 46, 2, 159, 0, 17, 42, 180, 0, 87, 21, 4, 46, 21, 5, 159, 0, 5, 3]
abbrev dktX3_fitsAll_5 : List UInt8 := dkwX3_fitsAll_5 ++ dktX3_fitsAll_6
def dkwX3_fitsAll_4 : List UInt8 := [180, 0, 84, 6, 29, 104, 46, 46, 100, 54, 5, 21, 5, 133, 9, 20, 1, 149, 184, 1, 14, 153, 0, 26]
abbrev dktX3_fitsAll_4 : List UInt8 := dkwX3_fitsAll_4 ++ dktX3_fitsAll_5
def dkwX3_fitsAll_3 : List UInt8 := [29, 104, 4, 96, 46, 54, 4, 42, 180, 0, 84, 6, 29, 104, 5, 96, 46, 42, 180, 0, 90, 42]
abbrev dktX3_fitsAll_3 : List UInt8 := dkwX3_fitsAll_3 ++ dktX3_fitsAll_4
def dkwX3_fitsAll_2 : List UInt8 := [29, 2, 79, 132, 3, 1, 167, 255, 238, 3, 62, 29, 42, 180, 1, 41, 162, 0, 94, 42, 180, 0, 84, 6]
abbrev dktX3_fitsAll_2 : List UInt8 := dkwX3_fitsAll_2 ++ dktX3_fitsAll_3
def dkwX3_fitsAll_1 : List UInt8 := [16, 10, 108, 61, 132, 3, 1, 167, 255, 230, 3, 62, 29, 42, 180, 1, 38, 162, 0, 16, 42, 180, 0, 87]
abbrev dktX3_fitsAll_1 : List UInt8 := dkwX3_fitsAll_1 ++ dktX3_fitsAll_2
def dkwX3_fitsAll_0 : List UInt8 := [27, 61, 3, 62, 29, 42, 180, 1, 35, 162, 0, 24, 42, 180, 0, 90, 29, 28, 16, 10, 112, 79, 28]
abbrev dktX3_fitsAll_0 : List UInt8 := dkwX3_fitsAll_0 ++ dktX3_fitsAll_1
theorem dksX3_fitsAll_0 : cX3_fitsAll.data.toList.drop 0 = dktX3_fitsAll_0 := by decide +kernel
theorem dksX3_fitsAll_1 : cX3_fitsAll.data.toList.drop 23 = dktX3_fitsAll_1 := dk_seg dksX3_fitsAll_0 23 rfl rfl
theorem dksX3_fitsAll_2 : cX3_fitsAll.data.toList.drop 47 = dktX3_fitsAll_2 := dk_seg dksX3_fitsAll_1 24 rfl rfl
theorem dksX3_fitsAll_3 : cX3_fitsAll.data.toList.drop 71 = dktX3_fitsAll_3 := dk_seg dksX3_fitsAll_2 24 rfl rfl
theorem dksX3_fitsAll_4 : cX3_fitsAll.data.toList.drop 93 = dktX3_fitsAll_4 := dk_seg dksX3_fitsAll_3 22 rfl rfl
theorem dksX3_fitsAll_5 : cX3_fitsAll.data.toList.drop 117 = dktX3_fitsAll_5 := dk_seg dksX3_fitsAll_4 24 rfl rfl
theorem dksX3_fitsAll_6 : cX3_fitsAll.data.toList.drop 141 = dktX3_fitsAll_6 := dk_seg dksX3_fitsAll_5 24 rfl rfl
theorem dX3_fitsAll_0 : decode cX3_fitsAll 0 = .ok (.iload_n 1, 1) := dk_27 (dk_at dksX3_fitsAll_0 0 rfl rfl)
theorem dX3_fitsAll_1 : decode cX3_fitsAll 1 = .ok (.istore_n 2, 1) := dk_61 (dk_at dksX3_fitsAll_0 1 rfl rfl)
theorem dX3_fitsAll_2 : decode cX3_fitsAll 2 = .ok (.iconst 0, 1) := dk_3 (dk_at dksX3_fitsAll_0 2 rfl rfl)
theorem dX3_fitsAll_3 : decode cX3_fitsAll 3 = .ok (.istore_n 3, 1) := dk_62 (dk_at dksX3_fitsAll_0 3 rfl rfl)
theorem dX3_fitsAll_4 : decode cX3_fitsAll 4 = .ok (.iload_n 3, 1) := dk_29 (dk_at dksX3_fitsAll_0 4 rfl rfl)
theorem dX3_fitsAll_5 : decode cX3_fitsAll 5 = .ok (.aload_n 0, 1) := dk_42 (dk_at dksX3_fitsAll_0 5 rfl rfl)
theorem dX3_fitsAll_6 : decode cX3_fitsAll 6 = .ok (.getfield 291, 3) := dk_180 1 35 (dk_at dksX3_fitsAll_0 6 rfl rfl)
theorem dX3_fitsAll_9 : decode cX3_fitsAll 9 = .ok (.if_icmp .ge 24, 3) := dk_162 0 24 (dk_at dksX3_fitsAll_0 9 rfl rfl)
theorem dX3_fitsAll_12 : decode cX3_fitsAll 12 = .ok (.aload_n 0, 1) := dk_42 (dk_at dksX3_fitsAll_0 12 rfl rfl)
theorem dX3_fitsAll_13 : decode cX3_fitsAll 13 = .ok (.getfield 90, 3) := dk_180 0 90 (dk_at dksX3_fitsAll_0 13 rfl rfl)
theorem dX3_fitsAll_16 : decode cX3_fitsAll 16 = .ok (.iload_n 3, 1) := dk_29 (dk_at dksX3_fitsAll_0 16 rfl rfl)
theorem dX3_fitsAll_17 : decode cX3_fitsAll 17 = .ok (.iload_n 2, 1) := dk_28 (dk_at dksX3_fitsAll_0 17 rfl rfl)
theorem dX3_fitsAll_18 : decode cX3_fitsAll 18 = .ok (.bipush 10, 2) := dk_16 10 (dk_at dksX3_fitsAll_0 18 rfl rfl)
theorem dX3_fitsAll_20 : decode cX3_fitsAll 20 = .ok (.irem, 1) := dk_112 (dk_at dksX3_fitsAll_0 20 rfl rfl)
theorem dX3_fitsAll_21 : decode cX3_fitsAll 21 = .ok (.iastore, 1) := dk_79 (dk_at dksX3_fitsAll_0 21 rfl rfl)
theorem dX3_fitsAll_22 : decode cX3_fitsAll 22 = .ok (.iload_n 2, 1) := dk_28 (dk_at dksX3_fitsAll_0 22 rfl rfl)
theorem dX3_fitsAll_23 : decode cX3_fitsAll 23 = .ok (.bipush 10, 2) := dk_16 10 (dk_at dksX3_fitsAll_1 0 rfl rfl)
theorem dX3_fitsAll_25 : decode cX3_fitsAll 25 = .ok (.idiv, 1) := dk_108 (dk_at dksX3_fitsAll_1 2 rfl rfl)
theorem dX3_fitsAll_26 : decode cX3_fitsAll 26 = .ok (.istore_n 2, 1) := dk_61 (dk_at dksX3_fitsAll_1 3 rfl rfl)
theorem dX3_fitsAll_27 : decode cX3_fitsAll 27 = .ok (.iinc 3 1, 3) := dk_132 3 1 (dk_at dksX3_fitsAll_1 4 rfl rfl)
theorem dX3_fitsAll_30 : decode cX3_fitsAll 30 = .ok (.goto (-26), 3) := dk_167 255 230 (dk_at dksX3_fitsAll_1 7 rfl rfl)
theorem dX3_fitsAll_33 : decode cX3_fitsAll 33 = .ok (.iconst 0, 1) := dk_3 (dk_at dksX3_fitsAll_1 10 rfl rfl)
theorem dX3_fitsAll_34 : decode cX3_fitsAll 34 = .ok (.istore_n 3, 1) := dk_62 (dk_at dksX3_fitsAll_1 11 rfl rfl)
theorem dX3_fitsAll_35 : decode cX3_fitsAll 35 = .ok (.iload_n 3, 1) := dk_29 (dk_at dksX3_fitsAll_1 12 rfl rfl)
theorem dX3_fitsAll_36 : decode cX3_fitsAll 36 = .ok (.aload_n 0, 1) := dk_42 (dk_at dksX3_fitsAll_1 13 rfl rfl)
theorem dX3_fitsAll_37 : decode cX3_fitsAll 37 = .ok (.getfield 294, 3) := dk_180 1 38 (dk_at dksX3_fitsAll_1 14 rfl rfl)
theorem dX3_fitsAll_40 : decode cX3_fitsAll 40 = .ok (.if_icmp .ge 16, 3) := dk_162 0 16 (dk_at dksX3_fitsAll_1 17 rfl rfl)
theorem dX3_fitsAll_43 : decode cX3_fitsAll 43 = .ok (.aload_n 0, 1) := dk_42 (dk_at dksX3_fitsAll_1 20 rfl rfl)
theorem dX3_fitsAll_44 : decode cX3_fitsAll 44 = .ok (.getfield 87, 3) := dk_180 0 87 (dk_at dksX3_fitsAll_1 21 rfl rfl)
theorem dX3_fitsAll_47 : decode cX3_fitsAll 47 = .ok (.iload_n 3, 1) := dk_29 (dk_at dksX3_fitsAll_2 0 rfl rfl)
theorem dX3_fitsAll_48 : decode cX3_fitsAll 48 = .ok (.iconst (-1), 1) := dk_2 (dk_at dksX3_fitsAll_2 1 rfl rfl)
theorem dX3_fitsAll_49 : decode cX3_fitsAll 49 = .ok (.iastore, 1) := dk_79 (dk_at dksX3_fitsAll_2 2 rfl rfl)
theorem dX3_fitsAll_50 : decode cX3_fitsAll 50 = .ok (.iinc 3 1, 3) := dk_132 3 1 (dk_at dksX3_fitsAll_2 3 rfl rfl)
theorem dX3_fitsAll_53 : decode cX3_fitsAll 53 = .ok (.goto (-18), 3) := dk_167 255 238 (dk_at dksX3_fitsAll_2 6 rfl rfl)
theorem dX3_fitsAll_56 : decode cX3_fitsAll 56 = .ok (.iconst 0, 1) := dk_3 (dk_at dksX3_fitsAll_2 9 rfl rfl)
theorem dX3_fitsAll_57 : decode cX3_fitsAll 57 = .ok (.istore_n 3, 1) := dk_62 (dk_at dksX3_fitsAll_2 10 rfl rfl)
theorem dX3_fitsAll_58 : decode cX3_fitsAll 58 = .ok (.iload_n 3, 1) := dk_29 (dk_at dksX3_fitsAll_2 11 rfl rfl)
theorem dX3_fitsAll_59 : decode cX3_fitsAll 59 = .ok (.aload_n 0, 1) := dk_42 (dk_at dksX3_fitsAll_2 12 rfl rfl)
theorem dX3_fitsAll_60 : decode cX3_fitsAll 60 = .ok (.getfield 297, 3) := dk_180 1 41 (dk_at dksX3_fitsAll_2 13 rfl rfl)
theorem dX3_fitsAll_63 : decode cX3_fitsAll 63 = .ok (.if_icmp .ge 94, 3) := dk_162 0 94 (dk_at dksX3_fitsAll_2 16 rfl rfl)
theorem dX3_fitsAll_66 : decode cX3_fitsAll 66 = .ok (.aload_n 0, 1) := dk_42 (dk_at dksX3_fitsAll_2 19 rfl rfl)
theorem dX3_fitsAll_67 : decode cX3_fitsAll 67 = .ok (.getfield 84, 3) := dk_180 0 84 (dk_at dksX3_fitsAll_2 20 rfl rfl)
theorem dX3_fitsAll_70 : decode cX3_fitsAll 70 = .ok (.iconst 3, 1) := dk_6 (dk_at dksX3_fitsAll_2 23 rfl rfl)
theorem dX3_fitsAll_71 : decode cX3_fitsAll 71 = .ok (.iload_n 3, 1) := dk_29 (dk_at dksX3_fitsAll_3 0 rfl rfl)
theorem dX3_fitsAll_72 : decode cX3_fitsAll 72 = .ok (.imul, 1) := dk_104 (dk_at dksX3_fitsAll_3 1 rfl rfl)
theorem dX3_fitsAll_73 : decode cX3_fitsAll 73 = .ok (.iconst 1, 1) := dk_4 (dk_at dksX3_fitsAll_3 2 rfl rfl)
theorem dX3_fitsAll_74 : decode cX3_fitsAll 74 = .ok (.iadd, 1) := dk_96 (dk_at dksX3_fitsAll_3 3 rfl rfl)
theorem dX3_fitsAll_75 : decode cX3_fitsAll 75 = .ok (.iaload, 1) := dk_46 (dk_at dksX3_fitsAll_3 4 rfl rfl)
theorem dX3_fitsAll_76 : decode cX3_fitsAll 76 = .ok (.istore 4, 2) := dk_54 4 (dk_at dksX3_fitsAll_3 5 rfl rfl)
theorem dX3_fitsAll_78 : decode cX3_fitsAll 78 = .ok (.aload_n 0, 1) := dk_42 (dk_at dksX3_fitsAll_3 7 rfl rfl)
theorem dX3_fitsAll_79 : decode cX3_fitsAll 79 = .ok (.getfield 84, 3) := dk_180 0 84 (dk_at dksX3_fitsAll_3 8 rfl rfl)
theorem dX3_fitsAll_82 : decode cX3_fitsAll 82 = .ok (.iconst 3, 1) := dk_6 (dk_at dksX3_fitsAll_3 11 rfl rfl)
theorem dX3_fitsAll_83 : decode cX3_fitsAll 83 = .ok (.iload_n 3, 1) := dk_29 (dk_at dksX3_fitsAll_3 12 rfl rfl)
theorem dX3_fitsAll_84 : decode cX3_fitsAll 84 = .ok (.imul, 1) := dk_104 (dk_at dksX3_fitsAll_3 13 rfl rfl)
theorem dX3_fitsAll_85 : decode cX3_fitsAll 85 = .ok (.iconst 2, 1) := dk_5 (dk_at dksX3_fitsAll_3 14 rfl rfl)
theorem dX3_fitsAll_86 : decode cX3_fitsAll 86 = .ok (.iadd, 1) := dk_96 (dk_at dksX3_fitsAll_3 15 rfl rfl)
theorem dX3_fitsAll_87 : decode cX3_fitsAll 87 = .ok (.iaload, 1) := dk_46 (dk_at dksX3_fitsAll_3 16 rfl rfl)
theorem dX3_fitsAll_88 : decode cX3_fitsAll 88 = .ok (.aload_n 0, 1) := dk_42 (dk_at dksX3_fitsAll_3 17 rfl rfl)
theorem dX3_fitsAll_89 : decode cX3_fitsAll 89 = .ok (.getfield 90, 3) := dk_180 0 90 (dk_at dksX3_fitsAll_3 18 rfl rfl)
theorem dX3_fitsAll_92 : decode cX3_fitsAll 92 = .ok (.aload_n 0, 1) := dk_42 (dk_at dksX3_fitsAll_3 21 rfl rfl)
theorem dX3_fitsAll_93 : decode cX3_fitsAll 93 = .ok (.getfield 84, 3) := dk_180 0 84 (dk_at dksX3_fitsAll_4 0 rfl rfl)
theorem dX3_fitsAll_96 : decode cX3_fitsAll 96 = .ok (.iconst 3, 1) := dk_6 (dk_at dksX3_fitsAll_4 3 rfl rfl)
theorem dX3_fitsAll_97 : decode cX3_fitsAll 97 = .ok (.iload_n 3, 1) := dk_29 (dk_at dksX3_fitsAll_4 4 rfl rfl)
theorem dX3_fitsAll_98 : decode cX3_fitsAll 98 = .ok (.imul, 1) := dk_104 (dk_at dksX3_fitsAll_4 5 rfl rfl)
theorem dX3_fitsAll_99 : decode cX3_fitsAll 99 = .ok (.iaload, 1) := dk_46 (dk_at dksX3_fitsAll_4 6 rfl rfl)
theorem dX3_fitsAll_100 : decode cX3_fitsAll 100 = .ok (.iaload, 1) := dk_46 (dk_at dksX3_fitsAll_4 7 rfl rfl)
theorem dX3_fitsAll_101 : decode cX3_fitsAll 101 = .ok (.isub, 1) := dk_100 (dk_at dksX3_fitsAll_4 8 rfl rfl)
theorem dX3_fitsAll_102 : decode cX3_fitsAll 102 = .ok (.istore 5, 2) := dk_54 5 (dk_at dksX3_fitsAll_4 9 rfl rfl)
theorem dX3_fitsAll_104 : decode cX3_fitsAll 104 = .ok (.iload 5, 2) := dk_21 5 (dk_at dksX3_fitsAll_4 11 rfl rfl)
theorem dX3_fitsAll_106 : decode cX3_fitsAll 106 = .ok (.i2l, 1) := dk_133 (dk_at dksX3_fitsAll_4 13 rfl rfl)
theorem dX3_fitsAll_107 : decode cX3_fitsAll 107 = .ok (.lconst 0, 1) := dk_9 (dk_at dksX3_fitsAll_4 14 rfl rfl)
theorem dX3_fitsAll_108 : decode cX3_fitsAll 108 = .ok (.ldc2_w 405, 3) := dk_20 1 149 (dk_at dksX3_fitsAll_4 15 rfl rfl)
theorem dX3_fitsAll_111 : decode cX3_fitsAll 111 = .ok (.invokestatic 270, 3) := dk_184 1 14 (dk_at dksX3_fitsAll_4 18 rfl rfl)
theorem dX3_fitsAll_114 : decode cX3_fitsAll 114 = .ok (.ifCond .eq 26, 3) := dk_153 0 26 (dk_at dksX3_fitsAll_4 21 rfl rfl)
theorem dX3_fitsAll_117 : decode cX3_fitsAll 117 = .ok (.aload_n 0, 1) := dk_42 (dk_at dksX3_fitsAll_5 0 rfl rfl)
theorem dX3_fitsAll_118 : decode cX3_fitsAll 118 = .ok (.getfield 87, 3) := dk_180 0 87 (dk_at dksX3_fitsAll_5 1 rfl rfl)
theorem dX3_fitsAll_121 : decode cX3_fitsAll 121 = .ok (.iload 4, 2) := dk_21 4 (dk_at dksX3_fitsAll_5 4 rfl rfl)
theorem dX3_fitsAll_123 : decode cX3_fitsAll 123 = .ok (.iaload, 1) := dk_46 (dk_at dksX3_fitsAll_5 6 rfl rfl)
theorem dX3_fitsAll_124 : decode cX3_fitsAll 124 = .ok (.iconst (-1), 1) := dk_2 (dk_at dksX3_fitsAll_5 7 rfl rfl)
theorem dX3_fitsAll_125 : decode cX3_fitsAll 125 = .ok (.if_icmp .eq 17, 3) := dk_159 0 17 (dk_at dksX3_fitsAll_5 8 rfl rfl)
theorem dX3_fitsAll_128 : decode cX3_fitsAll 128 = .ok (.aload_n 0, 1) := dk_42 (dk_at dksX3_fitsAll_5 11 rfl rfl)
theorem dX3_fitsAll_129 : decode cX3_fitsAll 129 = .ok (.getfield 87, 3) := dk_180 0 87 (dk_at dksX3_fitsAll_5 12 rfl rfl)
theorem dX3_fitsAll_132 : decode cX3_fitsAll 132 = .ok (.iload 4, 2) := dk_21 4 (dk_at dksX3_fitsAll_5 15 rfl rfl)
theorem dX3_fitsAll_134 : decode cX3_fitsAll 134 = .ok (.iaload, 1) := dk_46 (dk_at dksX3_fitsAll_5 17 rfl rfl)
theorem dX3_fitsAll_135 : decode cX3_fitsAll 135 = .ok (.iload 5, 2) := dk_21 5 (dk_at dksX3_fitsAll_5 18 rfl rfl)
theorem dX3_fitsAll_137 : decode cX3_fitsAll 137 = .ok (.if_icmp .eq 5, 3) := dk_159 0 5 (dk_at dksX3_fitsAll_5 20 rfl rfl)
theorem dX3_fitsAll_140 : decode cX3_fitsAll 140 = .ok (.iconst 0, 1) := dk_3 (dk_at dksX3_fitsAll_5 23 rfl rfl)
theorem dX3_fitsAll_141 : decode cX3_fitsAll 141 = .ok (.ireturn, 1) := dk_172 (dk_at dksX3_fitsAll_6 0 rfl rfl)
theorem dX3_fitsAll_142 : decode cX3_fitsAll 142 = .ok (.aload_n 0, 1) := dk_42 (dk_at dksX3_fitsAll_6 1 rfl rfl)
theorem dX3_fitsAll_143 : decode cX3_fitsAll 143 = .ok (.getfield 87, 3) := dk_180 0 87 (dk_at dksX3_fitsAll_6 2 rfl rfl)
theorem dX3_fitsAll_146 : decode cX3_fitsAll 146 = .ok (.iload 4, 2) := dk_21 4 (dk_at dksX3_fitsAll_6 5 rfl rfl)
theorem dX3_fitsAll_148 : decode cX3_fitsAll 148 = .ok (.iload 5, 2) := dk_21 5 (dk_at dksX3_fitsAll_6 7 rfl rfl)
theorem dX3_fitsAll_150 : decode cX3_fitsAll 150 = .ok (.iastore, 1) := dk_79 (dk_at dksX3_fitsAll_6 9 rfl rfl)
theorem dX3_fitsAll_151 : decode cX3_fitsAll 151 = .ok (.iinc 3 1, 3) := dk_132 3 1 (dk_at dksX3_fitsAll_6 10 rfl rfl)
theorem dX3_fitsAll_154 : decode cX3_fitsAll 154 = .ok (.goto (-96), 3) := dk_167 255 160 (dk_at dksX3_fitsAll_6 13 rfl rfl)
theorem dX3_fitsAll_157 : decode cX3_fitsAll 157 = .ok (.iconst 1, 1) := dk_4 (dk_at dksX3_fitsAll_6 16 rfl rfl)
theorem dX3_fitsAll_158 : decode cX3_fitsAll 158 = .ok (.ireturn, 1) := dk_172 (dk_at dksX3_fitsAll_6 17 rfl rfl)
abbrev cX3_pick : ByteArray := prog_14_method_85_code
def yX3_pick : MethodName := ⟨RX3, "pick", "(II)I"⟩
def dkwX3_pick_2 : List UInt8 := [172]
abbrev dktX3_pick_2 : List UInt8 := dkwX3_pick_2 ++ []
def dkwX3_pick_1 : List UInt8 := [160, 0, 5, 29, 172, 132, 2, 1, 132, 3, 1, 167, 255, 226, 27, 2, 160, 0, 7, 28, 167, 0, 4, 2]
abbrev dktX3_pick_1 : List UInt8 := dkwX3_pick_1 ++ dktX3_pick_2
def dkwX3_pick_0 : List UInt8 := [3, 61, 3, 62, 29, 16, 20, 163, 0, 30, 26, 29, 184, 0, 228, 154, 0, 6, 167, 0, 13, 28, 27]
abbrev dktX3_pick_0 : List UInt8 := dkwX3_pick_0 ++ dktX3_pick_1
theorem dksX3_pick_0 : cX3_pick.data.toList.drop 0 = dktX3_pick_0 := by decide +kernel
theorem dksX3_pick_1 : cX3_pick.data.toList.drop 23 = dktX3_pick_1 := dk_seg dksX3_pick_0 23 rfl rfl
theorem dksX3_pick_2 : cX3_pick.data.toList.drop 47 = dktX3_pick_2 := dk_seg dksX3_pick_1 24 rfl rfl
theorem dX3_pick_0 : decode cX3_pick 0 = .ok (.iconst 0, 1) := dk_3 (dk_at dksX3_pick_0 0 rfl rfl)
theorem dX3_pick_1 : decode cX3_pick 1 = .ok (.istore_n 2, 1) := dk_61 (dk_at dksX3_pick_0 1 rfl rfl)
theorem dX3_pick_2 : decode cX3_pick 2 = .ok (.iconst 0, 1) := dk_3 (dk_at dksX3_pick_0 2 rfl rfl)
theorem dX3_pick_3 : decode cX3_pick 3 = .ok (.istore_n 3, 1) := dk_62 (dk_at dksX3_pick_0 3 rfl rfl)
theorem dX3_pick_4 : decode cX3_pick 4 = .ok (.iload_n 3, 1) := dk_29 (dk_at dksX3_pick_0 4 rfl rfl)
theorem dX3_pick_5 : decode cX3_pick 5 = .ok (.bipush 20, 2) := dk_16 20 (dk_at dksX3_pick_0 5 rfl rfl)
theorem dX3_pick_7 : decode cX3_pick 7 = .ok (.if_icmp .gt 30, 3) := dk_163 0 30 (dk_at dksX3_pick_0 7 rfl rfl)
theorem dX3_pick_10 : decode cX3_pick 10 = .ok (.iload_n 0, 1) := dk_26 (dk_at dksX3_pick_0 10 rfl rfl)
theorem dX3_pick_11 : decode cX3_pick 11 = .ok (.iload_n 3, 1) := dk_29 (dk_at dksX3_pick_0 11 rfl rfl)
theorem dX3_pick_12 : decode cX3_pick 12 = .ok (.invokestatic 228, 3) := dk_184 0 228 (dk_at dksX3_pick_0 12 rfl rfl)
theorem dX3_pick_15 : decode cX3_pick 15 = .ok (.ifCond .ne 6, 3) := dk_154 0 6 (dk_at dksX3_pick_0 15 rfl rfl)
theorem dX3_pick_18 : decode cX3_pick 18 = .ok (.goto 13, 3) := dk_167 0 13 (dk_at dksX3_pick_0 18 rfl rfl)
theorem dX3_pick_21 : decode cX3_pick 21 = .ok (.iload_n 2, 1) := dk_28 (dk_at dksX3_pick_0 21 rfl rfl)
theorem dX3_pick_22 : decode cX3_pick 22 = .ok (.iload_n 1, 1) := dk_27 (dk_at dksX3_pick_0 22 rfl rfl)
theorem dX3_pick_23 : decode cX3_pick 23 = .ok (.if_icmp .ne 5, 3) := dk_160 0 5 (dk_at dksX3_pick_1 0 rfl rfl)
theorem dX3_pick_26 : decode cX3_pick 26 = .ok (.iload_n 3, 1) := dk_29 (dk_at dksX3_pick_1 3 rfl rfl)
theorem dX3_pick_27 : decode cX3_pick 27 = .ok (.ireturn, 1) := dk_172 (dk_at dksX3_pick_1 4 rfl rfl)
theorem dX3_pick_28 : decode cX3_pick 28 = .ok (.iinc 2 1, 3) := dk_132 2 1 (dk_at dksX3_pick_1 5 rfl rfl)
theorem dX3_pick_31 : decode cX3_pick 31 = .ok (.iinc 3 1, 3) := dk_132 3 1 (dk_at dksX3_pick_1 8 rfl rfl)
theorem dX3_pick_34 : decode cX3_pick 34 = .ok (.goto (-30), 3) := dk_167 255 226 (dk_at dksX3_pick_1 11 rfl rfl)
theorem dX3_pick_37 : decode cX3_pick 37 = .ok (.iload_n 1, 1) := dk_27 (dk_at dksX3_pick_1 14 rfl rfl)
theorem dX3_pick_38 : decode cX3_pick 38 = .ok (.iconst (-1), 1) := dk_2 (dk_at dksX3_pick_1 15 rfl rfl)
theorem dX3_pick_39 : decode cX3_pick 39 = .ok (.if_icmp .ne 7, 3) := dk_160 0 7 (dk_at dksX3_pick_1 16 rfl rfl)
theorem dX3_pick_42 : decode cX3_pick 42 = .ok (.iload_n 2, 1) := dk_28 (dk_at dksX3_pick_1 19 rfl rfl)
theorem dX3_pick_43 : decode cX3_pick 43 = .ok (.goto 4, 3) := dk_167 0 4 (dk_at dksX3_pick_1 20 rfl rfl)
theorem dX3_pick_46 : decode cX3_pick 46 = .ok (.iconst (-1), 1) := dk_2 (dk_at dksX3_pick_1 23 rfl rfl)
theorem dX3_pick_47 : decode cX3_pick 47 = .ok (.ireturn, 1) := dk_172 (dk_at dksX3_pick_2 0 rfl rfl)
abbrev cX3_truths : ByteArray := prog_14_method_87_code
def yX3_truths : MethodName := ⟨RX3, "truths", "(II)I"⟩
def dkwX3_truths_3 : List UInt8 := [62, 132, 4, 1, 167, 255, 208, 29, 28, 184, 1, 164, 172]
abbrev dktX3_truths_3 : List UInt8 := dkwX3_truths_3 ++ []
def dkwX3_truths_2 : List UInt8 := [180, 0, 87, 27, 46, 2, 160, 0, 9, 19, 1, 167, 167, 0, 11, 4, 42, 180, 0, 87, 27, 46, 120, 128]
abbrev dktX3_truths_2 : List UInt8 := dkwX3_truths_2 ++ dktX3_truths_3
def dkwX3_truths_1 : List UInt8 := [54, 4, 21, 4, 42, 182, 1, 158, 162, 0, 45, 42, 21, 4, 182, 1, 161, 153, 0, 30, 29, 42]
abbrev dktX3_truths_1 : List UInt8 := dkwX3_truths_1 ++ dktX3_truths_2
def dkwX3_truths_0 : List UInt8 := [42, 3, 181, 0, 99, 42, 27, 182, 1, 96, 153, 0, 8, 28, 2, 162, 0, 5, 2, 172, 3, 62, 3]
abbrev dktX3_truths_0 : List UInt8 := dkwX3_truths_0 ++ dktX3_truths_1
theorem dksX3_truths_0 : cX3_truths.data.toList.drop 0 = dktX3_truths_0 := by decide +kernel
theorem dksX3_truths_1 : cX3_truths.data.toList.drop 23 = dktX3_truths_1 := dk_seg dksX3_truths_0 23 rfl rfl
theorem dksX3_truths_2 : cX3_truths.data.toList.drop 45 = dktX3_truths_2 := dk_seg dksX3_truths_1 22 rfl rfl
theorem dksX3_truths_3 : cX3_truths.data.toList.drop 69 = dktX3_truths_3 := dk_seg dksX3_truths_2 24 rfl rfl
theorem dX3_truths_0 : decode cX3_truths 0 = .ok (.aload_n 0, 1) := dk_42 (dk_at dksX3_truths_0 0 rfl rfl)
theorem dX3_truths_1 : decode cX3_truths 1 = .ok (.iconst 0, 1) := dk_3 (dk_at dksX3_truths_0 1 rfl rfl)
theorem dX3_truths_2 : decode cX3_truths 2 = .ok (.putfield 99, 3) := dk_181 0 99 (dk_at dksX3_truths_0 2 rfl rfl)
theorem dX3_truths_5 : decode cX3_truths 5 = .ok (.aload_n 0, 1) := dk_42 (dk_at dksX3_truths_0 5 rfl rfl)
theorem dX3_truths_6 : decode cX3_truths 6 = .ok (.iload_n 1, 1) := dk_27 (dk_at dksX3_truths_0 6 rfl rfl)
theorem dX3_truths_7 : decode cX3_truths 7 = .ok (.invokevirtual 352, 3) := dk_182 1 96 (dk_at dksX3_truths_0 7 rfl rfl)
theorem dX3_truths_10 : decode cX3_truths 10 = .ok (.ifCond .eq 8, 3) := dk_153 0 8 (dk_at dksX3_truths_0 10 rfl rfl)
theorem dX3_truths_13 : decode cX3_truths 13 = .ok (.iload_n 2, 1) := dk_28 (dk_at dksX3_truths_0 13 rfl rfl)
theorem dX3_truths_14 : decode cX3_truths 14 = .ok (.iconst (-1), 1) := dk_2 (dk_at dksX3_truths_0 14 rfl rfl)
theorem dX3_truths_15 : decode cX3_truths 15 = .ok (.if_icmp .ge 5, 3) := dk_162 0 5 (dk_at dksX3_truths_0 15 rfl rfl)
theorem dX3_truths_18 : decode cX3_truths 18 = .ok (.iconst (-1), 1) := dk_2 (dk_at dksX3_truths_0 18 rfl rfl)
theorem dX3_truths_19 : decode cX3_truths 19 = .ok (.ireturn, 1) := dk_172 (dk_at dksX3_truths_0 19 rfl rfl)
theorem dX3_truths_20 : decode cX3_truths 20 = .ok (.iconst 0, 1) := dk_3 (dk_at dksX3_truths_0 20 rfl rfl)
theorem dX3_truths_21 : decode cX3_truths 21 = .ok (.istore_n 3, 1) := dk_62 (dk_at dksX3_truths_0 21 rfl rfl)
theorem dX3_truths_22 : decode cX3_truths 22 = .ok (.iconst 0, 1) := dk_3 (dk_at dksX3_truths_0 22 rfl rfl)
theorem dX3_truths_23 : decode cX3_truths 23 = .ok (.istore 4, 2) := dk_54 4 (dk_at dksX3_truths_1 0 rfl rfl)
theorem dX3_truths_25 : decode cX3_truths 25 = .ok (.iload 4, 2) := dk_21 4 (dk_at dksX3_truths_1 2 rfl rfl)
theorem dX3_truths_27 : decode cX3_truths 27 = .ok (.aload_n 0, 1) := dk_42 (dk_at dksX3_truths_1 4 rfl rfl)
theorem dX3_truths_28 : decode cX3_truths 28 = .ok (.invokevirtual 414, 3) := dk_182 1 158 (dk_at dksX3_truths_1 5 rfl rfl)
theorem dX3_truths_31 : decode cX3_truths 31 = .ok (.if_icmp .ge 45, 3) := dk_162 0 45 (dk_at dksX3_truths_1 8 rfl rfl)
theorem dX3_truths_34 : decode cX3_truths 34 = .ok (.aload_n 0, 1) := dk_42 (dk_at dksX3_truths_1 11 rfl rfl)
theorem dX3_truths_35 : decode cX3_truths 35 = .ok (.iload 4, 2) := dk_21 4 (dk_at dksX3_truths_1 12 rfl rfl)
theorem dX3_truths_37 : decode cX3_truths 37 = .ok (.invokevirtual 417, 3) := dk_182 1 161 (dk_at dksX3_truths_1 14 rfl rfl)
theorem dX3_truths_40 : decode cX3_truths 40 = .ok (.ifCond .eq 30, 3) := dk_153 0 30 (dk_at dksX3_truths_1 17 rfl rfl)
theorem dX3_truths_43 : decode cX3_truths 43 = .ok (.iload_n 3, 1) := dk_29 (dk_at dksX3_truths_1 20 rfl rfl)
theorem dX3_truths_44 : decode cX3_truths 44 = .ok (.aload_n 0, 1) := dk_42 (dk_at dksX3_truths_1 21 rfl rfl)
theorem dX3_truths_45 : decode cX3_truths 45 = .ok (.getfield 87, 3) := dk_180 0 87 (dk_at dksX3_truths_2 0 rfl rfl)
theorem dX3_truths_48 : decode cX3_truths 48 = .ok (.iload_n 1, 1) := dk_27 (dk_at dksX3_truths_2 3 rfl rfl)
theorem dX3_truths_49 : decode cX3_truths 49 = .ok (.iaload, 1) := dk_46 (dk_at dksX3_truths_2 4 rfl rfl)
theorem dX3_truths_50 : decode cX3_truths 50 = .ok (.iconst (-1), 1) := dk_2 (dk_at dksX3_truths_2 5 rfl rfl)
theorem dX3_truths_51 : decode cX3_truths 51 = .ok (.if_icmp .ne 9, 3) := dk_160 0 9 (dk_at dksX3_truths_2 6 rfl rfl)
theorem dX3_truths_54 : decode cX3_truths 54 = .ok (.ldc_w 423, 3) := dk_19 1 167 (dk_at dksX3_truths_2 9 rfl rfl)
theorem dX3_truths_57 : decode cX3_truths 57 = .ok (.goto 11, 3) := dk_167 0 11 (dk_at dksX3_truths_2 12 rfl rfl)
theorem dX3_truths_60 : decode cX3_truths 60 = .ok (.iconst 1, 1) := dk_4 (dk_at dksX3_truths_2 15 rfl rfl)
theorem dX3_truths_61 : decode cX3_truths 61 = .ok (.aload_n 0, 1) := dk_42 (dk_at dksX3_truths_2 16 rfl rfl)
theorem dX3_truths_62 : decode cX3_truths 62 = .ok (.getfield 87, 3) := dk_180 0 87 (dk_at dksX3_truths_2 17 rfl rfl)
theorem dX3_truths_65 : decode cX3_truths 65 = .ok (.iload_n 1, 1) := dk_27 (dk_at dksX3_truths_2 20 rfl rfl)
theorem dX3_truths_66 : decode cX3_truths 66 = .ok (.iaload, 1) := dk_46 (dk_at dksX3_truths_2 21 rfl rfl)
theorem dX3_truths_67 : decode cX3_truths 67 = .ok (.ishl, 1) := dk_120 (dk_at dksX3_truths_2 22 rfl rfl)
theorem dX3_truths_68 : decode cX3_truths 68 = .ok (.ior, 1) := dk_128 (dk_at dksX3_truths_2 23 rfl rfl)
theorem dX3_truths_69 : decode cX3_truths 69 = .ok (.istore_n 3, 1) := dk_62 (dk_at dksX3_truths_3 0 rfl rfl)
theorem dX3_truths_70 : decode cX3_truths 70 = .ok (.iinc 4 1, 3) := dk_132 4 1 (dk_at dksX3_truths_3 1 rfl rfl)
theorem dX3_truths_73 : decode cX3_truths 73 = .ok (.goto (-48), 3) := dk_167 255 208 (dk_at dksX3_truths_3 4 rfl rfl)
theorem dX3_truths_76 : decode cX3_truths 76 = .ok (.iload_n 3, 1) := dk_29 (dk_at dksX3_truths_3 7 rfl rfl)
theorem dX3_truths_77 : decode cX3_truths 77 = .ok (.iload_n 2, 1) := dk_28 (dk_at dksX3_truths_3 8 rfl rfl)
theorem dX3_truths_78 : decode cX3_truths 78 = .ok (.invokestatic 420, 3) := dk_184 1 164 (dk_at dksX3_truths_3 9 rfl rfl)
theorem dX3_truths_81 : decode cX3_truths 81 = .ok (.ireturn, 1) := dk_172 (dk_at dksX3_truths_3 12 rfl rfl)
abbrev cX3_read : ByteArray := prog_14_method_88_code
def yX3_read : MethodName := ⟨RX3, "read", "(I)I"⟩
def dkwX3_read_10 : List UInt8 := [132, 5, 1, 167, 255, 183, 29, 172]
abbrev dktX3_read_10 : List UInt8 := dkwX3_read_10 ++ []
def dkwX3_read_9 : List UInt8 := [21, 5, 158, 0, 13, 21, 6, 21, 4, 161, 0, 6, 167, 0, 10, 21, 5, 62, 21, 6, 54, 4]
abbrev dktX3_read_9 : List UInt8 := dkwX3_read_9 ++ dktX3_read_10
def dkwX3_read_8 : List UInt8 := [180, 0, 93, 16, 30, 21, 5, 104, 21, 7, 96, 46, 184, 1, 70, 54, 6, 132, 7, 1, 167, 255, 226]
abbrev dktX3_read_8 : List UInt8 := dkwX3_read_8 ++ dktX3_read_9
def dkwX3_read_7 : List UInt8 := [180, 1, 35, 162, 0, 70, 3, 54, 6, 3, 54, 7, 21, 7, 16, 30, 162, 0, 29, 21, 6, 42]
abbrev dktX3_read_7 : List UInt8 := dkwX3_read_7 ++ dktX3_read_8
def dkwX3_read_6 : List UInt8 := [132, 3, 1, 167, 255, 149, 28, 154, 0, 5, 2, 172, 3, 62, 3, 54, 4, 3, 54, 5, 21, 5, 42]
abbrev dktX3_read_6 : List UInt8 := dkwX3_read_6 ++ dktX3_read_7
def dkwX3_read_5 : List UInt8 := [180, 0, 90, 21, 5, 46, 96, 92, 46, 4, 96, 79, 132, 5, 1, 167, 255, 219, 132, 4, 1, 167, 255, 179]
abbrev dktX3_read_5 : List UInt8 := dkwX3_read_5 ++ dktX3_read_6
def dkwX3_read_4 : List UInt8 := [54, 5, 21, 5, 42, 180, 1, 35, 162, 0, 34, 42, 180, 0, 93, 16, 30, 21, 5, 104, 21, 4, 96, 42]
abbrev dktX3_read_4 : List UInt8 := dkwX3_read_4 ++ dktX3_read_5
def dkwX3_read_3 : List UInt8 := [180, 0, 87, 27, 46, 2, 159, 0, 17, 42, 180, 0, 87, 27, 46, 21, 4, 159, 0, 6, 167, 0, 46, 3]
abbrev dktX3_read_3 : List UInt8 := dkwX3_read_3 ++ dktX3_read_4
def dkwX3_read_2 : List UInt8 := [42, 29, 182, 1, 161, 154, 0, 6, 167, 0, 88, 4, 61, 3, 54, 4, 21, 4, 16, 20, 163, 0, 76, 42]
abbrev dktX3_read_2 : List UInt8 := dkwX3_read_2 ++ dktX3_read_3
def dkwX3_read_1 : List UInt8 := [180, 0, 93, 28, 3, 79, 132, 2, 1, 167, 255, 240, 3, 61, 3, 62, 29, 42, 182, 1, 158, 162, 0, 105]
abbrev dktX3_read_1 : List UInt8 := dkwX3_read_1 ++ dktX3_read_2
def dkwX3_read_0 : List UInt8 := [42, 3, 181, 0, 99, 42, 27, 182, 1, 96, 154, 0, 5, 2, 172, 3, 61, 28, 16, 120, 162, 0, 16, 42]
abbrev dktX3_read_0 : List UInt8 := dkwX3_read_0 ++ dktX3_read_1
theorem dksX3_read_0 : cX3_read.data.toList.drop 0 = dktX3_read_0 := by decide +kernel
theorem dksX3_read_1 : cX3_read.data.toList.drop 24 = dktX3_read_1 := dk_seg dksX3_read_0 24 rfl rfl
theorem dksX3_read_2 : cX3_read.data.toList.drop 48 = dktX3_read_2 := dk_seg dksX3_read_1 24 rfl rfl
theorem dksX3_read_3 : cX3_read.data.toList.drop 72 = dktX3_read_3 := dk_seg dksX3_read_2 24 rfl rfl
theorem dksX3_read_4 : cX3_read.data.toList.drop 96 = dktX3_read_4 := dk_seg dksX3_read_3 24 rfl rfl
theorem dksX3_read_5 : cX3_read.data.toList.drop 120 = dktX3_read_5 := dk_seg dksX3_read_4 24 rfl rfl
theorem dksX3_read_6 : cX3_read.data.toList.drop 144 = dktX3_read_6 := dk_seg dksX3_read_5 24 rfl rfl
theorem dksX3_read_7 : cX3_read.data.toList.drop 167 = dktX3_read_7 := dk_seg dksX3_read_6 23 rfl rfl
theorem dksX3_read_8 : cX3_read.data.toList.drop 189 = dktX3_read_8 := dk_seg dksX3_read_7 22 rfl rfl
theorem dksX3_read_9 : cX3_read.data.toList.drop 212 = dktX3_read_9 := dk_seg dksX3_read_8 23 rfl rfl
theorem dksX3_read_10 : cX3_read.data.toList.drop 234 = dktX3_read_10 := dk_seg dksX3_read_9 22 rfl rfl
theorem dX3_read_0 : decode cX3_read 0 = .ok (.aload_n 0, 1) := dk_42 (dk_at dksX3_read_0 0 rfl rfl)
theorem dX3_read_1 : decode cX3_read 1 = .ok (.iconst 0, 1) := dk_3 (dk_at dksX3_read_0 1 rfl rfl)
theorem dX3_read_2 : decode cX3_read 2 = .ok (.putfield 99, 3) := dk_181 0 99 (dk_at dksX3_read_0 2 rfl rfl)
theorem dX3_read_5 : decode cX3_read 5 = .ok (.aload_n 0, 1) := dk_42 (dk_at dksX3_read_0 5 rfl rfl)
theorem dX3_read_6 : decode cX3_read 6 = .ok (.iload_n 1, 1) := dk_27 (dk_at dksX3_read_0 6 rfl rfl)
theorem dX3_read_7 : decode cX3_read 7 = .ok (.invokevirtual 352, 3) := dk_182 1 96 (dk_at dksX3_read_0 7 rfl rfl)
theorem dX3_read_10 : decode cX3_read 10 = .ok (.ifCond .ne 5, 3) := dk_154 0 5 (dk_at dksX3_read_0 10 rfl rfl)
theorem dX3_read_13 : decode cX3_read 13 = .ok (.iconst (-1), 1) := dk_2 (dk_at dksX3_read_0 13 rfl rfl)
theorem dX3_read_14 : decode cX3_read 14 = .ok (.ireturn, 1) := dk_172 (dk_at dksX3_read_0 14 rfl rfl)
theorem dX3_read_15 : decode cX3_read 15 = .ok (.iconst 0, 1) := dk_3 (dk_at dksX3_read_0 15 rfl rfl)
theorem dX3_read_16 : decode cX3_read 16 = .ok (.istore_n 2, 1) := dk_61 (dk_at dksX3_read_0 16 rfl rfl)
theorem dX3_read_17 : decode cX3_read 17 = .ok (.iload_n 2, 1) := dk_28 (dk_at dksX3_read_0 17 rfl rfl)
theorem dX3_read_18 : decode cX3_read 18 = .ok (.bipush 120, 2) := dk_16 120 (dk_at dksX3_read_0 18 rfl rfl)
theorem dX3_read_20 : decode cX3_read 20 = .ok (.if_icmp .ge 16, 3) := dk_162 0 16 (dk_at dksX3_read_0 20 rfl rfl)
theorem dX3_read_23 : decode cX3_read 23 = .ok (.aload_n 0, 1) := dk_42 (dk_at dksX3_read_0 23 rfl rfl)
theorem dX3_read_24 : decode cX3_read 24 = .ok (.getfield 93, 3) := dk_180 0 93 (dk_at dksX3_read_1 0 rfl rfl)
theorem dX3_read_27 : decode cX3_read 27 = .ok (.iload_n 2, 1) := dk_28 (dk_at dksX3_read_1 3 rfl rfl)
theorem dX3_read_28 : decode cX3_read 28 = .ok (.iconst 0, 1) := dk_3 (dk_at dksX3_read_1 4 rfl rfl)
theorem dX3_read_29 : decode cX3_read 29 = .ok (.iastore, 1) := dk_79 (dk_at dksX3_read_1 5 rfl rfl)
theorem dX3_read_30 : decode cX3_read 30 = .ok (.iinc 2 1, 3) := dk_132 2 1 (dk_at dksX3_read_1 6 rfl rfl)
theorem dX3_read_33 : decode cX3_read 33 = .ok (.goto (-16), 3) := dk_167 255 240 (dk_at dksX3_read_1 9 rfl rfl)
theorem dX3_read_36 : decode cX3_read 36 = .ok (.iconst 0, 1) := dk_3 (dk_at dksX3_read_1 12 rfl rfl)
theorem dX3_read_37 : decode cX3_read 37 = .ok (.istore_n 2, 1) := dk_61 (dk_at dksX3_read_1 13 rfl rfl)
theorem dX3_read_38 : decode cX3_read 38 = .ok (.iconst 0, 1) := dk_3 (dk_at dksX3_read_1 14 rfl rfl)
theorem dX3_read_39 : decode cX3_read 39 = .ok (.istore_n 3, 1) := dk_62 (dk_at dksX3_read_1 15 rfl rfl)
theorem dX3_read_40 : decode cX3_read 40 = .ok (.iload_n 3, 1) := dk_29 (dk_at dksX3_read_1 16 rfl rfl)
theorem dX3_read_41 : decode cX3_read 41 = .ok (.aload_n 0, 1) := dk_42 (dk_at dksX3_read_1 17 rfl rfl)
theorem dX3_read_42 : decode cX3_read 42 = .ok (.invokevirtual 414, 3) := dk_182 1 158 (dk_at dksX3_read_1 18 rfl rfl)
theorem dX3_read_45 : decode cX3_read 45 = .ok (.if_icmp .ge 105, 3) := dk_162 0 105 (dk_at dksX3_read_1 21 rfl rfl)
theorem dX3_read_48 : decode cX3_read 48 = .ok (.aload_n 0, 1) := dk_42 (dk_at dksX3_read_2 0 rfl rfl)
theorem dX3_read_49 : decode cX3_read 49 = .ok (.iload_n 3, 1) := dk_29 (dk_at dksX3_read_2 1 rfl rfl)
theorem dX3_read_50 : decode cX3_read 50 = .ok (.invokevirtual 417, 3) := dk_182 1 161 (dk_at dksX3_read_2 2 rfl rfl)
theorem dX3_read_53 : decode cX3_read 53 = .ok (.ifCond .ne 6, 3) := dk_154 0 6 (dk_at dksX3_read_2 5 rfl rfl)
theorem dX3_read_56 : decode cX3_read 56 = .ok (.goto 88, 3) := dk_167 0 88 (dk_at dksX3_read_2 8 rfl rfl)
theorem dX3_read_59 : decode cX3_read 59 = .ok (.iconst 1, 1) := dk_4 (dk_at dksX3_read_2 11 rfl rfl)
theorem dX3_read_60 : decode cX3_read 60 = .ok (.istore_n 2, 1) := dk_61 (dk_at dksX3_read_2 12 rfl rfl)
theorem dX3_read_61 : decode cX3_read 61 = .ok (.iconst 0, 1) := dk_3 (dk_at dksX3_read_2 13 rfl rfl)
theorem dX3_read_62 : decode cX3_read 62 = .ok (.istore 4, 2) := dk_54 4 (dk_at dksX3_read_2 14 rfl rfl)
theorem dX3_read_64 : decode cX3_read 64 = .ok (.iload 4, 2) := dk_21 4 (dk_at dksX3_read_2 16 rfl rfl)
theorem dX3_read_66 : decode cX3_read 66 = .ok (.bipush 20, 2) := dk_16 20 (dk_at dksX3_read_2 18 rfl rfl)
theorem dX3_read_68 : decode cX3_read 68 = .ok (.if_icmp .gt 76, 3) := dk_163 0 76 (dk_at dksX3_read_2 20 rfl rfl)
theorem dX3_read_71 : decode cX3_read 71 = .ok (.aload_n 0, 1) := dk_42 (dk_at dksX3_read_2 23 rfl rfl)
theorem dX3_read_72 : decode cX3_read 72 = .ok (.getfield 87, 3) := dk_180 0 87 (dk_at dksX3_read_3 0 rfl rfl)
theorem dX3_read_75 : decode cX3_read 75 = .ok (.iload_n 1, 1) := dk_27 (dk_at dksX3_read_3 3 rfl rfl)
theorem dX3_read_76 : decode cX3_read 76 = .ok (.iaload, 1) := dk_46 (dk_at dksX3_read_3 4 rfl rfl)
theorem dX3_read_77 : decode cX3_read 77 = .ok (.iconst (-1), 1) := dk_2 (dk_at dksX3_read_3 5 rfl rfl)
theorem dX3_read_78 : decode cX3_read 78 = .ok (.if_icmp .eq 17, 3) := dk_159 0 17 (dk_at dksX3_read_3 6 rfl rfl)
theorem dX3_read_81 : decode cX3_read 81 = .ok (.aload_n 0, 1) := dk_42 (dk_at dksX3_read_3 9 rfl rfl)
theorem dX3_read_82 : decode cX3_read 82 = .ok (.getfield 87, 3) := dk_180 0 87 (dk_at dksX3_read_3 10 rfl rfl)
theorem dX3_read_85 : decode cX3_read 85 = .ok (.iload_n 1, 1) := dk_27 (dk_at dksX3_read_3 13 rfl rfl)
theorem dX3_read_86 : decode cX3_read 86 = .ok (.iaload, 1) := dk_46 (dk_at dksX3_read_3 14 rfl rfl)
theorem dX3_read_87 : decode cX3_read 87 = .ok (.iload 4, 2) := dk_21 4 (dk_at dksX3_read_3 15 rfl rfl)
theorem dX3_read_89 : decode cX3_read 89 = .ok (.if_icmp .eq 6, 3) := dk_159 0 6 (dk_at dksX3_read_3 17 rfl rfl)
theorem dX3_read_92 : decode cX3_read 92 = .ok (.goto 46, 3) := dk_167 0 46 (dk_at dksX3_read_3 20 rfl rfl)
theorem dX3_read_95 : decode cX3_read 95 = .ok (.iconst 0, 1) := dk_3 (dk_at dksX3_read_3 23 rfl rfl)
theorem dX3_read_96 : decode cX3_read 96 = .ok (.istore 5, 2) := dk_54 5 (dk_at dksX3_read_4 0 rfl rfl)
theorem dX3_read_98 : decode cX3_read 98 = .ok (.iload 5, 2) := dk_21 5 (dk_at dksX3_read_4 2 rfl rfl)
theorem dX3_read_100 : decode cX3_read 100 = .ok (.aload_n 0, 1) := dk_42 (dk_at dksX3_read_4 4 rfl rfl)
theorem dX3_read_101 : decode cX3_read 101 = .ok (.getfield 291, 3) := dk_180 1 35 (dk_at dksX3_read_4 5 rfl rfl)
theorem dX3_read_104 : decode cX3_read 104 = .ok (.if_icmp .ge 34, 3) := dk_162 0 34 (dk_at dksX3_read_4 8 rfl rfl)
theorem dX3_read_107 : decode cX3_read 107 = .ok (.aload_n 0, 1) := dk_42 (dk_at dksX3_read_4 11 rfl rfl)
theorem dX3_read_108 : decode cX3_read 108 = .ok (.getfield 93, 3) := dk_180 0 93 (dk_at dksX3_read_4 12 rfl rfl)
theorem dX3_read_111 : decode cX3_read 111 = .ok (.bipush 30, 2) := dk_16 30 (dk_at dksX3_read_4 15 rfl rfl)
theorem dX3_read_113 : decode cX3_read 113 = .ok (.iload 5, 2) := dk_21 5 (dk_at dksX3_read_4 17 rfl rfl)
theorem dX3_read_115 : decode cX3_read 115 = .ok (.imul, 1) := dk_104 (dk_at dksX3_read_4 19 rfl rfl)
theorem dX3_read_116 : decode cX3_read 116 = .ok (.iload 4, 2) := dk_21 4 (dk_at dksX3_read_4 20 rfl rfl)
theorem dX3_read_118 : decode cX3_read 118 = .ok (.iadd, 1) := dk_96 (dk_at dksX3_read_4 22 rfl rfl)
theorem dX3_read_119 : decode cX3_read 119 = .ok (.aload_n 0, 1) := dk_42 (dk_at dksX3_read_4 23 rfl rfl)
theorem dX3_read_120 : decode cX3_read 120 = .ok (.getfield 90, 3) := dk_180 0 90 (dk_at dksX3_read_5 0 rfl rfl)
theorem dX3_read_123 : decode cX3_read 123 = .ok (.iload 5, 2) := dk_21 5 (dk_at dksX3_read_5 3 rfl rfl)
theorem dX3_read_125 : decode cX3_read 125 = .ok (.iaload, 1) := dk_46 (dk_at dksX3_read_5 5 rfl rfl)
theorem dX3_read_126 : decode cX3_read 126 = .ok (.iadd, 1) := dk_96 (dk_at dksX3_read_5 6 rfl rfl)
theorem dX3_read_127 : decode cX3_read 127 = .ok (.dup2, 1) := dk_92 (dk_at dksX3_read_5 7 rfl rfl)
theorem dX3_read_128 : decode cX3_read 128 = .ok (.iaload, 1) := dk_46 (dk_at dksX3_read_5 8 rfl rfl)
theorem dX3_read_129 : decode cX3_read 129 = .ok (.iconst 1, 1) := dk_4 (dk_at dksX3_read_5 9 rfl rfl)
theorem dX3_read_130 : decode cX3_read 130 = .ok (.iadd, 1) := dk_96 (dk_at dksX3_read_5 10 rfl rfl)
theorem dX3_read_131 : decode cX3_read 131 = .ok (.iastore, 1) := dk_79 (dk_at dksX3_read_5 11 rfl rfl)
theorem dX3_read_132 : decode cX3_read 132 = .ok (.iinc 5 1, 3) := dk_132 5 1 (dk_at dksX3_read_5 12 rfl rfl)
theorem dX3_read_135 : decode cX3_read 135 = .ok (.goto (-37), 3) := dk_167 255 219 (dk_at dksX3_read_5 15 rfl rfl)
theorem dX3_read_138 : decode cX3_read 138 = .ok (.iinc 4 1, 3) := dk_132 4 1 (dk_at dksX3_read_5 18 rfl rfl)
theorem dX3_read_141 : decode cX3_read 141 = .ok (.goto (-77), 3) := dk_167 255 179 (dk_at dksX3_read_5 21 rfl rfl)
theorem dX3_read_144 : decode cX3_read 144 = .ok (.iinc 3 1, 3) := dk_132 3 1 (dk_at dksX3_read_6 0 rfl rfl)
theorem dX3_read_147 : decode cX3_read 147 = .ok (.goto (-107), 3) := dk_167 255 149 (dk_at dksX3_read_6 3 rfl rfl)
theorem dX3_read_150 : decode cX3_read 150 = .ok (.iload_n 2, 1) := dk_28 (dk_at dksX3_read_6 6 rfl rfl)
theorem dX3_read_151 : decode cX3_read 151 = .ok (.ifCond .ne 5, 3) := dk_154 0 5 (dk_at dksX3_read_6 7 rfl rfl)
theorem dX3_read_154 : decode cX3_read 154 = .ok (.iconst (-1), 1) := dk_2 (dk_at dksX3_read_6 10 rfl rfl)
theorem dX3_read_155 : decode cX3_read 155 = .ok (.ireturn, 1) := dk_172 (dk_at dksX3_read_6 11 rfl rfl)
theorem dX3_read_156 : decode cX3_read 156 = .ok (.iconst 0, 1) := dk_3 (dk_at dksX3_read_6 12 rfl rfl)
theorem dX3_read_157 : decode cX3_read 157 = .ok (.istore_n 3, 1) := dk_62 (dk_at dksX3_read_6 13 rfl rfl)
theorem dX3_read_158 : decode cX3_read 158 = .ok (.iconst 0, 1) := dk_3 (dk_at dksX3_read_6 14 rfl rfl)
theorem dX3_read_159 : decode cX3_read 159 = .ok (.istore 4, 2) := dk_54 4 (dk_at dksX3_read_6 15 rfl rfl)
theorem dX3_read_161 : decode cX3_read 161 = .ok (.iconst 0, 1) := dk_3 (dk_at dksX3_read_6 17 rfl rfl)
theorem dX3_read_162 : decode cX3_read 162 = .ok (.istore 5, 2) := dk_54 5 (dk_at dksX3_read_6 18 rfl rfl)
theorem dX3_read_164 : decode cX3_read 164 = .ok (.iload 5, 2) := dk_21 5 (dk_at dksX3_read_6 20 rfl rfl)
theorem dX3_read_166 : decode cX3_read 166 = .ok (.aload_n 0, 1) := dk_42 (dk_at dksX3_read_6 22 rfl rfl)
theorem dX3_read_167 : decode cX3_read 167 = .ok (.getfield 291, 3) := dk_180 1 35 (dk_at dksX3_read_7 0 rfl rfl)
theorem dX3_read_170 : decode cX3_read 170 = .ok (.if_icmp .ge 70, 3) := dk_162 0 70 (dk_at dksX3_read_7 3 rfl rfl)
theorem dX3_read_173 : decode cX3_read 173 = .ok (.iconst 0, 1) := dk_3 (dk_at dksX3_read_7 6 rfl rfl)
theorem dX3_read_174 : decode cX3_read 174 = .ok (.istore 6, 2) := dk_54 6 (dk_at dksX3_read_7 7 rfl rfl)
theorem dX3_read_176 : decode cX3_read 176 = .ok (.iconst 0, 1) := dk_3 (dk_at dksX3_read_7 9 rfl rfl)
theorem dX3_read_177 : decode cX3_read 177 = .ok (.istore 7, 2) := dk_54 7 (dk_at dksX3_read_7 10 rfl rfl)
theorem dX3_read_179 : decode cX3_read 179 = .ok (.iload 7, 2) := dk_21 7 (dk_at dksX3_read_7 12 rfl rfl)
theorem dX3_read_181 : decode cX3_read 181 = .ok (.bipush 30, 2) := dk_16 30 (dk_at dksX3_read_7 14 rfl rfl)
theorem dX3_read_183 : decode cX3_read 183 = .ok (.if_icmp .ge 29, 3) := dk_162 0 29 (dk_at dksX3_read_7 16 rfl rfl)
theorem dX3_read_186 : decode cX3_read 186 = .ok (.iload 6, 2) := dk_21 6 (dk_at dksX3_read_7 19 rfl rfl)
theorem dX3_read_188 : decode cX3_read 188 = .ok (.aload_n 0, 1) := dk_42 (dk_at dksX3_read_7 21 rfl rfl)
theorem dX3_read_189 : decode cX3_read 189 = .ok (.getfield 93, 3) := dk_180 0 93 (dk_at dksX3_read_8 0 rfl rfl)
theorem dX3_read_192 : decode cX3_read 192 = .ok (.bipush 30, 2) := dk_16 30 (dk_at dksX3_read_8 3 rfl rfl)
theorem dX3_read_194 : decode cX3_read 194 = .ok (.iload 5, 2) := dk_21 5 (dk_at dksX3_read_8 5 rfl rfl)
theorem dX3_read_196 : decode cX3_read 196 = .ok (.imul, 1) := dk_104 (dk_at dksX3_read_8 7 rfl rfl)
theorem dX3_read_197 : decode cX3_read 197 = .ok (.iload 7, 2) := dk_21 7 (dk_at dksX3_read_8 8 rfl rfl)
theorem dX3_read_199 : decode cX3_read 199 = .ok (.iadd, 1) := dk_96 (dk_at dksX3_read_8 10 rfl rfl)
theorem dX3_read_200 : decode cX3_read 200 = .ok (.iaload, 1) := dk_46 (dk_at dksX3_read_8 11 rfl rfl)
theorem dX3_read_201 : decode cX3_read 201 = .ok (.invokestatic 326, 3) := dk_184 1 70 (dk_at dksX3_read_8 12 rfl rfl)
theorem dX3_read_204 : decode cX3_read 204 = .ok (.istore 6, 2) := dk_54 6 (dk_at dksX3_read_8 15 rfl rfl)
theorem dX3_read_206 : decode cX3_read 206 = .ok (.iinc 7 1, 3) := dk_132 7 1 (dk_at dksX3_read_8 17 rfl rfl)
theorem dX3_read_209 : decode cX3_read 209 = .ok (.goto (-30), 3) := dk_167 255 226 (dk_at dksX3_read_8 20 rfl rfl)
theorem dX3_read_212 : decode cX3_read 212 = .ok (.iload 5, 2) := dk_21 5 (dk_at dksX3_read_9 0 rfl rfl)
theorem dX3_read_214 : decode cX3_read 214 = .ok (.ifCond .le 13, 3) := dk_158 0 13 (dk_at dksX3_read_9 2 rfl rfl)
theorem dX3_read_217 : decode cX3_read 217 = .ok (.iload 6, 2) := dk_21 6 (dk_at dksX3_read_9 5 rfl rfl)
theorem dX3_read_219 : decode cX3_read 219 = .ok (.iload 4, 2) := dk_21 4 (dk_at dksX3_read_9 7 rfl rfl)
theorem dX3_read_221 : decode cX3_read 221 = .ok (.if_icmp .lt 6, 3) := dk_161 0 6 (dk_at dksX3_read_9 9 rfl rfl)
theorem dX3_read_224 : decode cX3_read 224 = .ok (.goto 10, 3) := dk_167 0 10 (dk_at dksX3_read_9 12 rfl rfl)
theorem dX3_read_227 : decode cX3_read 227 = .ok (.iload 5, 2) := dk_21 5 (dk_at dksX3_read_9 15 rfl rfl)
theorem dX3_read_229 : decode cX3_read 229 = .ok (.istore_n 3, 1) := dk_62 (dk_at dksX3_read_9 17 rfl rfl)
theorem dX3_read_230 : decode cX3_read 230 = .ok (.iload 6, 2) := dk_21 6 (dk_at dksX3_read_9 18 rfl rfl)
theorem dX3_read_232 : decode cX3_read 232 = .ok (.istore 4, 2) := dk_54 4 (dk_at dksX3_read_9 20 rfl rfl)
theorem dX3_read_234 : decode cX3_read 234 = .ok (.iinc 5 1, 3) := dk_132 5 1 (dk_at dksX3_read_10 0 rfl rfl)
theorem dX3_read_237 : decode cX3_read 237 = .ok (.goto (-73), 3) := dk_167 255 183 (dk_at dksX3_read_10 3 rfl rfl)
theorem dX3_read_240 : decode cX3_read 240 = .ok (.iload_n 3, 1) := dk_29 (dk_at dksX3_read_10 6 rfl rfl)
theorem dX3_read_241 : decode cX3_read 241 = .ok (.ireturn, 1) := dk_172 (dk_at dksX3_read_10 7 rfl rfl)
abbrev cX3_game : ByteArray := prog_14_method_90_code
def yX3_game : MethodName := ⟨RX3, "game", "(IIII)I"⟩
def dkwX3_game_2 : List UInt8 := [21, 4, 182, 1, 168, 167, 0, 6, 19, 1, 135, 172]
abbrev dktX3_game_2 : List UInt8 := dkwX3_game_2 ++ []
def dkwX3_game_1 : List UInt8 := [133, 9, 10, 184, 1, 14, 153, 0, 26, 21, 4, 133, 9, 10, 184, 1, 14, 153, 0, 15, 42, 27, 28, 29]
abbrev dktX3_game_1 : List UInt8 := dkwX3_game_1 ++ dktX3_game_2
def dkwX3_game_0 : List UInt8 := [42, 3, 181, 0, 99, 42, 27, 182, 1, 96, 153, 0, 46, 28, 133, 9, 10, 184, 1, 14, 153, 0, 36, 29]
abbrev dktX3_game_0 : List UInt8 := dkwX3_game_0 ++ dktX3_game_1
theorem dksX3_game_0 : cX3_game.data.toList.drop 0 = dktX3_game_0 := by decide +kernel
theorem dksX3_game_1 : cX3_game.data.toList.drop 24 = dktX3_game_1 := dk_seg dksX3_game_0 24 rfl rfl
theorem dksX3_game_2 : cX3_game.data.toList.drop 48 = dktX3_game_2 := dk_seg dksX3_game_1 24 rfl rfl
theorem dX3_game_0 : decode cX3_game 0 = .ok (.aload_n 0, 1) := dk_42 (dk_at dksX3_game_0 0 rfl rfl)
theorem dX3_game_1 : decode cX3_game 1 = .ok (.iconst 0, 1) := dk_3 (dk_at dksX3_game_0 1 rfl rfl)
theorem dX3_game_2 : decode cX3_game 2 = .ok (.putfield 99, 3) := dk_181 0 99 (dk_at dksX3_game_0 2 rfl rfl)
theorem dX3_game_5 : decode cX3_game 5 = .ok (.aload_n 0, 1) := dk_42 (dk_at dksX3_game_0 5 rfl rfl)
theorem dX3_game_6 : decode cX3_game 6 = .ok (.iload_n 1, 1) := dk_27 (dk_at dksX3_game_0 6 rfl rfl)
theorem dX3_game_7 : decode cX3_game 7 = .ok (.invokevirtual 352, 3) := dk_182 1 96 (dk_at dksX3_game_0 7 rfl rfl)
theorem dX3_game_10 : decode cX3_game 10 = .ok (.ifCond .eq 46, 3) := dk_153 0 46 (dk_at dksX3_game_0 10 rfl rfl)
theorem dX3_game_13 : decode cX3_game 13 = .ok (.iload_n 2, 1) := dk_28 (dk_at dksX3_game_0 13 rfl rfl)
theorem dX3_game_14 : decode cX3_game 14 = .ok (.i2l, 1) := dk_133 (dk_at dksX3_game_0 14 rfl rfl)
theorem dX3_game_15 : decode cX3_game 15 = .ok (.lconst 0, 1) := dk_9 (dk_at dksX3_game_0 15 rfl rfl)
theorem dX3_game_16 : decode cX3_game 16 = .ok (.lconst 1, 1) := dk_10 (dk_at dksX3_game_0 16 rfl rfl)
theorem dX3_game_17 : decode cX3_game 17 = .ok (.invokestatic 270, 3) := dk_184 1 14 (dk_at dksX3_game_0 17 rfl rfl)
theorem dX3_game_20 : decode cX3_game 20 = .ok (.ifCond .eq 36, 3) := dk_153 0 36 (dk_at dksX3_game_0 20 rfl rfl)
theorem dX3_game_23 : decode cX3_game 23 = .ok (.iload_n 3, 1) := dk_29 (dk_at dksX3_game_0 23 rfl rfl)
theorem dX3_game_24 : decode cX3_game 24 = .ok (.i2l, 1) := dk_133 (dk_at dksX3_game_1 0 rfl rfl)
theorem dX3_game_25 : decode cX3_game 25 = .ok (.lconst 0, 1) := dk_9 (dk_at dksX3_game_1 1 rfl rfl)
theorem dX3_game_26 : decode cX3_game 26 = .ok (.lconst 1, 1) := dk_10 (dk_at dksX3_game_1 2 rfl rfl)
theorem dX3_game_27 : decode cX3_game 27 = .ok (.invokestatic 270, 3) := dk_184 1 14 (dk_at dksX3_game_1 3 rfl rfl)
theorem dX3_game_30 : decode cX3_game 30 = .ok (.ifCond .eq 26, 3) := dk_153 0 26 (dk_at dksX3_game_1 6 rfl rfl)
theorem dX3_game_33 : decode cX3_game 33 = .ok (.iload 4, 2) := dk_21 4 (dk_at dksX3_game_1 9 rfl rfl)
theorem dX3_game_35 : decode cX3_game 35 = .ok (.i2l, 1) := dk_133 (dk_at dksX3_game_1 11 rfl rfl)
theorem dX3_game_36 : decode cX3_game 36 = .ok (.lconst 0, 1) := dk_9 (dk_at dksX3_game_1 12 rfl rfl)
theorem dX3_game_37 : decode cX3_game 37 = .ok (.lconst 1, 1) := dk_10 (dk_at dksX3_game_1 13 rfl rfl)
theorem dX3_game_38 : decode cX3_game 38 = .ok (.invokestatic 270, 3) := dk_184 1 14 (dk_at dksX3_game_1 14 rfl rfl)
theorem dX3_game_41 : decode cX3_game 41 = .ok (.ifCond .eq 15, 3) := dk_153 0 15 (dk_at dksX3_game_1 17 rfl rfl)
theorem dX3_game_44 : decode cX3_game 44 = .ok (.aload_n 0, 1) := dk_42 (dk_at dksX3_game_1 20 rfl rfl)
theorem dX3_game_45 : decode cX3_game 45 = .ok (.iload_n 1, 1) := dk_27 (dk_at dksX3_game_1 21 rfl rfl)
theorem dX3_game_46 : decode cX3_game 46 = .ok (.iload_n 2, 1) := dk_28 (dk_at dksX3_game_1 22 rfl rfl)
theorem dX3_game_47 : decode cX3_game 47 = .ok (.iload_n 3, 1) := dk_29 (dk_at dksX3_game_1 23 rfl rfl)
theorem dX3_game_48 : decode cX3_game 48 = .ok (.iload 4, 2) := dk_21 4 (dk_at dksX3_game_2 0 rfl rfl)
theorem dX3_game_50 : decode cX3_game 50 = .ok (.invokevirtual 424, 3) := dk_182 1 168 (dk_at dksX3_game_2 2 rfl rfl)
theorem dX3_game_53 : decode cX3_game 53 = .ok (.goto 6, 3) := dk_167 0 6 (dk_at dksX3_game_2 5 rfl rfl)
theorem dX3_game_56 : decode cX3_game 56 = .ok (.ldc_w 391, 3) := dk_19 1 135 (dk_at dksX3_game_2 8 rfl rfl)
theorem dX3_game_59 : decode cX3_game 59 = .ok (.ireturn, 1) := dk_172 (dk_at dksX3_game_2 11 rfl rfl)
abbrev cX3_gameOf : ByteArray := prog_14_method_89_code
def yX3_gameOf : MethodName := ⟨RX3, "gameOf", "(IIII)I"⟩
def dkwX3_gameOf_3 : List UInt8 := [180, 0, 49, 7, 27, 104, 21, 4, 96, 46, 104, 5, 96, 46, 5, 96, 21, 6, 100, 172]
abbrev dktX3_gameOf_3 : List UInt8 := dkwX3_gameOf_3 ++ []
def dkwX3_gameOf_2 : List UInt8 := [160, 0, 7, 21, 6, 116, 172, 21, 5, 21, 4, 160, 0, 7, 7, 167, 0, 25, 42, 180, 0, 61, 7, 42]
abbrev dktX3_gameOf_2 : List UInt8 := dkwX3_gameOf_2 ++ dktX3_gameOf_3
def dkwX3_gameOf_1 : List UInt8 := [167, 0, 4, 3, 182, 1, 76, 54, 5, 21, 4, 154, 0, 7, 28, 167, 0, 4, 29, 54, 6, 21, 5, 2]
abbrev dktX3_gameOf_1 : List UInt8 := dkwX3_gameOf_1 ++ dktX3_gameOf_2
def dkwX3_gameOf_0 : List UInt8 := [42, 42, 180, 0, 61, 27, 28, 4, 160, 0, 7, 4, 167, 0, 4, 3, 29, 4, 160, 0, 7, 4]
abbrev dktX3_gameOf_0 : List UInt8 := dkwX3_gameOf_0 ++ dktX3_gameOf_1
theorem dksX3_gameOf_0 : cX3_gameOf.data.toList.drop 0 = dktX3_gameOf_0 := by decide +kernel
theorem dksX3_gameOf_1 : cX3_gameOf.data.toList.drop 22 = dktX3_gameOf_1 := dk_seg dksX3_gameOf_0 22 rfl rfl
theorem dksX3_gameOf_2 : cX3_gameOf.data.toList.drop 46 = dktX3_gameOf_2 := dk_seg dksX3_gameOf_1 24 rfl rfl
theorem dksX3_gameOf_3 : cX3_gameOf.data.toList.drop 70 = dktX3_gameOf_3 := dk_seg dksX3_gameOf_2 24 rfl rfl
theorem dX3_gameOf_0 : decode cX3_gameOf 0 = .ok (.aload_n 0, 1) := dk_42 (dk_at dksX3_gameOf_0 0 rfl rfl)
theorem dX3_gameOf_1 : decode cX3_gameOf 1 = .ok (.aload_n 0, 1) := dk_42 (dk_at dksX3_gameOf_0 1 rfl rfl)
theorem dX3_gameOf_2 : decode cX3_gameOf 2 = .ok (.getfield 61, 3) := dk_180 0 61 (dk_at dksX3_gameOf_0 2 rfl rfl)
theorem dX3_gameOf_5 : decode cX3_gameOf 5 = .ok (.iload_n 1, 1) := dk_27 (dk_at dksX3_gameOf_0 5 rfl rfl)
theorem dX3_gameOf_6 : decode cX3_gameOf 6 = .ok (.iload_n 2, 1) := dk_28 (dk_at dksX3_gameOf_0 6 rfl rfl)
theorem dX3_gameOf_7 : decode cX3_gameOf 7 = .ok (.iconst 1, 1) := dk_4 (dk_at dksX3_gameOf_0 7 rfl rfl)
theorem dX3_gameOf_8 : decode cX3_gameOf 8 = .ok (.if_icmp .ne 7, 3) := dk_160 0 7 (dk_at dksX3_gameOf_0 8 rfl rfl)
theorem dX3_gameOf_11 : decode cX3_gameOf 11 = .ok (.iconst 1, 1) := dk_4 (dk_at dksX3_gameOf_0 11 rfl rfl)
theorem dX3_gameOf_12 : decode cX3_gameOf 12 = .ok (.goto 4, 3) := dk_167 0 4 (dk_at dksX3_gameOf_0 12 rfl rfl)
theorem dX3_gameOf_15 : decode cX3_gameOf 15 = .ok (.iconst 0, 1) := dk_3 (dk_at dksX3_gameOf_0 15 rfl rfl)
theorem dX3_gameOf_16 : decode cX3_gameOf 16 = .ok (.iload_n 3, 1) := dk_29 (dk_at dksX3_gameOf_0 16 rfl rfl)
theorem dX3_gameOf_17 : decode cX3_gameOf 17 = .ok (.iconst 1, 1) := dk_4 (dk_at dksX3_gameOf_0 17 rfl rfl)
theorem dX3_gameOf_18 : decode cX3_gameOf 18 = .ok (.if_icmp .ne 7, 3) := dk_160 0 7 (dk_at dksX3_gameOf_0 18 rfl rfl)
theorem dX3_gameOf_21 : decode cX3_gameOf 21 = .ok (.iconst 1, 1) := dk_4 (dk_at dksX3_gameOf_0 21 rfl rfl)
theorem dX3_gameOf_22 : decode cX3_gameOf 22 = .ok (.goto 4, 3) := dk_167 0 4 (dk_at dksX3_gameOf_1 0 rfl rfl)
theorem dX3_gameOf_25 : decode cX3_gameOf 25 = .ok (.iconst 0, 1) := dk_3 (dk_at dksX3_gameOf_1 3 rfl rfl)
theorem dX3_gameOf_26 : decode cX3_gameOf 26 = .ok (.invokevirtual 332, 3) := dk_182 1 76 (dk_at dksX3_gameOf_1 4 rfl rfl)
theorem dX3_gameOf_29 : decode cX3_gameOf 29 = .ok (.istore 5, 2) := dk_54 5 (dk_at dksX3_gameOf_1 7 rfl rfl)
theorem dX3_gameOf_31 : decode cX3_gameOf 31 = .ok (.iload 4, 2) := dk_21 4 (dk_at dksX3_gameOf_1 9 rfl rfl)
theorem dX3_gameOf_33 : decode cX3_gameOf 33 = .ok (.ifCond .ne 7, 3) := dk_154 0 7 (dk_at dksX3_gameOf_1 11 rfl rfl)
theorem dX3_gameOf_36 : decode cX3_gameOf 36 = .ok (.iload_n 2, 1) := dk_28 (dk_at dksX3_gameOf_1 14 rfl rfl)
theorem dX3_gameOf_37 : decode cX3_gameOf 37 = .ok (.goto 4, 3) := dk_167 0 4 (dk_at dksX3_gameOf_1 15 rfl rfl)
theorem dX3_gameOf_40 : decode cX3_gameOf 40 = .ok (.iload_n 3, 1) := dk_29 (dk_at dksX3_gameOf_1 18 rfl rfl)
theorem dX3_gameOf_41 : decode cX3_gameOf 41 = .ok (.istore 6, 2) := dk_54 6 (dk_at dksX3_gameOf_1 19 rfl rfl)
theorem dX3_gameOf_43 : decode cX3_gameOf 43 = .ok (.iload 5, 2) := dk_21 5 (dk_at dksX3_gameOf_1 21 rfl rfl)
theorem dX3_gameOf_45 : decode cX3_gameOf 45 = .ok (.iconst (-1), 1) := dk_2 (dk_at dksX3_gameOf_1 23 rfl rfl)
theorem dX3_gameOf_46 : decode cX3_gameOf 46 = .ok (.if_icmp .ne 7, 3) := dk_160 0 7 (dk_at dksX3_gameOf_2 0 rfl rfl)
theorem dX3_gameOf_49 : decode cX3_gameOf 49 = .ok (.iload 6, 2) := dk_21 6 (dk_at dksX3_gameOf_2 3 rfl rfl)
theorem dX3_gameOf_51 : decode cX3_gameOf 51 = .ok (.ineg, 1) := dk_116 (dk_at dksX3_gameOf_2 5 rfl rfl)
theorem dX3_gameOf_52 : decode cX3_gameOf 52 = .ok (.ireturn, 1) := dk_172 (dk_at dksX3_gameOf_2 6 rfl rfl)
theorem dX3_gameOf_53 : decode cX3_gameOf 53 = .ok (.iload 5, 2) := dk_21 5 (dk_at dksX3_gameOf_2 7 rfl rfl)
theorem dX3_gameOf_55 : decode cX3_gameOf 55 = .ok (.iload 4, 2) := dk_21 4 (dk_at dksX3_gameOf_2 9 rfl rfl)
theorem dX3_gameOf_57 : decode cX3_gameOf 57 = .ok (.if_icmp .ne 7, 3) := dk_160 0 7 (dk_at dksX3_gameOf_2 11 rfl rfl)
theorem dX3_gameOf_60 : decode cX3_gameOf 60 = .ok (.iconst 4, 1) := dk_7 (dk_at dksX3_gameOf_2 14 rfl rfl)
theorem dX3_gameOf_61 : decode cX3_gameOf 61 = .ok (.goto 25, 3) := dk_167 0 25 (dk_at dksX3_gameOf_2 15 rfl rfl)
theorem dX3_gameOf_64 : decode cX3_gameOf 64 = .ok (.aload_n 0, 1) := dk_42 (dk_at dksX3_gameOf_2 18 rfl rfl)
theorem dX3_gameOf_65 : decode cX3_gameOf 65 = .ok (.getfield 61, 3) := dk_180 0 61 (dk_at dksX3_gameOf_2 19 rfl rfl)
theorem dX3_gameOf_68 : decode cX3_gameOf 68 = .ok (.iconst 4, 1) := dk_7 (dk_at dksX3_gameOf_2 22 rfl rfl)
theorem dX3_gameOf_69 : decode cX3_gameOf 69 = .ok (.aload_n 0, 1) := dk_42 (dk_at dksX3_gameOf_2 23 rfl rfl)
theorem dX3_gameOf_70 : decode cX3_gameOf 70 = .ok (.getfield 49, 3) := dk_180 0 49 (dk_at dksX3_gameOf_3 0 rfl rfl)
theorem dX3_gameOf_73 : decode cX3_gameOf 73 = .ok (.iconst 4, 1) := dk_7 (dk_at dksX3_gameOf_3 3 rfl rfl)
theorem dX3_gameOf_74 : decode cX3_gameOf 74 = .ok (.iload_n 1, 1) := dk_27 (dk_at dksX3_gameOf_3 4 rfl rfl)
theorem dX3_gameOf_75 : decode cX3_gameOf 75 = .ok (.imul, 1) := dk_104 (dk_at dksX3_gameOf_3 5 rfl rfl)
theorem dX3_gameOf_76 : decode cX3_gameOf 76 = .ok (.iload 4, 2) := dk_21 4 (dk_at dksX3_gameOf_3 6 rfl rfl)
theorem dX3_gameOf_78 : decode cX3_gameOf 78 = .ok (.iadd, 1) := dk_96 (dk_at dksX3_gameOf_3 8 rfl rfl)
theorem dX3_gameOf_79 : decode cX3_gameOf 79 = .ok (.iaload, 1) := dk_46 (dk_at dksX3_gameOf_3 9 rfl rfl)
theorem dX3_gameOf_80 : decode cX3_gameOf 80 = .ok (.imul, 1) := dk_104 (dk_at dksX3_gameOf_3 10 rfl rfl)
theorem dX3_gameOf_81 : decode cX3_gameOf 81 = .ok (.iconst 2, 1) := dk_5 (dk_at dksX3_gameOf_3 11 rfl rfl)
theorem dX3_gameOf_82 : decode cX3_gameOf 82 = .ok (.iadd, 1) := dk_96 (dk_at dksX3_gameOf_3 12 rfl rfl)
theorem dX3_gameOf_83 : decode cX3_gameOf 83 = .ok (.iaload, 1) := dk_46 (dk_at dksX3_gameOf_3 13 rfl rfl)
theorem dX3_gameOf_84 : decode cX3_gameOf 84 = .ok (.iconst 2, 1) := dk_5 (dk_at dksX3_gameOf_3 14 rfl rfl)
theorem dX3_gameOf_85 : decode cX3_gameOf 85 = .ok (.iadd, 1) := dk_96 (dk_at dksX3_gameOf_3 15 rfl rfl)
theorem dX3_gameOf_86 : decode cX3_gameOf 86 = .ok (.iload 6, 2) := dk_21 6 (dk_at dksX3_gameOf_3 16 rfl rfl)
theorem dX3_gameOf_88 : decode cX3_gameOf 88 = .ok (.isub, 1) := dk_100 (dk_at dksX3_gameOf_3 18 rfl rfl)
theorem dX3_gameOf_89 : decode cX3_gameOf 89 = .ok (.ireturn, 1) := dk_172 (dk_at dksX3_gameOf_3 19 rfl rfl)
abbrev cX3_rests : ByteArray := prog_14_method_91_code
def yX3_rests : MethodName := ⟨RX3, "rests", "(II)I"⟩
def dkwX3_rests_5 : List UInt8 := [132, 4, 1, 167, 255, 162, 28, 2, 160, 0, 7, 29, 167, 0, 4, 2, 172]
abbrev dktX3_rests_5 : List UInt8 := dkwX3_rests_5 ++ []
def dkwX3_rests_4 : List UInt8 := [28, 160, 0, 12, 16, 10, 21, 4, 104, 21, 5, 96, 172, 132, 3, 1, 132, 5, 1, 167, 255, 177]
abbrev dktX3_rests_4 : List UInt8 := dkwX3_rests_4 ++ dktX3_rests_5
def dkwX3_rests_3 : List UInt8 := [21, 5, 100, 4, 182, 1, 168, 42, 27, 21, 4, 21, 5, 4, 182, 1, 168, 164, 0, 6, 167, 0, 20, 29]
abbrev dktX3_rests_3 : List UInt8 := dkwX3_rests_3 ++ dktX3_rests_4
def dkwX3_rests_2 : List UInt8 := [21, 5, 3, 182, 1, 168, 42, 27, 21, 4, 21, 5, 3, 182, 1, 168, 163, 0, 48, 42, 27, 21, 4, 4]
abbrev dktX3_rests_2 : List UInt8 := dkwX3_rests_2 ++ dktX3_rests_3
def dkwX3_rests_1 : List UInt8 := [54, 4, 21, 4, 5, 162, 0, 94, 3, 54, 5, 21, 5, 5, 162, 0, 79, 42, 27, 4, 21, 4, 100]
abbrev dktX3_rests_1 : List UInt8 := dkwX3_rests_1 ++ dktX3_rests_2
def dkwX3_rests_0 : List UInt8 := [42, 3, 181, 0, 99, 42, 27, 182, 1, 96, 153, 0, 8, 28, 2, 162, 0, 5, 2, 172, 3, 62, 3]
abbrev dktX3_rests_0 : List UInt8 := dkwX3_rests_0 ++ dktX3_rests_1
theorem dksX3_rests_0 : cX3_rests.data.toList.drop 0 = dktX3_rests_0 := by decide +kernel
theorem dksX3_rests_1 : cX3_rests.data.toList.drop 23 = dktX3_rests_1 := dk_seg dksX3_rests_0 23 rfl rfl
theorem dksX3_rests_2 : cX3_rests.data.toList.drop 46 = dktX3_rests_2 := dk_seg dksX3_rests_1 23 rfl rfl
theorem dksX3_rests_3 : cX3_rests.data.toList.drop 70 = dktX3_rests_3 := dk_seg dksX3_rests_2 24 rfl rfl
theorem dksX3_rests_4 : cX3_rests.data.toList.drop 94 = dktX3_rests_4 := dk_seg dksX3_rests_3 24 rfl rfl
theorem dksX3_rests_5 : cX3_rests.data.toList.drop 116 = dktX3_rests_5 := dk_seg dksX3_rests_4 22 rfl rfl
theorem dX3_rests_0 : decode cX3_rests 0 = .ok (.aload_n 0, 1) := dk_42 (dk_at dksX3_rests_0 0 rfl rfl)
theorem dX3_rests_1 : decode cX3_rests 1 = .ok (.iconst 0, 1) := dk_3 (dk_at dksX3_rests_0 1 rfl rfl)
theorem dX3_rests_2 : decode cX3_rests 2 = .ok (.putfield 99, 3) := dk_181 0 99 (dk_at dksX3_rests_0 2 rfl rfl)
theorem dX3_rests_5 : decode cX3_rests 5 = .ok (.aload_n 0, 1) := dk_42 (dk_at dksX3_rests_0 5 rfl rfl)
theorem dX3_rests_6 : decode cX3_rests 6 = .ok (.iload_n 1, 1) := dk_27 (dk_at dksX3_rests_0 6 rfl rfl)
theorem dX3_rests_7 : decode cX3_rests 7 = .ok (.invokevirtual 352, 3) := dk_182 1 96 (dk_at dksX3_rests_0 7 rfl rfl)
theorem dX3_rests_10 : decode cX3_rests 10 = .ok (.ifCond .eq 8, 3) := dk_153 0 8 (dk_at dksX3_rests_0 10 rfl rfl)
theorem dX3_rests_13 : decode cX3_rests 13 = .ok (.iload_n 2, 1) := dk_28 (dk_at dksX3_rests_0 13 rfl rfl)
theorem dX3_rests_14 : decode cX3_rests 14 = .ok (.iconst (-1), 1) := dk_2 (dk_at dksX3_rests_0 14 rfl rfl)
theorem dX3_rests_15 : decode cX3_rests 15 = .ok (.if_icmp .ge 5, 3) := dk_162 0 5 (dk_at dksX3_rests_0 15 rfl rfl)
theorem dX3_rests_18 : decode cX3_rests 18 = .ok (.iconst (-1), 1) := dk_2 (dk_at dksX3_rests_0 18 rfl rfl)
theorem dX3_rests_19 : decode cX3_rests 19 = .ok (.ireturn, 1) := dk_172 (dk_at dksX3_rests_0 19 rfl rfl)
theorem dX3_rests_20 : decode cX3_rests 20 = .ok (.iconst 0, 1) := dk_3 (dk_at dksX3_rests_0 20 rfl rfl)
theorem dX3_rests_21 : decode cX3_rests 21 = .ok (.istore_n 3, 1) := dk_62 (dk_at dksX3_rests_0 21 rfl rfl)
theorem dX3_rests_22 : decode cX3_rests 22 = .ok (.iconst 0, 1) := dk_3 (dk_at dksX3_rests_0 22 rfl rfl)
theorem dX3_rests_23 : decode cX3_rests 23 = .ok (.istore 4, 2) := dk_54 4 (dk_at dksX3_rests_1 0 rfl rfl)
theorem dX3_rests_25 : decode cX3_rests 25 = .ok (.iload 4, 2) := dk_21 4 (dk_at dksX3_rests_1 2 rfl rfl)
theorem dX3_rests_27 : decode cX3_rests 27 = .ok (.iconst 2, 1) := dk_5 (dk_at dksX3_rests_1 4 rfl rfl)
theorem dX3_rests_28 : decode cX3_rests 28 = .ok (.if_icmp .ge 94, 3) := dk_162 0 94 (dk_at dksX3_rests_1 5 rfl rfl)
theorem dX3_rests_31 : decode cX3_rests 31 = .ok (.iconst 0, 1) := dk_3 (dk_at dksX3_rests_1 8 rfl rfl)
theorem dX3_rests_32 : decode cX3_rests 32 = .ok (.istore 5, 2) := dk_54 5 (dk_at dksX3_rests_1 9 rfl rfl)
theorem dX3_rests_34 : decode cX3_rests 34 = .ok (.iload 5, 2) := dk_21 5 (dk_at dksX3_rests_1 11 rfl rfl)
theorem dX3_rests_36 : decode cX3_rests 36 = .ok (.iconst 2, 1) := dk_5 (dk_at dksX3_rests_1 13 rfl rfl)
theorem dX3_rests_37 : decode cX3_rests 37 = .ok (.if_icmp .ge 79, 3) := dk_162 0 79 (dk_at dksX3_rests_1 14 rfl rfl)
theorem dX3_rests_40 : decode cX3_rests 40 = .ok (.aload_n 0, 1) := dk_42 (dk_at dksX3_rests_1 17 rfl rfl)
theorem dX3_rests_41 : decode cX3_rests 41 = .ok (.iload_n 1, 1) := dk_27 (dk_at dksX3_rests_1 18 rfl rfl)
theorem dX3_rests_42 : decode cX3_rests 42 = .ok (.iconst 1, 1) := dk_4 (dk_at dksX3_rests_1 19 rfl rfl)
theorem dX3_rests_43 : decode cX3_rests 43 = .ok (.iload 4, 2) := dk_21 4 (dk_at dksX3_rests_1 20 rfl rfl)
theorem dX3_rests_45 : decode cX3_rests 45 = .ok (.isub, 1) := dk_100 (dk_at dksX3_rests_1 22 rfl rfl)
theorem dX3_rests_46 : decode cX3_rests 46 = .ok (.iload 5, 2) := dk_21 5 (dk_at dksX3_rests_2 0 rfl rfl)
theorem dX3_rests_48 : decode cX3_rests 48 = .ok (.iconst 0, 1) := dk_3 (dk_at dksX3_rests_2 2 rfl rfl)
theorem dX3_rests_49 : decode cX3_rests 49 = .ok (.invokevirtual 424, 3) := dk_182 1 168 (dk_at dksX3_rests_2 3 rfl rfl)
theorem dX3_rests_52 : decode cX3_rests 52 = .ok (.aload_n 0, 1) := dk_42 (dk_at dksX3_rests_2 6 rfl rfl)
theorem dX3_rests_53 : decode cX3_rests 53 = .ok (.iload_n 1, 1) := dk_27 (dk_at dksX3_rests_2 7 rfl rfl)
theorem dX3_rests_54 : decode cX3_rests 54 = .ok (.iload 4, 2) := dk_21 4 (dk_at dksX3_rests_2 8 rfl rfl)
theorem dX3_rests_56 : decode cX3_rests 56 = .ok (.iload 5, 2) := dk_21 5 (dk_at dksX3_rests_2 10 rfl rfl)
theorem dX3_rests_58 : decode cX3_rests 58 = .ok (.iconst 0, 1) := dk_3 (dk_at dksX3_rests_2 12 rfl rfl)
theorem dX3_rests_59 : decode cX3_rests 59 = .ok (.invokevirtual 424, 3) := dk_182 1 168 (dk_at dksX3_rests_2 13 rfl rfl)
theorem dX3_rests_62 : decode cX3_rests 62 = .ok (.if_icmp .gt 48, 3) := dk_163 0 48 (dk_at dksX3_rests_2 16 rfl rfl)
theorem dX3_rests_65 : decode cX3_rests 65 = .ok (.aload_n 0, 1) := dk_42 (dk_at dksX3_rests_2 19 rfl rfl)
theorem dX3_rests_66 : decode cX3_rests 66 = .ok (.iload_n 1, 1) := dk_27 (dk_at dksX3_rests_2 20 rfl rfl)
theorem dX3_rests_67 : decode cX3_rests 67 = .ok (.iload 4, 2) := dk_21 4 (dk_at dksX3_rests_2 21 rfl rfl)
theorem dX3_rests_69 : decode cX3_rests 69 = .ok (.iconst 1, 1) := dk_4 (dk_at dksX3_rests_2 23 rfl rfl)
theorem dX3_rests_70 : decode cX3_rests 70 = .ok (.iload 5, 2) := dk_21 5 (dk_at dksX3_rests_3 0 rfl rfl)
theorem dX3_rests_72 : decode cX3_rests 72 = .ok (.isub, 1) := dk_100 (dk_at dksX3_rests_3 2 rfl rfl)
theorem dX3_rests_73 : decode cX3_rests 73 = .ok (.iconst 1, 1) := dk_4 (dk_at dksX3_rests_3 3 rfl rfl)
theorem dX3_rests_74 : decode cX3_rests 74 = .ok (.invokevirtual 424, 3) := dk_182 1 168 (dk_at dksX3_rests_3 4 rfl rfl)
theorem dX3_rests_77 : decode cX3_rests 77 = .ok (.aload_n 0, 1) := dk_42 (dk_at dksX3_rests_3 7 rfl rfl)
theorem dX3_rests_78 : decode cX3_rests 78 = .ok (.iload_n 1, 1) := dk_27 (dk_at dksX3_rests_3 8 rfl rfl)
theorem dX3_rests_79 : decode cX3_rests 79 = .ok (.iload 4, 2) := dk_21 4 (dk_at dksX3_rests_3 9 rfl rfl)
theorem dX3_rests_81 : decode cX3_rests 81 = .ok (.iload 5, 2) := dk_21 5 (dk_at dksX3_rests_3 11 rfl rfl)
theorem dX3_rests_83 : decode cX3_rests 83 = .ok (.iconst 1, 1) := dk_4 (dk_at dksX3_rests_3 13 rfl rfl)
theorem dX3_rests_84 : decode cX3_rests 84 = .ok (.invokevirtual 424, 3) := dk_182 1 168 (dk_at dksX3_rests_3 14 rfl rfl)
theorem dX3_rests_87 : decode cX3_rests 87 = .ok (.if_icmp .le 6, 3) := dk_164 0 6 (dk_at dksX3_rests_3 17 rfl rfl)
theorem dX3_rests_90 : decode cX3_rests 90 = .ok (.goto 20, 3) := dk_167 0 20 (dk_at dksX3_rests_3 20 rfl rfl)
theorem dX3_rests_93 : decode cX3_rests 93 = .ok (.iload_n 3, 1) := dk_29 (dk_at dksX3_rests_3 23 rfl rfl)
theorem dX3_rests_94 : decode cX3_rests 94 = .ok (.iload_n 2, 1) := dk_28 (dk_at dksX3_rests_4 0 rfl rfl)
theorem dX3_rests_95 : decode cX3_rests 95 = .ok (.if_icmp .ne 12, 3) := dk_160 0 12 (dk_at dksX3_rests_4 1 rfl rfl)
theorem dX3_rests_98 : decode cX3_rests 98 = .ok (.bipush 10, 2) := dk_16 10 (dk_at dksX3_rests_4 4 rfl rfl)
theorem dX3_rests_100 : decode cX3_rests 100 = .ok (.iload 4, 2) := dk_21 4 (dk_at dksX3_rests_4 6 rfl rfl)
theorem dX3_rests_102 : decode cX3_rests 102 = .ok (.imul, 1) := dk_104 (dk_at dksX3_rests_4 8 rfl rfl)
theorem dX3_rests_103 : decode cX3_rests 103 = .ok (.iload 5, 2) := dk_21 5 (dk_at dksX3_rests_4 9 rfl rfl)
theorem dX3_rests_105 : decode cX3_rests 105 = .ok (.iadd, 1) := dk_96 (dk_at dksX3_rests_4 11 rfl rfl)
theorem dX3_rests_106 : decode cX3_rests 106 = .ok (.ireturn, 1) := dk_172 (dk_at dksX3_rests_4 12 rfl rfl)
theorem dX3_rests_107 : decode cX3_rests 107 = .ok (.iinc 3 1, 3) := dk_132 3 1 (dk_at dksX3_rests_4 13 rfl rfl)
theorem dX3_rests_110 : decode cX3_rests 110 = .ok (.iinc 5 1, 3) := dk_132 5 1 (dk_at dksX3_rests_4 16 rfl rfl)
theorem dX3_rests_113 : decode cX3_rests 113 = .ok (.goto (-79), 3) := dk_167 255 177 (dk_at dksX3_rests_4 19 rfl rfl)
theorem dX3_rests_116 : decode cX3_rests 116 = .ok (.iinc 4 1, 3) := dk_132 4 1 (dk_at dksX3_rests_5 0 rfl rfl)
theorem dX3_rests_119 : decode cX3_rests 119 = .ok (.goto (-94), 3) := dk_167 255 162 (dk_at dksX3_rests_5 3 rfl rfl)
theorem dX3_rests_122 : decode cX3_rests 122 = .ok (.iload_n 2, 1) := dk_28 (dk_at dksX3_rests_5 6 rfl rfl)
theorem dX3_rests_123 : decode cX3_rests 123 = .ok (.iconst (-1), 1) := dk_2 (dk_at dksX3_rests_5 7 rfl rfl)
theorem dX3_rests_124 : decode cX3_rests 124 = .ok (.if_icmp .ne 7, 3) := dk_160 0 7 (dk_at dksX3_rests_5 8 rfl rfl)
theorem dX3_rests_127 : decode cX3_rests 127 = .ok (.iload_n 3, 1) := dk_29 (dk_at dksX3_rests_5 11 rfl rfl)
theorem dX3_rests_128 : decode cX3_rests 128 = .ok (.goto 4, 3) := dk_167 0 4 (dk_at dksX3_rests_5 12 rfl rfl)
theorem dX3_rests_131 : decode cX3_rests 131 = .ok (.iconst (-1), 1) := dk_2 (dk_at dksX3_rests_5 15 rfl rfl)
theorem dX3_rests_132 : decode cX3_rests 132 = .ok (.ireturn, 1) := dk_172 (dk_at dksX3_rests_5 16 rfl rfl)
abbrev cX3_odds : ByteArray := prog_14_method_93_code
def yX3_odds : MethodName := ⟨RX3, "odds", "(III)I"⟩
def dkwX3_odds_5 : List UInt8 := [182, 1, 177, 96, 42, 27, 3, 3, 21, 5, 21, 7, 100, 182, 1, 177, 96, 172]
abbrev dktX3_odds_5 : List UInt8 := dkwX3_odds_5 ++ []
def dkwX3_odds_4 : List UInt8 := [182, 1, 177, 42, 27, 4, 3, 21, 4, 21, 6, 100, 182, 1, 177, 96, 42, 27, 3, 4, 21, 7]
abbrev dktX3_odds_4 : List UInt8 := dkwX3_odds_4 ++ dktX3_odds_5
def dkwX3_odds_3 : List UInt8 := [109, 136, 54, 6, 21, 5, 133, 29, 133, 105, 20, 1, 172, 109, 136, 54, 7, 42, 27, 4, 4, 21, 6]
abbrev dktX3_odds_3 : List UInt8 := dkwX3_odds_3 ++ dktX3_odds_4
def dkwX3_odds_2 : List UInt8 := [20, 1, 172, 109, 136, 54, 4, 19, 1, 176, 21, 4, 100, 54, 5, 21, 4, 133, 29, 133, 105, 20, 1, 172]
abbrev dktX3_odds_2 : List UInt8 := dkwX3_odds_2 ++ dktX3_odds_3
def dkwX3_odds_1 : List UInt8 := [153, 0, 15, 29, 133, 9, 20, 1, 172, 184, 1, 14, 154, 0, 5, 2, 172, 20, 1, 174, 28, 133, 105]
abbrev dktX3_odds_1 : List UInt8 := dkwX3_odds_1 ++ dktX3_odds_2
def dkwX3_odds_0 : List UInt8 := [42, 3, 181, 0, 99, 42, 27, 182, 1, 96, 153, 0, 27, 28, 133, 9, 20, 1, 172, 184, 1, 14]
abbrev dktX3_odds_0 : List UInt8 := dkwX3_odds_0 ++ dktX3_odds_1
theorem dksX3_odds_0 : cX3_odds.data.toList.drop 0 = dktX3_odds_0 := by decide +kernel
theorem dksX3_odds_1 : cX3_odds.data.toList.drop 22 = dktX3_odds_1 := dk_seg dksX3_odds_0 22 rfl rfl
theorem dksX3_odds_2 : cX3_odds.data.toList.drop 45 = dktX3_odds_2 := dk_seg dksX3_odds_1 23 rfl rfl
theorem dksX3_odds_3 : cX3_odds.data.toList.drop 69 = dktX3_odds_3 := dk_seg dksX3_odds_2 24 rfl rfl
theorem dksX3_odds_4 : cX3_odds.data.toList.drop 92 = dktX3_odds_4 := dk_seg dksX3_odds_3 23 rfl rfl
theorem dksX3_odds_5 : cX3_odds.data.toList.drop 114 = dktX3_odds_5 := dk_seg dksX3_odds_4 22 rfl rfl
theorem dX3_odds_0 : decode cX3_odds 0 = .ok (.aload_n 0, 1) := dk_42 (dk_at dksX3_odds_0 0 rfl rfl)
theorem dX3_odds_1 : decode cX3_odds 1 = .ok (.iconst 0, 1) := dk_3 (dk_at dksX3_odds_0 1 rfl rfl)
theorem dX3_odds_2 : decode cX3_odds 2 = .ok (.putfield 99, 3) := dk_181 0 99 (dk_at dksX3_odds_0 2 rfl rfl)
theorem dX3_odds_5 : decode cX3_odds 5 = .ok (.aload_n 0, 1) := dk_42 (dk_at dksX3_odds_0 5 rfl rfl)
theorem dX3_odds_6 : decode cX3_odds 6 = .ok (.iload_n 1, 1) := dk_27 (dk_at dksX3_odds_0 6 rfl rfl)
theorem dX3_odds_7 : decode cX3_odds 7 = .ok (.invokevirtual 352, 3) := dk_182 1 96 (dk_at dksX3_odds_0 7 rfl rfl)
theorem dX3_odds_10 : decode cX3_odds 10 = .ok (.ifCond .eq 27, 3) := dk_153 0 27 (dk_at dksX3_odds_0 10 rfl rfl)
theorem dX3_odds_13 : decode cX3_odds 13 = .ok (.iload_n 2, 1) := dk_28 (dk_at dksX3_odds_0 13 rfl rfl)
theorem dX3_odds_14 : decode cX3_odds 14 = .ok (.i2l, 1) := dk_133 (dk_at dksX3_odds_0 14 rfl rfl)
theorem dX3_odds_15 : decode cX3_odds 15 = .ok (.lconst 0, 1) := dk_9 (dk_at dksX3_odds_0 15 rfl rfl)
theorem dX3_odds_16 : decode cX3_odds 16 = .ok (.ldc2_w 428, 3) := dk_20 1 172 (dk_at dksX3_odds_0 16 rfl rfl)
theorem dX3_odds_19 : decode cX3_odds 19 = .ok (.invokestatic 270, 3) := dk_184 1 14 (dk_at dksX3_odds_0 19 rfl rfl)
theorem dX3_odds_22 : decode cX3_odds 22 = .ok (.ifCond .eq 15, 3) := dk_153 0 15 (dk_at dksX3_odds_1 0 rfl rfl)
theorem dX3_odds_25 : decode cX3_odds 25 = .ok (.iload_n 3, 1) := dk_29 (dk_at dksX3_odds_1 3 rfl rfl)
theorem dX3_odds_26 : decode cX3_odds 26 = .ok (.i2l, 1) := dk_133 (dk_at dksX3_odds_1 4 rfl rfl)
theorem dX3_odds_27 : decode cX3_odds 27 = .ok (.lconst 0, 1) := dk_9 (dk_at dksX3_odds_1 5 rfl rfl)
theorem dX3_odds_28 : decode cX3_odds 28 = .ok (.ldc2_w 428, 3) := dk_20 1 172 (dk_at dksX3_odds_1 6 rfl rfl)
theorem dX3_odds_31 : decode cX3_odds 31 = .ok (.invokestatic 270, 3) := dk_184 1 14 (dk_at dksX3_odds_1 9 rfl rfl)
theorem dX3_odds_34 : decode cX3_odds 34 = .ok (.ifCond .ne 5, 3) := dk_154 0 5 (dk_at dksX3_odds_1 12 rfl rfl)
theorem dX3_odds_37 : decode cX3_odds 37 = .ok (.iconst (-1), 1) := dk_2 (dk_at dksX3_odds_1 15 rfl rfl)
theorem dX3_odds_38 : decode cX3_odds 38 = .ok (.ireturn, 1) := dk_172 (dk_at dksX3_odds_1 16 rfl rfl)
theorem dX3_odds_39 : decode cX3_odds 39 = .ok (.ldc2_w 430, 3) := dk_20 1 174 (dk_at dksX3_odds_1 17 rfl rfl)
theorem dX3_odds_42 : decode cX3_odds 42 = .ok (.iload_n 2, 1) := dk_28 (dk_at dksX3_odds_1 20 rfl rfl)
theorem dX3_odds_43 : decode cX3_odds 43 = .ok (.i2l, 1) := dk_133 (dk_at dksX3_odds_1 21 rfl rfl)
theorem dX3_odds_44 : decode cX3_odds 44 = .ok (.lmul, 1) := dk_105 (dk_at dksX3_odds_1 22 rfl rfl)
theorem dX3_odds_45 : decode cX3_odds 45 = .ok (.ldc2_w 428, 3) := dk_20 1 172 (dk_at dksX3_odds_2 0 rfl rfl)
theorem dX3_odds_48 : decode cX3_odds 48 = .ok (.ldiv, 1) := dk_109 (dk_at dksX3_odds_2 3 rfl rfl)
theorem dX3_odds_49 : decode cX3_odds 49 = .ok (.l2i, 1) := dk_136 (dk_at dksX3_odds_2 4 rfl rfl)
theorem dX3_odds_50 : decode cX3_odds 50 = .ok (.istore 4, 2) := dk_54 4 (dk_at dksX3_odds_2 5 rfl rfl)
theorem dX3_odds_52 : decode cX3_odds 52 = .ok (.ldc_w 432, 3) := dk_19 1 176 (dk_at dksX3_odds_2 7 rfl rfl)
theorem dX3_odds_55 : decode cX3_odds 55 = .ok (.iload 4, 2) := dk_21 4 (dk_at dksX3_odds_2 10 rfl rfl)
theorem dX3_odds_57 : decode cX3_odds 57 = .ok (.isub, 1) := dk_100 (dk_at dksX3_odds_2 12 rfl rfl)
theorem dX3_odds_58 : decode cX3_odds 58 = .ok (.istore 5, 2) := dk_54 5 (dk_at dksX3_odds_2 13 rfl rfl)
theorem dX3_odds_60 : decode cX3_odds 60 = .ok (.iload 4, 2) := dk_21 4 (dk_at dksX3_odds_2 15 rfl rfl)
theorem dX3_odds_62 : decode cX3_odds 62 = .ok (.i2l, 1) := dk_133 (dk_at dksX3_odds_2 17 rfl rfl)
theorem dX3_odds_63 : decode cX3_odds 63 = .ok (.iload_n 3, 1) := dk_29 (dk_at dksX3_odds_2 18 rfl rfl)
theorem dX3_odds_64 : decode cX3_odds 64 = .ok (.i2l, 1) := dk_133 (dk_at dksX3_odds_2 19 rfl rfl)
theorem dX3_odds_65 : decode cX3_odds 65 = .ok (.lmul, 1) := dk_105 (dk_at dksX3_odds_2 20 rfl rfl)
theorem dX3_odds_66 : decode cX3_odds 66 = .ok (.ldc2_w 428, 3) := dk_20 1 172 (dk_at dksX3_odds_2 21 rfl rfl)
theorem dX3_odds_69 : decode cX3_odds 69 = .ok (.ldiv, 1) := dk_109 (dk_at dksX3_odds_3 0 rfl rfl)
theorem dX3_odds_70 : decode cX3_odds 70 = .ok (.l2i, 1) := dk_136 (dk_at dksX3_odds_3 1 rfl rfl)
theorem dX3_odds_71 : decode cX3_odds 71 = .ok (.istore 6, 2) := dk_54 6 (dk_at dksX3_odds_3 2 rfl rfl)
theorem dX3_odds_73 : decode cX3_odds 73 = .ok (.iload 5, 2) := dk_21 5 (dk_at dksX3_odds_3 4 rfl rfl)
theorem dX3_odds_75 : decode cX3_odds 75 = .ok (.i2l, 1) := dk_133 (dk_at dksX3_odds_3 6 rfl rfl)
theorem dX3_odds_76 : decode cX3_odds 76 = .ok (.iload_n 3, 1) := dk_29 (dk_at dksX3_odds_3 7 rfl rfl)
theorem dX3_odds_77 : decode cX3_odds 77 = .ok (.i2l, 1) := dk_133 (dk_at dksX3_odds_3 8 rfl rfl)
theorem dX3_odds_78 : decode cX3_odds 78 = .ok (.lmul, 1) := dk_105 (dk_at dksX3_odds_3 9 rfl rfl)
theorem dX3_odds_79 : decode cX3_odds 79 = .ok (.ldc2_w 428, 3) := dk_20 1 172 (dk_at dksX3_odds_3 10 rfl rfl)
theorem dX3_odds_82 : decode cX3_odds 82 = .ok (.ldiv, 1) := dk_109 (dk_at dksX3_odds_3 13 rfl rfl)
theorem dX3_odds_83 : decode cX3_odds 83 = .ok (.l2i, 1) := dk_136 (dk_at dksX3_odds_3 14 rfl rfl)
theorem dX3_odds_84 : decode cX3_odds 84 = .ok (.istore 7, 2) := dk_54 7 (dk_at dksX3_odds_3 15 rfl rfl)
theorem dX3_odds_86 : decode cX3_odds 86 = .ok (.aload_n 0, 1) := dk_42 (dk_at dksX3_odds_3 17 rfl rfl)
theorem dX3_odds_87 : decode cX3_odds 87 = .ok (.iload_n 1, 1) := dk_27 (dk_at dksX3_odds_3 18 rfl rfl)
theorem dX3_odds_88 : decode cX3_odds 88 = .ok (.iconst 1, 1) := dk_4 (dk_at dksX3_odds_3 19 rfl rfl)
theorem dX3_odds_89 : decode cX3_odds 89 = .ok (.iconst 1, 1) := dk_4 (dk_at dksX3_odds_3 20 rfl rfl)
theorem dX3_odds_90 : decode cX3_odds 90 = .ok (.iload 6, 2) := dk_21 6 (dk_at dksX3_odds_3 21 rfl rfl)
theorem dX3_odds_92 : decode cX3_odds 92 = .ok (.invokevirtual 433, 3) := dk_182 1 177 (dk_at dksX3_odds_4 0 rfl rfl)
theorem dX3_odds_95 : decode cX3_odds 95 = .ok (.aload_n 0, 1) := dk_42 (dk_at dksX3_odds_4 3 rfl rfl)
theorem dX3_odds_96 : decode cX3_odds 96 = .ok (.iload_n 1, 1) := dk_27 (dk_at dksX3_odds_4 4 rfl rfl)
theorem dX3_odds_97 : decode cX3_odds 97 = .ok (.iconst 1, 1) := dk_4 (dk_at dksX3_odds_4 5 rfl rfl)
theorem dX3_odds_98 : decode cX3_odds 98 = .ok (.iconst 0, 1) := dk_3 (dk_at dksX3_odds_4 6 rfl rfl)
theorem dX3_odds_99 : decode cX3_odds 99 = .ok (.iload 4, 2) := dk_21 4 (dk_at dksX3_odds_4 7 rfl rfl)
theorem dX3_odds_101 : decode cX3_odds 101 = .ok (.iload 6, 2) := dk_21 6 (dk_at dksX3_odds_4 9 rfl rfl)
theorem dX3_odds_103 : decode cX3_odds 103 = .ok (.isub, 1) := dk_100 (dk_at dksX3_odds_4 11 rfl rfl)
theorem dX3_odds_104 : decode cX3_odds 104 = .ok (.invokevirtual 433, 3) := dk_182 1 177 (dk_at dksX3_odds_4 12 rfl rfl)
theorem dX3_odds_107 : decode cX3_odds 107 = .ok (.iadd, 1) := dk_96 (dk_at dksX3_odds_4 15 rfl rfl)
theorem dX3_odds_108 : decode cX3_odds 108 = .ok (.aload_n 0, 1) := dk_42 (dk_at dksX3_odds_4 16 rfl rfl)
theorem dX3_odds_109 : decode cX3_odds 109 = .ok (.iload_n 1, 1) := dk_27 (dk_at dksX3_odds_4 17 rfl rfl)
theorem dX3_odds_110 : decode cX3_odds 110 = .ok (.iconst 0, 1) := dk_3 (dk_at dksX3_odds_4 18 rfl rfl)
theorem dX3_odds_111 : decode cX3_odds 111 = .ok (.iconst 1, 1) := dk_4 (dk_at dksX3_odds_4 19 rfl rfl)
theorem dX3_odds_112 : decode cX3_odds 112 = .ok (.iload 7, 2) := dk_21 7 (dk_at dksX3_odds_4 20 rfl rfl)
theorem dX3_odds_114 : decode cX3_odds 114 = .ok (.invokevirtual 433, 3) := dk_182 1 177 (dk_at dksX3_odds_5 0 rfl rfl)
theorem dX3_odds_117 : decode cX3_odds 117 = .ok (.iadd, 1) := dk_96 (dk_at dksX3_odds_5 3 rfl rfl)
theorem dX3_odds_118 : decode cX3_odds 118 = .ok (.aload_n 0, 1) := dk_42 (dk_at dksX3_odds_5 4 rfl rfl)
theorem dX3_odds_119 : decode cX3_odds 119 = .ok (.iload_n 1, 1) := dk_27 (dk_at dksX3_odds_5 5 rfl rfl)
theorem dX3_odds_120 : decode cX3_odds 120 = .ok (.iconst 0, 1) := dk_3 (dk_at dksX3_odds_5 6 rfl rfl)
theorem dX3_odds_121 : decode cX3_odds 121 = .ok (.iconst 0, 1) := dk_3 (dk_at dksX3_odds_5 7 rfl rfl)
theorem dX3_odds_122 : decode cX3_odds 122 = .ok (.iload 5, 2) := dk_21 5 (dk_at dksX3_odds_5 8 rfl rfl)
theorem dX3_odds_124 : decode cX3_odds 124 = .ok (.iload 7, 2) := dk_21 7 (dk_at dksX3_odds_5 10 rfl rfl)
theorem dX3_odds_126 : decode cX3_odds 126 = .ok (.isub, 1) := dk_100 (dk_at dksX3_odds_5 12 rfl rfl)
theorem dX3_odds_127 : decode cX3_odds 127 = .ok (.invokevirtual 433, 3) := dk_182 1 177 (dk_at dksX3_odds_5 13 rfl rfl)
theorem dX3_odds_130 : decode cX3_odds 130 = .ok (.iadd, 1) := dk_96 (dk_at dksX3_odds_5 16 rfl rfl)
theorem dX3_odds_131 : decode cX3_odds 131 = .ok (.ireturn, 1) := dk_172 (dk_at dksX3_odds_5 17 rfl rfl)
abbrev cX3_lostBy : ByteArray := prog_14_method_92_code
def yX3_lostBy : MethodName := ⟨RX3, "lostBy", "(IIII)I"⟩
def dkwX3_lostBy_1 : List UInt8 := [167, 0, 4, 3, 182, 1, 76, 4, 160, 0, 8, 21, 4, 167, 0, 4, 3, 172]
abbrev dktX3_lostBy_1 : List UInt8 := dkwX3_lostBy_1 ++ []
def dkwX3_lostBy_0 : List UInt8 := [42, 42, 180, 0, 61, 27, 28, 4, 160, 0, 7, 4, 167, 0, 4, 3, 29, 4, 160, 0, 7, 4]
abbrev dktX3_lostBy_0 : List UInt8 := dkwX3_lostBy_0 ++ dktX3_lostBy_1
theorem dksX3_lostBy_0 : cX3_lostBy.data.toList.drop 0 = dktX3_lostBy_0 := by decide +kernel
theorem dksX3_lostBy_1 : cX3_lostBy.data.toList.drop 22 = dktX3_lostBy_1 := dk_seg dksX3_lostBy_0 22 rfl rfl
theorem dX3_lostBy_0 : decode cX3_lostBy 0 = .ok (.aload_n 0, 1) := dk_42 (dk_at dksX3_lostBy_0 0 rfl rfl)
theorem dX3_lostBy_1 : decode cX3_lostBy 1 = .ok (.aload_n 0, 1) := dk_42 (dk_at dksX3_lostBy_0 1 rfl rfl)
theorem dX3_lostBy_2 : decode cX3_lostBy 2 = .ok (.getfield 61, 3) := dk_180 0 61 (dk_at dksX3_lostBy_0 2 rfl rfl)
theorem dX3_lostBy_5 : decode cX3_lostBy 5 = .ok (.iload_n 1, 1) := dk_27 (dk_at dksX3_lostBy_0 5 rfl rfl)
theorem dX3_lostBy_6 : decode cX3_lostBy 6 = .ok (.iload_n 2, 1) := dk_28 (dk_at dksX3_lostBy_0 6 rfl rfl)
theorem dX3_lostBy_7 : decode cX3_lostBy 7 = .ok (.iconst 1, 1) := dk_4 (dk_at dksX3_lostBy_0 7 rfl rfl)
theorem dX3_lostBy_8 : decode cX3_lostBy 8 = .ok (.if_icmp .ne 7, 3) := dk_160 0 7 (dk_at dksX3_lostBy_0 8 rfl rfl)
theorem dX3_lostBy_11 : decode cX3_lostBy 11 = .ok (.iconst 1, 1) := dk_4 (dk_at dksX3_lostBy_0 11 rfl rfl)
theorem dX3_lostBy_12 : decode cX3_lostBy 12 = .ok (.goto 4, 3) := dk_167 0 4 (dk_at dksX3_lostBy_0 12 rfl rfl)
theorem dX3_lostBy_15 : decode cX3_lostBy 15 = .ok (.iconst 0, 1) := dk_3 (dk_at dksX3_lostBy_0 15 rfl rfl)
theorem dX3_lostBy_16 : decode cX3_lostBy 16 = .ok (.iload_n 3, 1) := dk_29 (dk_at dksX3_lostBy_0 16 rfl rfl)
theorem dX3_lostBy_17 : decode cX3_lostBy 17 = .ok (.iconst 1, 1) := dk_4 (dk_at dksX3_lostBy_0 17 rfl rfl)
theorem dX3_lostBy_18 : decode cX3_lostBy 18 = .ok (.if_icmp .ne 7, 3) := dk_160 0 7 (dk_at dksX3_lostBy_0 18 rfl rfl)
theorem dX3_lostBy_21 : decode cX3_lostBy 21 = .ok (.iconst 1, 1) := dk_4 (dk_at dksX3_lostBy_0 21 rfl rfl)
theorem dX3_lostBy_22 : decode cX3_lostBy 22 = .ok (.goto 4, 3) := dk_167 0 4 (dk_at dksX3_lostBy_1 0 rfl rfl)
theorem dX3_lostBy_25 : decode cX3_lostBy 25 = .ok (.iconst 0, 1) := dk_3 (dk_at dksX3_lostBy_1 3 rfl rfl)
theorem dX3_lostBy_26 : decode cX3_lostBy 26 = .ok (.invokevirtual 332, 3) := dk_182 1 76 (dk_at dksX3_lostBy_1 4 rfl rfl)
theorem dX3_lostBy_29 : decode cX3_lostBy 29 = .ok (.iconst 1, 1) := dk_4 (dk_at dksX3_lostBy_1 7 rfl rfl)
theorem dX3_lostBy_30 : decode cX3_lostBy 30 = .ok (.if_icmp .ne 8, 3) := dk_160 0 8 (dk_at dksX3_lostBy_1 8 rfl rfl)
theorem dX3_lostBy_33 : decode cX3_lostBy 33 = .ok (.iload 4, 2) := dk_21 4 (dk_at dksX3_lostBy_1 11 rfl rfl)
theorem dX3_lostBy_35 : decode cX3_lostBy 35 = .ok (.goto 4, 3) := dk_167 0 4 (dk_at dksX3_lostBy_1 13 rfl rfl)
theorem dX3_lostBy_38 : decode cX3_lostBy 38 = .ok (.iconst 0, 1) := dk_3 (dk_at dksX3_lostBy_1 16 rfl rfl)
theorem dX3_lostBy_39 : decode cX3_lostBy 39 = .ok (.ireturn, 1) := dk_172 (dk_at dksX3_lostBy_1 17 rfl rfl)
abbrev cX3_shares : ByteArray := prog_14_method_94_code
def yX3_shares : MethodName := ⟨RX3, "shares", "(II)I"⟩
def dkwX3_shares_2 : List UInt8 := [27, 184, 1, 60, 104, 42, 180, 0, 61, 16, 19, 46, 108, 172]
abbrev dktX3_shares_2 : List UInt8 := dkwX3_shares_2 ++ []
def dkwX3_shares_1 : List UInt8 := [154, 0, 5, 2, 172, 42, 180, 0, 61, 16, 19, 46, 154, 0, 7, 3, 167, 0, 21, 28, 42, 180, 0, 61]
abbrev dktX3_shares_1 : List UInt8 := dkwX3_shares_1 ++ dktX3_shares_2
def dkwX3_shares_0 : List UInt8 := [42, 3, 181, 0, 99, 42, 27, 182, 1, 91, 153, 0, 15, 28, 133, 9, 20, 1, 180, 184, 1, 14]
abbrev dktX3_shares_0 : List UInt8 := dkwX3_shares_0 ++ dktX3_shares_1
theorem dksX3_shares_0 : cX3_shares.data.toList.drop 0 = dktX3_shares_0 := by decide +kernel
theorem dksX3_shares_1 : cX3_shares.data.toList.drop 22 = dktX3_shares_1 := dk_seg dksX3_shares_0 22 rfl rfl
theorem dksX3_shares_2 : cX3_shares.data.toList.drop 46 = dktX3_shares_2 := dk_seg dksX3_shares_1 24 rfl rfl
theorem dX3_shares_0 : decode cX3_shares 0 = .ok (.aload_n 0, 1) := dk_42 (dk_at dksX3_shares_0 0 rfl rfl)
theorem dX3_shares_1 : decode cX3_shares 1 = .ok (.iconst 0, 1) := dk_3 (dk_at dksX3_shares_0 1 rfl rfl)
theorem dX3_shares_2 : decode cX3_shares 2 = .ok (.putfield 99, 3) := dk_181 0 99 (dk_at dksX3_shares_0 2 rfl rfl)
theorem dX3_shares_5 : decode cX3_shares 5 = .ok (.aload_n 0, 1) := dk_42 (dk_at dksX3_shares_0 5 rfl rfl)
theorem dX3_shares_6 : decode cX3_shares 6 = .ok (.iload_n 1, 1) := dk_27 (dk_at dksX3_shares_0 6 rfl rfl)
theorem dX3_shares_7 : decode cX3_shares 7 = .ok (.invokevirtual 347, 3) := dk_182 1 91 (dk_at dksX3_shares_0 7 rfl rfl)
theorem dX3_shares_10 : decode cX3_shares 10 = .ok (.ifCond .eq 15, 3) := dk_153 0 15 (dk_at dksX3_shares_0 10 rfl rfl)
theorem dX3_shares_13 : decode cX3_shares 13 = .ok (.iload_n 2, 1) := dk_28 (dk_at dksX3_shares_0 13 rfl rfl)
theorem dX3_shares_14 : decode cX3_shares 14 = .ok (.i2l, 1) := dk_133 (dk_at dksX3_shares_0 14 rfl rfl)
theorem dX3_shares_15 : decode cX3_shares 15 = .ok (.lconst 0, 1) := dk_9 (dk_at dksX3_shares_0 15 rfl rfl)
theorem dX3_shares_16 : decode cX3_shares 16 = .ok (.ldc2_w 436, 3) := dk_20 1 180 (dk_at dksX3_shares_0 16 rfl rfl)
theorem dX3_shares_19 : decode cX3_shares 19 = .ok (.invokestatic 270, 3) := dk_184 1 14 (dk_at dksX3_shares_0 19 rfl rfl)
theorem dX3_shares_22 : decode cX3_shares 22 = .ok (.ifCond .ne 5, 3) := dk_154 0 5 (dk_at dksX3_shares_1 0 rfl rfl)
theorem dX3_shares_25 : decode cX3_shares 25 = .ok (.iconst (-1), 1) := dk_2 (dk_at dksX3_shares_1 3 rfl rfl)
theorem dX3_shares_26 : decode cX3_shares 26 = .ok (.ireturn, 1) := dk_172 (dk_at dksX3_shares_1 4 rfl rfl)
theorem dX3_shares_27 : decode cX3_shares 27 = .ok (.aload_n 0, 1) := dk_42 (dk_at dksX3_shares_1 5 rfl rfl)
theorem dX3_shares_28 : decode cX3_shares 28 = .ok (.getfield 61, 3) := dk_180 0 61 (dk_at dksX3_shares_1 6 rfl rfl)
theorem dX3_shares_31 : decode cX3_shares 31 = .ok (.bipush 19, 2) := dk_16 19 (dk_at dksX3_shares_1 9 rfl rfl)
theorem dX3_shares_33 : decode cX3_shares 33 = .ok (.iaload, 1) := dk_46 (dk_at dksX3_shares_1 11 rfl rfl)
theorem dX3_shares_34 : decode cX3_shares 34 = .ok (.ifCond .ne 7, 3) := dk_154 0 7 (dk_at dksX3_shares_1 12 rfl rfl)
theorem dX3_shares_37 : decode cX3_shares 37 = .ok (.iconst 0, 1) := dk_3 (dk_at dksX3_shares_1 15 rfl rfl)
theorem dX3_shares_38 : decode cX3_shares 38 = .ok (.goto 21, 3) := dk_167 0 21 (dk_at dksX3_shares_1 16 rfl rfl)
theorem dX3_shares_41 : decode cX3_shares 41 = .ok (.iload_n 2, 1) := dk_28 (dk_at dksX3_shares_1 19 rfl rfl)
theorem dX3_shares_42 : decode cX3_shares 42 = .ok (.aload_n 0, 1) := dk_42 (dk_at dksX3_shares_1 20 rfl rfl)
theorem dX3_shares_43 : decode cX3_shares 43 = .ok (.getfield 61, 3) := dk_180 0 61 (dk_at dksX3_shares_1 21 rfl rfl)
theorem dX3_shares_46 : decode cX3_shares 46 = .ok (.iload_n 1, 1) := dk_27 (dk_at dksX3_shares_2 0 rfl rfl)
theorem dX3_shares_47 : decode cX3_shares 47 = .ok (.invokestatic 316, 3) := dk_184 1 60 (dk_at dksX3_shares_2 1 rfl rfl)
theorem dX3_shares_50 : decode cX3_shares 50 = .ok (.imul, 1) := dk_104 (dk_at dksX3_shares_2 4 rfl rfl)
theorem dX3_shares_51 : decode cX3_shares 51 = .ok (.aload_n 0, 1) := dk_42 (dk_at dksX3_shares_2 5 rfl rfl)
theorem dX3_shares_52 : decode cX3_shares 52 = .ok (.getfield 61, 3) := dk_180 0 61 (dk_at dksX3_shares_2 6 rfl rfl)
theorem dX3_shares_55 : decode cX3_shares 55 = .ok (.bipush 19, 2) := dk_16 19 (dk_at dksX3_shares_2 9 rfl rfl)
theorem dX3_shares_57 : decode cX3_shares 57 = .ok (.iaload, 1) := dk_46 (dk_at dksX3_shares_2 11 rfl rfl)
theorem dX3_shares_58 : decode cX3_shares 58 = .ok (.idiv, 1) := dk_108 (dk_at dksX3_shares_2 12 rfl rfl)
theorem dX3_shares_59 : decode cX3_shares 59 = .ok (.ireturn, 1) := dk_172 (dk_at dksX3_shares_2 13 rfl rfl)
abbrev cX3_all : ByteArray := prog_14_method_101_code
def yX3_all : MethodName := ⟨RX3, "all", "(I)I"⟩
def dkwX3_all_6 : List UInt8 := [2, 130, 126, 172, 2, 172]
abbrev dktX3_all_6 : List UInt8 := dkwX3_all_6 ++ []
def dkwX3_all_5 : List UInt8 := [180, 1, 38, 112, 172, 42, 4, 182, 1, 198, 172, 4, 42, 180, 1, 38, 120, 4, 100, 42, 3, 182, 1, 198]
abbrev dktX3_all_5 : List UInt8 := dkwX3_all_5 ++ dktX3_all_6
def dkwX3_all_4 : List UInt8 := [167, 255, 232, 28, 172, 42, 182, 1, 192, 172, 42, 182, 1, 195, 172, 42, 180, 0, 61, 16, 18, 46, 42]
abbrev dktX3_all_4 : List UInt8 := dkwX3_all_4 ++ dktX3_all_5
def dkwX3_all_3 : List UInt8 := [180, 1, 35, 162, 0, 22, 28, 42, 180, 0, 61, 7, 29, 104, 6, 96, 46, 96, 61, 132, 3, 1]
abbrev dktX3_all_3 : List UInt8 := dkwX3_all_3 ++ dktX3_all_4
def dkwX3_all_2 : List UInt8 := [42, 27, 182, 1, 185, 172, 42, 3, 182, 1, 188, 172, 42, 4, 182, 1, 188, 172, 3, 61, 3, 62, 29, 42]
abbrev dktX3_all_2 : List UInt8 := dkwX3_all_2 ++ dktX3_all_3
def dkwX3_all_1 : List UInt8 := [170, 0, 0, 0, 162, 0, 0, 0, 0, 0, 0, 0, 12, 0, 0, 0, 65, 0, 0, 0, 65, 0, 0, 0, 65, 0, 0, 0, 65, 0, 0, 0, 65, 0, 0, 0, 71, 0, 0, 0, 77, 0, 0, 0, 83, 0, 0, 0, 116, 0, 0, 0, 121, 0, 0, 0, 126, 0, 0, 0, 139, 0, 0, 0, 145]
abbrev dktX3_all_1 : List UInt8 := dkwX3_all_1 ++ dktX3_all_2
def dkwX3_all_0 : List UInt8 := [42, 3, 181, 0, 99, 42, 180, 1, 35, 154, 0, 5, 2, 172, 27]
abbrev dktX3_all_0 : List UInt8 := dkwX3_all_0 ++ dktX3_all_1
theorem dksX3_all_0 : cX3_all.data.toList.drop 0 = dktX3_all_0 := by decide +kernel
theorem dksX3_all_1 : cX3_all.data.toList.drop 15 = dktX3_all_1 := dk_seg dksX3_all_0 15 rfl rfl
theorem dksX3_all_2 : cX3_all.data.toList.drop 80 = dktX3_all_2 := dk_seg dksX3_all_1 65 rfl rfl
theorem dksX3_all_3 : cX3_all.data.toList.drop 104 = dktX3_all_3 := dk_seg dksX3_all_2 24 rfl rfl
theorem dksX3_all_4 : cX3_all.data.toList.drop 126 = dktX3_all_4 := dk_seg dksX3_all_3 22 rfl rfl
theorem dksX3_all_5 : cX3_all.data.toList.drop 149 = dktX3_all_5 := dk_seg dksX3_all_4 23 rfl rfl
theorem dksX3_all_6 : cX3_all.data.toList.drop 173 = dktX3_all_6 := dk_seg dksX3_all_5 24 rfl rfl
theorem dX3_all_0 : decode cX3_all 0 = .ok (.aload_n 0, 1) := dk_42 (dk_at dksX3_all_0 0 rfl rfl)
theorem dX3_all_1 : decode cX3_all 1 = .ok (.iconst 0, 1) := dk_3 (dk_at dksX3_all_0 1 rfl rfl)
theorem dX3_all_2 : decode cX3_all 2 = .ok (.putfield 99, 3) := dk_181 0 99 (dk_at dksX3_all_0 2 rfl rfl)
theorem dX3_all_5 : decode cX3_all 5 = .ok (.aload_n 0, 1) := dk_42 (dk_at dksX3_all_0 5 rfl rfl)
theorem dX3_all_6 : decode cX3_all 6 = .ok (.getfield 291, 3) := dk_180 1 35 (dk_at dksX3_all_0 6 rfl rfl)
theorem dX3_all_9 : decode cX3_all 9 = .ok (.ifCond .ne 5, 3) := dk_154 0 5 (dk_at dksX3_all_0 9 rfl rfl)
theorem dX3_all_12 : decode cX3_all 12 = .ok (.iconst (-1), 1) := dk_2 (dk_at dksX3_all_0 12 rfl rfl)
theorem dX3_all_13 : decode cX3_all 13 = .ok (.ireturn, 1) := dk_172 (dk_at dksX3_all_0 13 rfl rfl)
theorem dX3_all_14 : decode cX3_all 14 = .ok (.iload_n 1, 1) := dk_27 (dk_at dksX3_all_0 14 rfl rfl)
theorem dX3_all_15 : decode cX3_all 15 = .ok (.tableswitch 162 0 12 #[65, 65, 65, 65, 65, 71, 77, 83, 116, 121, 126, 139, 145], 65) := by decide +kernel
theorem dX3_all_80 : decode cX3_all 80 = .ok (.aload_n 0, 1) := dk_42 (dk_at dksX3_all_2 0 rfl rfl)
theorem dX3_all_81 : decode cX3_all 81 = .ok (.iload_n 1, 1) := dk_27 (dk_at dksX3_all_2 1 rfl rfl)
theorem dX3_all_82 : decode cX3_all 82 = .ok (.invokevirtual 441, 3) := dk_182 1 185 (dk_at dksX3_all_2 2 rfl rfl)
theorem dX3_all_85 : decode cX3_all 85 = .ok (.ireturn, 1) := dk_172 (dk_at dksX3_all_2 5 rfl rfl)
theorem dX3_all_86 : decode cX3_all 86 = .ok (.aload_n 0, 1) := dk_42 (dk_at dksX3_all_2 6 rfl rfl)
theorem dX3_all_87 : decode cX3_all 87 = .ok (.iconst 0, 1) := dk_3 (dk_at dksX3_all_2 7 rfl rfl)
theorem dX3_all_88 : decode cX3_all 88 = .ok (.invokevirtual 444, 3) := dk_182 1 188 (dk_at dksX3_all_2 8 rfl rfl)
theorem dX3_all_91 : decode cX3_all 91 = .ok (.ireturn, 1) := dk_172 (dk_at dksX3_all_2 11 rfl rfl)
theorem dX3_all_92 : decode cX3_all 92 = .ok (.aload_n 0, 1) := dk_42 (dk_at dksX3_all_2 12 rfl rfl)
theorem dX3_all_93 : decode cX3_all 93 = .ok (.iconst 1, 1) := dk_4 (dk_at dksX3_all_2 13 rfl rfl)
theorem dX3_all_94 : decode cX3_all 94 = .ok (.invokevirtual 444, 3) := dk_182 1 188 (dk_at dksX3_all_2 14 rfl rfl)
theorem dX3_all_97 : decode cX3_all 97 = .ok (.ireturn, 1) := dk_172 (dk_at dksX3_all_2 17 rfl rfl)
theorem dX3_all_98 : decode cX3_all 98 = .ok (.iconst 0, 1) := dk_3 (dk_at dksX3_all_2 18 rfl rfl)
theorem dX3_all_99 : decode cX3_all 99 = .ok (.istore_n 2, 1) := dk_61 (dk_at dksX3_all_2 19 rfl rfl)
theorem dX3_all_100 : decode cX3_all 100 = .ok (.iconst 0, 1) := dk_3 (dk_at dksX3_all_2 20 rfl rfl)
theorem dX3_all_101 : decode cX3_all 101 = .ok (.istore_n 3, 1) := dk_62 (dk_at dksX3_all_2 21 rfl rfl)
theorem dX3_all_102 : decode cX3_all 102 = .ok (.iload_n 3, 1) := dk_29 (dk_at dksX3_all_2 22 rfl rfl)
theorem dX3_all_103 : decode cX3_all 103 = .ok (.aload_n 0, 1) := dk_42 (dk_at dksX3_all_2 23 rfl rfl)
theorem dX3_all_104 : decode cX3_all 104 = .ok (.getfield 291, 3) := dk_180 1 35 (dk_at dksX3_all_3 0 rfl rfl)
theorem dX3_all_107 : decode cX3_all 107 = .ok (.if_icmp .ge 22, 3) := dk_162 0 22 (dk_at dksX3_all_3 3 rfl rfl)
theorem dX3_all_110 : decode cX3_all 110 = .ok (.iload_n 2, 1) := dk_28 (dk_at dksX3_all_3 6 rfl rfl)
theorem dX3_all_111 : decode cX3_all 111 = .ok (.aload_n 0, 1) := dk_42 (dk_at dksX3_all_3 7 rfl rfl)
theorem dX3_all_112 : decode cX3_all 112 = .ok (.getfield 61, 3) := dk_180 0 61 (dk_at dksX3_all_3 8 rfl rfl)
theorem dX3_all_115 : decode cX3_all 115 = .ok (.iconst 4, 1) := dk_7 (dk_at dksX3_all_3 11 rfl rfl)
theorem dX3_all_116 : decode cX3_all 116 = .ok (.iload_n 3, 1) := dk_29 (dk_at dksX3_all_3 12 rfl rfl)
theorem dX3_all_117 : decode cX3_all 117 = .ok (.imul, 1) := dk_104 (dk_at dksX3_all_3 13 rfl rfl)
theorem dX3_all_118 : decode cX3_all 118 = .ok (.iconst 3, 1) := dk_6 (dk_at dksX3_all_3 14 rfl rfl)
theorem dX3_all_119 : decode cX3_all 119 = .ok (.iadd, 1) := dk_96 (dk_at dksX3_all_3 15 rfl rfl)
theorem dX3_all_120 : decode cX3_all 120 = .ok (.iaload, 1) := dk_46 (dk_at dksX3_all_3 16 rfl rfl)
theorem dX3_all_121 : decode cX3_all 121 = .ok (.iadd, 1) := dk_96 (dk_at dksX3_all_3 17 rfl rfl)
theorem dX3_all_122 : decode cX3_all 122 = .ok (.istore_n 2, 1) := dk_61 (dk_at dksX3_all_3 18 rfl rfl)
theorem dX3_all_123 : decode cX3_all 123 = .ok (.iinc 3 1, 3) := dk_132 3 1 (dk_at dksX3_all_3 19 rfl rfl)
theorem dX3_all_126 : decode cX3_all 126 = .ok (.goto (-24), 3) := dk_167 255 232 (dk_at dksX3_all_4 0 rfl rfl)
theorem dX3_all_129 : decode cX3_all 129 = .ok (.iload_n 2, 1) := dk_28 (dk_at dksX3_all_4 3 rfl rfl)
theorem dX3_all_130 : decode cX3_all 130 = .ok (.ireturn, 1) := dk_172 (dk_at dksX3_all_4 4 rfl rfl)
theorem dX3_all_131 : decode cX3_all 131 = .ok (.aload_n 0, 1) := dk_42 (dk_at dksX3_all_4 5 rfl rfl)
theorem dX3_all_132 : decode cX3_all 132 = .ok (.invokevirtual 448, 3) := dk_182 1 192 (dk_at dksX3_all_4 6 rfl rfl)
theorem dX3_all_135 : decode cX3_all 135 = .ok (.ireturn, 1) := dk_172 (dk_at dksX3_all_4 9 rfl rfl)
theorem dX3_all_136 : decode cX3_all 136 = .ok (.aload_n 0, 1) := dk_42 (dk_at dksX3_all_4 10 rfl rfl)
theorem dX3_all_137 : decode cX3_all 137 = .ok (.invokevirtual 451, 3) := dk_182 1 195 (dk_at dksX3_all_4 11 rfl rfl)
theorem dX3_all_140 : decode cX3_all 140 = .ok (.ireturn, 1) := dk_172 (dk_at dksX3_all_4 14 rfl rfl)
theorem dX3_all_141 : decode cX3_all 141 = .ok (.aload_n 0, 1) := dk_42 (dk_at dksX3_all_4 15 rfl rfl)
theorem dX3_all_142 : decode cX3_all 142 = .ok (.getfield 61, 3) := dk_180 0 61 (dk_at dksX3_all_4 16 rfl rfl)
theorem dX3_all_145 : decode cX3_all 145 = .ok (.bipush 18, 2) := dk_16 18 (dk_at dksX3_all_4 19 rfl rfl)
theorem dX3_all_147 : decode cX3_all 147 = .ok (.iaload, 1) := dk_46 (dk_at dksX3_all_4 21 rfl rfl)
theorem dX3_all_148 : decode cX3_all 148 = .ok (.aload_n 0, 1) := dk_42 (dk_at dksX3_all_4 22 rfl rfl)
theorem dX3_all_149 : decode cX3_all 149 = .ok (.getfield 294, 3) := dk_180 1 38 (dk_at dksX3_all_5 0 rfl rfl)
theorem dX3_all_152 : decode cX3_all 152 = .ok (.irem, 1) := dk_112 (dk_at dksX3_all_5 3 rfl rfl)
theorem dX3_all_153 : decode cX3_all 153 = .ok (.ireturn, 1) := dk_172 (dk_at dksX3_all_5 4 rfl rfl)
theorem dX3_all_154 : decode cX3_all 154 = .ok (.aload_n 0, 1) := dk_42 (dk_at dksX3_all_5 5 rfl rfl)
theorem dX3_all_155 : decode cX3_all 155 = .ok (.iconst 1, 1) := dk_4 (dk_at dksX3_all_5 6 rfl rfl)
theorem dX3_all_156 : decode cX3_all 156 = .ok (.invokevirtual 454, 3) := dk_182 1 198 (dk_at dksX3_all_5 7 rfl rfl)
theorem dX3_all_159 : decode cX3_all 159 = .ok (.ireturn, 1) := dk_172 (dk_at dksX3_all_5 10 rfl rfl)
theorem dX3_all_160 : decode cX3_all 160 = .ok (.iconst 1, 1) := dk_4 (dk_at dksX3_all_5 11 rfl rfl)
theorem dX3_all_161 : decode cX3_all 161 = .ok (.aload_n 0, 1) := dk_42 (dk_at dksX3_all_5 12 rfl rfl)
theorem dX3_all_162 : decode cX3_all 162 = .ok (.getfield 294, 3) := dk_180 1 38 (dk_at dksX3_all_5 13 rfl rfl)
theorem dX3_all_165 : decode cX3_all 165 = .ok (.ishl, 1) := dk_120 (dk_at dksX3_all_5 16 rfl rfl)
theorem dX3_all_166 : decode cX3_all 166 = .ok (.iconst 1, 1) := dk_4 (dk_at dksX3_all_5 17 rfl rfl)
theorem dX3_all_167 : decode cX3_all 167 = .ok (.isub, 1) := dk_100 (dk_at dksX3_all_5 18 rfl rfl)
theorem dX3_all_168 : decode cX3_all 168 = .ok (.aload_n 0, 1) := dk_42 (dk_at dksX3_all_5 19 rfl rfl)
theorem dX3_all_169 : decode cX3_all 169 = .ok (.iconst 0, 1) := dk_3 (dk_at dksX3_all_5 20 rfl rfl)
theorem dX3_all_170 : decode cX3_all 170 = .ok (.invokevirtual 454, 3) := dk_182 1 198 (dk_at dksX3_all_5 21 rfl rfl)
theorem dX3_all_173 : decode cX3_all 173 = .ok (.iconst (-1), 1) := dk_2 (dk_at dksX3_all_6 0 rfl rfl)
theorem dX3_all_174 : decode cX3_all 174 = .ok (.ixor, 1) := dk_130 (dk_at dksX3_all_6 1 rfl rfl)
theorem dX3_all_175 : decode cX3_all 175 = .ok (.iand, 1) := dk_126 (dk_at dksX3_all_6 2 rfl rfl)
theorem dX3_all_176 : decode cX3_all 176 = .ok (.ireturn, 1) := dk_172 (dk_at dksX3_all_6 3 rfl rfl)
theorem dX3_all_177 : decode cX3_all 177 = .ok (.iconst (-1), 1) := dk_2 (dk_at dksX3_all_6 4 rfl rfl)
theorem dX3_all_178 : decode cX3_all 178 = .ok (.ireturn, 1) := dk_172 (dk_at dksX3_all_6 5 rfl rfl)
abbrev cX3_greatest : ByteArray := prog_14_method_96_code
def yX3_greatest : MethodName := ⟨RX3, "greatest", "(I)I"⟩
def dkwX3_greatest_1 : List UInt8 := [164, 0, 7, 29, 167, 0, 4, 28, 61, 132, 3, 1, 167, 255, 224, 28, 172]
abbrev dktX3_greatest_1 : List UInt8 := dkwX3_greatest_1 ++ []
def dkwX3_greatest_0 : List UInt8 := [3, 61, 4, 62, 29, 42, 180, 1, 35, 162, 0, 30, 42, 27, 29, 182, 1, 182, 42, 27, 28, 182, 1, 182]
abbrev dktX3_greatest_0 : List UInt8 := dkwX3_greatest_0 ++ dktX3_greatest_1
theorem dksX3_greatest_0 : cX3_greatest.data.toList.drop 0 = dktX3_greatest_0 := by decide +kernel
theorem dksX3_greatest_1 : cX3_greatest.data.toList.drop 24 = dktX3_greatest_1 := dk_seg dksX3_greatest_0 24 rfl rfl
theorem dX3_greatest_0 : decode cX3_greatest 0 = .ok (.iconst 0, 1) := dk_3 (dk_at dksX3_greatest_0 0 rfl rfl)
theorem dX3_greatest_1 : decode cX3_greatest 1 = .ok (.istore_n 2, 1) := dk_61 (dk_at dksX3_greatest_0 1 rfl rfl)
theorem dX3_greatest_2 : decode cX3_greatest 2 = .ok (.iconst 1, 1) := dk_4 (dk_at dksX3_greatest_0 2 rfl rfl)
theorem dX3_greatest_3 : decode cX3_greatest 3 = .ok (.istore_n 3, 1) := dk_62 (dk_at dksX3_greatest_0 3 rfl rfl)
theorem dX3_greatest_4 : decode cX3_greatest 4 = .ok (.iload_n 3, 1) := dk_29 (dk_at dksX3_greatest_0 4 rfl rfl)
theorem dX3_greatest_5 : decode cX3_greatest 5 = .ok (.aload_n 0, 1) := dk_42 (dk_at dksX3_greatest_0 5 rfl rfl)
theorem dX3_greatest_6 : decode cX3_greatest 6 = .ok (.getfield 291, 3) := dk_180 1 35 (dk_at dksX3_greatest_0 6 rfl rfl)
theorem dX3_greatest_9 : decode cX3_greatest 9 = .ok (.if_icmp .ge 30, 3) := dk_162 0 30 (dk_at dksX3_greatest_0 9 rfl rfl)
theorem dX3_greatest_12 : decode cX3_greatest 12 = .ok (.aload_n 0, 1) := dk_42 (dk_at dksX3_greatest_0 12 rfl rfl)
theorem dX3_greatest_13 : decode cX3_greatest 13 = .ok (.iload_n 1, 1) := dk_27 (dk_at dksX3_greatest_0 13 rfl rfl)
theorem dX3_greatest_14 : decode cX3_greatest 14 = .ok (.iload_n 3, 1) := dk_29 (dk_at dksX3_greatest_0 14 rfl rfl)
theorem dX3_greatest_15 : decode cX3_greatest 15 = .ok (.invokevirtual 438, 3) := dk_182 1 182 (dk_at dksX3_greatest_0 15 rfl rfl)
theorem dX3_greatest_18 : decode cX3_greatest 18 = .ok (.aload_n 0, 1) := dk_42 (dk_at dksX3_greatest_0 18 rfl rfl)
theorem dX3_greatest_19 : decode cX3_greatest 19 = .ok (.iload_n 1, 1) := dk_27 (dk_at dksX3_greatest_0 19 rfl rfl)
theorem dX3_greatest_20 : decode cX3_greatest 20 = .ok (.iload_n 2, 1) := dk_28 (dk_at dksX3_greatest_0 20 rfl rfl)
theorem dX3_greatest_21 : decode cX3_greatest 21 = .ok (.invokevirtual 438, 3) := dk_182 1 182 (dk_at dksX3_greatest_0 21 rfl rfl)
theorem dX3_greatest_24 : decode cX3_greatest 24 = .ok (.if_icmp .le 7, 3) := dk_164 0 7 (dk_at dksX3_greatest_1 0 rfl rfl)
theorem dX3_greatest_27 : decode cX3_greatest 27 = .ok (.iload_n 3, 1) := dk_29 (dk_at dksX3_greatest_1 3 rfl rfl)
theorem dX3_greatest_28 : decode cX3_greatest 28 = .ok (.goto 4, 3) := dk_167 0 4 (dk_at dksX3_greatest_1 4 rfl rfl)
theorem dX3_greatest_31 : decode cX3_greatest 31 = .ok (.iload_n 2, 1) := dk_28 (dk_at dksX3_greatest_1 7 rfl rfl)
theorem dX3_greatest_32 : decode cX3_greatest 32 = .ok (.istore_n 2, 1) := dk_61 (dk_at dksX3_greatest_1 8 rfl rfl)
theorem dX3_greatest_33 : decode cX3_greatest 33 = .ok (.iinc 3 1, 3) := dk_132 3 1 (dk_at dksX3_greatest_1 9 rfl rfl)
theorem dX3_greatest_36 : decode cX3_greatest 36 = .ok (.goto (-32), 3) := dk_167 255 224 (dk_at dksX3_greatest_1 12 rfl rfl)
theorem dX3_greatest_39 : decode cX3_greatest 39 = .ok (.iload_n 2, 1) := dk_28 (dk_at dksX3_greatest_1 15 rfl rfl)
theorem dX3_greatest_40 : decode cX3_greatest 40 = .ok (.ireturn, 1) := dk_172 (dk_at dksX3_greatest_1 16 rfl rfl)
abbrev cX3_valueOf : ByteArray := prog_14_method_95_code
def yX3_valueOf : MethodName := ⟨RX3, "valueOf", "(II)I"⟩
def dkwX3_valueOf_1 : List UInt8 := [184, 1, 60, 172]
abbrev dktX3_valueOf_1 : List UInt8 := dkwX3_valueOf_1 ++ []
def dkwX3_valueOf_0 : List UInt8 := [27, 7, 162, 0, 16, 42, 180, 0, 61, 7, 28, 104, 27, 96, 46, 167, 0, 11, 42, 180, 0, 61, 28]
abbrev dktX3_valueOf_0 : List UInt8 := dkwX3_valueOf_0 ++ dktX3_valueOf_1
theorem dksX3_valueOf_0 : cX3_valueOf.data.toList.drop 0 = dktX3_valueOf_0 := by decide +kernel
theorem dksX3_valueOf_1 : cX3_valueOf.data.toList.drop 23 = dktX3_valueOf_1 := dk_seg dksX3_valueOf_0 23 rfl rfl
theorem dX3_valueOf_0 : decode cX3_valueOf 0 = .ok (.iload_n 1, 1) := dk_27 (dk_at dksX3_valueOf_0 0 rfl rfl)
theorem dX3_valueOf_1 : decode cX3_valueOf 1 = .ok (.iconst 4, 1) := dk_7 (dk_at dksX3_valueOf_0 1 rfl rfl)
theorem dX3_valueOf_2 : decode cX3_valueOf 2 = .ok (.if_icmp .ge 16, 3) := dk_162 0 16 (dk_at dksX3_valueOf_0 2 rfl rfl)
theorem dX3_valueOf_5 : decode cX3_valueOf 5 = .ok (.aload_n 0, 1) := dk_42 (dk_at dksX3_valueOf_0 5 rfl rfl)
theorem dX3_valueOf_6 : decode cX3_valueOf 6 = .ok (.getfield 61, 3) := dk_180 0 61 (dk_at dksX3_valueOf_0 6 rfl rfl)
theorem dX3_valueOf_9 : decode cX3_valueOf 9 = .ok (.iconst 4, 1) := dk_7 (dk_at dksX3_valueOf_0 9 rfl rfl)
theorem dX3_valueOf_10 : decode cX3_valueOf 10 = .ok (.iload_n 2, 1) := dk_28 (dk_at dksX3_valueOf_0 10 rfl rfl)
theorem dX3_valueOf_11 : decode cX3_valueOf 11 = .ok (.imul, 1) := dk_104 (dk_at dksX3_valueOf_0 11 rfl rfl)
theorem dX3_valueOf_12 : decode cX3_valueOf 12 = .ok (.iload_n 1, 1) := dk_27 (dk_at dksX3_valueOf_0 12 rfl rfl)
theorem dX3_valueOf_13 : decode cX3_valueOf 13 = .ok (.iadd, 1) := dk_96 (dk_at dksX3_valueOf_0 13 rfl rfl)
theorem dX3_valueOf_14 : decode cX3_valueOf 14 = .ok (.iaload, 1) := dk_46 (dk_at dksX3_valueOf_0 14 rfl rfl)
theorem dX3_valueOf_15 : decode cX3_valueOf 15 = .ok (.goto 11, 3) := dk_167 0 11 (dk_at dksX3_valueOf_0 15 rfl rfl)
theorem dX3_valueOf_18 : decode cX3_valueOf 18 = .ok (.aload_n 0, 1) := dk_42 (dk_at dksX3_valueOf_0 18 rfl rfl)
theorem dX3_valueOf_19 : decode cX3_valueOf 19 = .ok (.getfield 61, 3) := dk_180 0 61 (dk_at dksX3_valueOf_0 19 rfl rfl)
theorem dX3_valueOf_22 : decode cX3_valueOf 22 = .ok (.iload_n 2, 1) := dk_28 (dk_at dksX3_valueOf_0 22 rfl rfl)
theorem dX3_valueOf_23 : decode cX3_valueOf 23 = .ok (.invokestatic 316, 3) := dk_184 1 60 (dk_at dksX3_valueOf_1 0 rfl rfl)
theorem dX3_valueOf_26 : decode cX3_valueOf 26 = .ok (.ireturn, 1) := dk_172 (dk_at dksX3_valueOf_1 3 rfl rfl)
abbrev cX3_writers : ByteArray := prog_14_method_98_code
def yX3_writers : MethodName := ⟨RX3, "writers", "(Z)I"⟩
def dkwX3_writers_3 : List UInt8 := [120, 167, 0, 4, 3, 128, 61, 132, 3, 1, 167, 255, 178, 28, 172]
abbrev dktX3_writers_3 : List UInt8 := dkwX3_writers_3 ++ []
def dkwX3_writers_2 : List UInt8 := [7, 29, 104, 6, 96, 46, 158, 0, 7, 4, 167, 0, 4, 3, 54, 5, 28, 21, 5, 153, 0, 9, 4, 29]
abbrev dktX3_writers_2 : List UInt8 := dkwX3_writers_2 ++ dktX3_writers_3
def dkwX3_writers_1 : List UInt8 := [167, 0, 4, 3, 54, 4, 27, 153, 0, 8, 21, 4, 167, 0, 26, 21, 4, 154, 0, 20, 42, 180, 0, 61]
abbrev dktX3_writers_1 : List UInt8 := dkwX3_writers_1 ++ dktX3_writers_2
def dkwX3_writers_0 : List UInt8 := [3, 61, 3, 62, 29, 42, 180, 1, 35, 162, 0, 76, 42, 180, 0, 61, 29, 184, 1, 60, 158, 0, 7, 4]
abbrev dktX3_writers_0 : List UInt8 := dkwX3_writers_0 ++ dktX3_writers_1
theorem dksX3_writers_0 : cX3_writers.data.toList.drop 0 = dktX3_writers_0 := by decide +kernel
theorem dksX3_writers_1 : cX3_writers.data.toList.drop 24 = dktX3_writers_1 := dk_seg dksX3_writers_0 24 rfl rfl
theorem dksX3_writers_2 : cX3_writers.data.toList.drop 48 = dktX3_writers_2 := dk_seg dksX3_writers_1 24 rfl rfl
theorem dksX3_writers_3 : cX3_writers.data.toList.drop 72 = dktX3_writers_3 := dk_seg dksX3_writers_2 24 rfl rfl
theorem dX3_writers_0 : decode cX3_writers 0 = .ok (.iconst 0, 1) := dk_3 (dk_at dksX3_writers_0 0 rfl rfl)
theorem dX3_writers_1 : decode cX3_writers 1 = .ok (.istore_n 2, 1) := dk_61 (dk_at dksX3_writers_0 1 rfl rfl)
theorem dX3_writers_2 : decode cX3_writers 2 = .ok (.iconst 0, 1) := dk_3 (dk_at dksX3_writers_0 2 rfl rfl)
theorem dX3_writers_3 : decode cX3_writers 3 = .ok (.istore_n 3, 1) := dk_62 (dk_at dksX3_writers_0 3 rfl rfl)
theorem dX3_writers_4 : decode cX3_writers 4 = .ok (.iload_n 3, 1) := dk_29 (dk_at dksX3_writers_0 4 rfl rfl)
theorem dX3_writers_5 : decode cX3_writers 5 = .ok (.aload_n 0, 1) := dk_42 (dk_at dksX3_writers_0 5 rfl rfl)
theorem dX3_writers_6 : decode cX3_writers 6 = .ok (.getfield 291, 3) := dk_180 1 35 (dk_at dksX3_writers_0 6 rfl rfl)
theorem dX3_writers_9 : decode cX3_writers 9 = .ok (.if_icmp .ge 76, 3) := dk_162 0 76 (dk_at dksX3_writers_0 9 rfl rfl)
theorem dX3_writers_12 : decode cX3_writers 12 = .ok (.aload_n 0, 1) := dk_42 (dk_at dksX3_writers_0 12 rfl rfl)
theorem dX3_writers_13 : decode cX3_writers 13 = .ok (.getfield 61, 3) := dk_180 0 61 (dk_at dksX3_writers_0 13 rfl rfl)
theorem dX3_writers_16 : decode cX3_writers 16 = .ok (.iload_n 3, 1) := dk_29 (dk_at dksX3_writers_0 16 rfl rfl)
theorem dX3_writers_17 : decode cX3_writers 17 = .ok (.invokestatic 316, 3) := dk_184 1 60 (dk_at dksX3_writers_0 17 rfl rfl)
theorem dX3_writers_20 : decode cX3_writers 20 = .ok (.ifCond .le 7, 3) := dk_158 0 7 (dk_at dksX3_writers_0 20 rfl rfl)
theorem dX3_writers_23 : decode cX3_writers 23 = .ok (.iconst 1, 1) := dk_4 (dk_at dksX3_writers_0 23 rfl rfl)
theorem dX3_writers_24 : decode cX3_writers 24 = .ok (.goto 4, 3) := dk_167 0 4 (dk_at dksX3_writers_1 0 rfl rfl)
theorem dX3_writers_27 : decode cX3_writers 27 = .ok (.iconst 0, 1) := dk_3 (dk_at dksX3_writers_1 3 rfl rfl)
theorem dX3_writers_28 : decode cX3_writers 28 = .ok (.istore 4, 2) := dk_54 4 (dk_at dksX3_writers_1 4 rfl rfl)
theorem dX3_writers_30 : decode cX3_writers 30 = .ok (.iload_n 1, 1) := dk_27 (dk_at dksX3_writers_1 6 rfl rfl)
theorem dX3_writers_31 : decode cX3_writers 31 = .ok (.ifCond .eq 8, 3) := dk_153 0 8 (dk_at dksX3_writers_1 7 rfl rfl)
theorem dX3_writers_34 : decode cX3_writers 34 = .ok (.iload 4, 2) := dk_21 4 (dk_at dksX3_writers_1 10 rfl rfl)
theorem dX3_writers_36 : decode cX3_writers 36 = .ok (.goto 26, 3) := dk_167 0 26 (dk_at dksX3_writers_1 12 rfl rfl)
theorem dX3_writers_39 : decode cX3_writers 39 = .ok (.iload 4, 2) := dk_21 4 (dk_at dksX3_writers_1 15 rfl rfl)
theorem dX3_writers_41 : decode cX3_writers 41 = .ok (.ifCond .ne 20, 3) := dk_154 0 20 (dk_at dksX3_writers_1 17 rfl rfl)
theorem dX3_writers_44 : decode cX3_writers 44 = .ok (.aload_n 0, 1) := dk_42 (dk_at dksX3_writers_1 20 rfl rfl)
theorem dX3_writers_45 : decode cX3_writers 45 = .ok (.getfield 61, 3) := dk_180 0 61 (dk_at dksX3_writers_1 21 rfl rfl)
theorem dX3_writers_48 : decode cX3_writers 48 = .ok (.iconst 4, 1) := dk_7 (dk_at dksX3_writers_2 0 rfl rfl)
theorem dX3_writers_49 : decode cX3_writers 49 = .ok (.iload_n 3, 1) := dk_29 (dk_at dksX3_writers_2 1 rfl rfl)
theorem dX3_writers_50 : decode cX3_writers 50 = .ok (.imul, 1) := dk_104 (dk_at dksX3_writers_2 2 rfl rfl)
theorem dX3_writers_51 : decode cX3_writers 51 = .ok (.iconst 3, 1) := dk_6 (dk_at dksX3_writers_2 3 rfl rfl)
theorem dX3_writers_52 : decode cX3_writers 52 = .ok (.iadd, 1) := dk_96 (dk_at dksX3_writers_2 4 rfl rfl)
theorem dX3_writers_53 : decode cX3_writers 53 = .ok (.iaload, 1) := dk_46 (dk_at dksX3_writers_2 5 rfl rfl)
theorem dX3_writers_54 : decode cX3_writers 54 = .ok (.ifCond .le 7, 3) := dk_158 0 7 (dk_at dksX3_writers_2 6 rfl rfl)
theorem dX3_writers_57 : decode cX3_writers 57 = .ok (.iconst 1, 1) := dk_4 (dk_at dksX3_writers_2 9 rfl rfl)
theorem dX3_writers_58 : decode cX3_writers 58 = .ok (.goto 4, 3) := dk_167 0 4 (dk_at dksX3_writers_2 10 rfl rfl)
theorem dX3_writers_61 : decode cX3_writers 61 = .ok (.iconst 0, 1) := dk_3 (dk_at dksX3_writers_2 13 rfl rfl)
theorem dX3_writers_62 : decode cX3_writers 62 = .ok (.istore 5, 2) := dk_54 5 (dk_at dksX3_writers_2 14 rfl rfl)
theorem dX3_writers_64 : decode cX3_writers 64 = .ok (.iload_n 2, 1) := dk_28 (dk_at dksX3_writers_2 16 rfl rfl)
theorem dX3_writers_65 : decode cX3_writers 65 = .ok (.iload 5, 2) := dk_21 5 (dk_at dksX3_writers_2 17 rfl rfl)
theorem dX3_writers_67 : decode cX3_writers 67 = .ok (.ifCond .eq 9, 3) := dk_153 0 9 (dk_at dksX3_writers_2 19 rfl rfl)
theorem dX3_writers_70 : decode cX3_writers 70 = .ok (.iconst 1, 1) := dk_4 (dk_at dksX3_writers_2 22 rfl rfl)
theorem dX3_writers_71 : decode cX3_writers 71 = .ok (.iload_n 3, 1) := dk_29 (dk_at dksX3_writers_2 23 rfl rfl)
theorem dX3_writers_72 : decode cX3_writers 72 = .ok (.ishl, 1) := dk_120 (dk_at dksX3_writers_3 0 rfl rfl)
theorem dX3_writers_73 : decode cX3_writers 73 = .ok (.goto 4, 3) := dk_167 0 4 (dk_at dksX3_writers_3 1 rfl rfl)
theorem dX3_writers_76 : decode cX3_writers 76 = .ok (.iconst 0, 1) := dk_3 (dk_at dksX3_writers_3 4 rfl rfl)
theorem dX3_writers_77 : decode cX3_writers 77 = .ok (.ior, 1) := dk_128 (dk_at dksX3_writers_3 5 rfl rfl)
theorem dX3_writers_78 : decode cX3_writers 78 = .ok (.istore_n 2, 1) := dk_61 (dk_at dksX3_writers_3 6 rfl rfl)
theorem dX3_writers_79 : decode cX3_writers 79 = .ok (.iinc 3 1, 3) := dk_132 3 1 (dk_at dksX3_writers_3 7 rfl rfl)
theorem dX3_writers_82 : decode cX3_writers 82 = .ok (.goto (-78), 3) := dk_167 255 178 (dk_at dksX3_writers_3 10 rfl rfl)
theorem dX3_writers_85 : decode cX3_writers 85 = .ok (.iload_n 2, 1) := dk_28 (dk_at dksX3_writers_3 13 rfl rfl)
theorem dX3_writers_86 : decode cX3_writers 86 = .ok (.ireturn, 1) := dk_172 (dk_at dksX3_writers_3 14 rfl rfl)
abbrev cX3_bloodiest : ByteArray := prog_14_method_97_code
def yX3_bloodiest : MethodName := ⟨RX3, "bloodiest", "()I"⟩
def dkwX3_bloodiest_2 : List UInt8 := [27, 172]
abbrev dktX3_bloodiest_2 : List UInt8 := dkwX3_bloodiest_2 ++ []
def dkwX3_bloodiest_1 : List UInt8 := [180, 0, 49, 7, 27, 104, 6, 96, 46, 164, 0, 7, 28, 167, 0, 4, 27, 60, 132, 2, 1, 167, 255, 216]
abbrev dktX3_bloodiest_1 : List UInt8 := dkwX3_bloodiest_1 ++ dktX3_bloodiest_2
def dkwX3_bloodiest_0 : List UInt8 := [3, 60, 4, 61, 28, 42, 180, 1, 38, 162, 0, 38, 42, 180, 0, 49, 7, 28, 104, 6, 96, 46, 42]
abbrev dktX3_bloodiest_0 : List UInt8 := dkwX3_bloodiest_0 ++ dktX3_bloodiest_1
theorem dksX3_bloodiest_0 : cX3_bloodiest.data.toList.drop 0 = dktX3_bloodiest_0 := by decide +kernel
theorem dksX3_bloodiest_1 : cX3_bloodiest.data.toList.drop 23 = dktX3_bloodiest_1 := dk_seg dksX3_bloodiest_0 23 rfl rfl
theorem dksX3_bloodiest_2 : cX3_bloodiest.data.toList.drop 47 = dktX3_bloodiest_2 := dk_seg dksX3_bloodiest_1 24 rfl rfl
theorem dX3_bloodiest_0 : decode cX3_bloodiest 0 = .ok (.iconst 0, 1) := dk_3 (dk_at dksX3_bloodiest_0 0 rfl rfl)
theorem dX3_bloodiest_1 : decode cX3_bloodiest 1 = .ok (.istore_n 1, 1) := dk_60 (dk_at dksX3_bloodiest_0 1 rfl rfl)
theorem dX3_bloodiest_2 : decode cX3_bloodiest 2 = .ok (.iconst 1, 1) := dk_4 (dk_at dksX3_bloodiest_0 2 rfl rfl)
theorem dX3_bloodiest_3 : decode cX3_bloodiest 3 = .ok (.istore_n 2, 1) := dk_61 (dk_at dksX3_bloodiest_0 3 rfl rfl)
theorem dX3_bloodiest_4 : decode cX3_bloodiest 4 = .ok (.iload_n 2, 1) := dk_28 (dk_at dksX3_bloodiest_0 4 rfl rfl)
theorem dX3_bloodiest_5 : decode cX3_bloodiest 5 = .ok (.aload_n 0, 1) := dk_42 (dk_at dksX3_bloodiest_0 5 rfl rfl)
theorem dX3_bloodiest_6 : decode cX3_bloodiest 6 = .ok (.getfield 294, 3) := dk_180 1 38 (dk_at dksX3_bloodiest_0 6 rfl rfl)
theorem dX3_bloodiest_9 : decode cX3_bloodiest 9 = .ok (.if_icmp .ge 38, 3) := dk_162 0 38 (dk_at dksX3_bloodiest_0 9 rfl rfl)
theorem dX3_bloodiest_12 : decode cX3_bloodiest 12 = .ok (.aload_n 0, 1) := dk_42 (dk_at dksX3_bloodiest_0 12 rfl rfl)
theorem dX3_bloodiest_13 : decode cX3_bloodiest 13 = .ok (.getfield 49, 3) := dk_180 0 49 (dk_at dksX3_bloodiest_0 13 rfl rfl)
theorem dX3_bloodiest_16 : decode cX3_bloodiest 16 = .ok (.iconst 4, 1) := dk_7 (dk_at dksX3_bloodiest_0 16 rfl rfl)
theorem dX3_bloodiest_17 : decode cX3_bloodiest 17 = .ok (.iload_n 2, 1) := dk_28 (dk_at dksX3_bloodiest_0 17 rfl rfl)
theorem dX3_bloodiest_18 : decode cX3_bloodiest 18 = .ok (.imul, 1) := dk_104 (dk_at dksX3_bloodiest_0 18 rfl rfl)
theorem dX3_bloodiest_19 : decode cX3_bloodiest 19 = .ok (.iconst 3, 1) := dk_6 (dk_at dksX3_bloodiest_0 19 rfl rfl)
theorem dX3_bloodiest_20 : decode cX3_bloodiest 20 = .ok (.iadd, 1) := dk_96 (dk_at dksX3_bloodiest_0 20 rfl rfl)
theorem dX3_bloodiest_21 : decode cX3_bloodiest 21 = .ok (.iaload, 1) := dk_46 (dk_at dksX3_bloodiest_0 21 rfl rfl)
theorem dX3_bloodiest_22 : decode cX3_bloodiest 22 = .ok (.aload_n 0, 1) := dk_42 (dk_at dksX3_bloodiest_0 22 rfl rfl)
theorem dX3_bloodiest_23 : decode cX3_bloodiest 23 = .ok (.getfield 49, 3) := dk_180 0 49 (dk_at dksX3_bloodiest_1 0 rfl rfl)
theorem dX3_bloodiest_26 : decode cX3_bloodiest 26 = .ok (.iconst 4, 1) := dk_7 (dk_at dksX3_bloodiest_1 3 rfl rfl)
theorem dX3_bloodiest_27 : decode cX3_bloodiest 27 = .ok (.iload_n 1, 1) := dk_27 (dk_at dksX3_bloodiest_1 4 rfl rfl)
theorem dX3_bloodiest_28 : decode cX3_bloodiest 28 = .ok (.imul, 1) := dk_104 (dk_at dksX3_bloodiest_1 5 rfl rfl)
theorem dX3_bloodiest_29 : decode cX3_bloodiest 29 = .ok (.iconst 3, 1) := dk_6 (dk_at dksX3_bloodiest_1 6 rfl rfl)
theorem dX3_bloodiest_30 : decode cX3_bloodiest 30 = .ok (.iadd, 1) := dk_96 (dk_at dksX3_bloodiest_1 7 rfl rfl)
theorem dX3_bloodiest_31 : decode cX3_bloodiest 31 = .ok (.iaload, 1) := dk_46 (dk_at dksX3_bloodiest_1 8 rfl rfl)
theorem dX3_bloodiest_32 : decode cX3_bloodiest 32 = .ok (.if_icmp .le 7, 3) := dk_164 0 7 (dk_at dksX3_bloodiest_1 9 rfl rfl)
theorem dX3_bloodiest_35 : decode cX3_bloodiest 35 = .ok (.iload_n 2, 1) := dk_28 (dk_at dksX3_bloodiest_1 12 rfl rfl)
theorem dX3_bloodiest_36 : decode cX3_bloodiest 36 = .ok (.goto 4, 3) := dk_167 0 4 (dk_at dksX3_bloodiest_1 13 rfl rfl)
theorem dX3_bloodiest_39 : decode cX3_bloodiest 39 = .ok (.iload_n 1, 1) := dk_27 (dk_at dksX3_bloodiest_1 16 rfl rfl)
theorem dX3_bloodiest_40 : decode cX3_bloodiest 40 = .ok (.istore_n 1, 1) := dk_60 (dk_at dksX3_bloodiest_1 17 rfl rfl)
theorem dX3_bloodiest_41 : decode cX3_bloodiest 41 = .ok (.iinc 2 1, 3) := dk_132 2 1 (dk_at dksX3_bloodiest_1 18 rfl rfl)
theorem dX3_bloodiest_44 : decode cX3_bloodiest 44 = .ok (.goto (-40), 3) := dk_167 255 216 (dk_at dksX3_bloodiest_1 21 rfl rfl)
theorem dX3_bloodiest_47 : decode cX3_bloodiest 47 = .ok (.iload_n 1, 1) := dk_27 (dk_at dksX3_bloodiest_2 0 rfl rfl)
theorem dX3_bloodiest_48 : decode cX3_bloodiest 48 = .ok (.ireturn, 1) := dk_172 (dk_at dksX3_bloodiest_2 1 rfl rfl)
abbrev cX3_lies : ByteArray := prog_14_method_99_code
def yX3_lies : MethodName := ⟨RX3, "lies", "()I"⟩
def dkwX3_lies_2 : List UInt8 := [96, 60, 132, 2, 1, 167, 255, 207, 27, 172]
abbrev dktX3_lies_2 : List UInt8 := dkwX3_lies_2 ++ []
def dkwX3_lies_1 : List UInt8 := [104, 96, 46, 42, 180, 0, 49, 7, 42, 180, 0, 61, 16, 20, 6, 28, 104, 96, 46, 104, 6, 96, 46, 100]
abbrev dktX3_lies_1 : List UInt8 := dkwX3_lies_1 ++ dktX3_lies_2
def dkwX3_lies_0 : List UInt8 := [3, 60, 3, 61, 28, 42, 180, 0, 61, 16, 19, 46, 162, 0, 44, 27, 42, 180, 0, 61, 16, 22, 6, 28]
abbrev dktX3_lies_0 : List UInt8 := dkwX3_lies_0 ++ dktX3_lies_1
theorem dksX3_lies_0 : cX3_lies.data.toList.drop 0 = dktX3_lies_0 := by decide +kernel
theorem dksX3_lies_1 : cX3_lies.data.toList.drop 24 = dktX3_lies_1 := dk_seg dksX3_lies_0 24 rfl rfl
theorem dksX3_lies_2 : cX3_lies.data.toList.drop 48 = dktX3_lies_2 := dk_seg dksX3_lies_1 24 rfl rfl
theorem dX3_lies_0 : decode cX3_lies 0 = .ok (.iconst 0, 1) := dk_3 (dk_at dksX3_lies_0 0 rfl rfl)
theorem dX3_lies_1 : decode cX3_lies 1 = .ok (.istore_n 1, 1) := dk_60 (dk_at dksX3_lies_0 1 rfl rfl)
theorem dX3_lies_2 : decode cX3_lies 2 = .ok (.iconst 0, 1) := dk_3 (dk_at dksX3_lies_0 2 rfl rfl)
theorem dX3_lies_3 : decode cX3_lies 3 = .ok (.istore_n 2, 1) := dk_61 (dk_at dksX3_lies_0 3 rfl rfl)
theorem dX3_lies_4 : decode cX3_lies 4 = .ok (.iload_n 2, 1) := dk_28 (dk_at dksX3_lies_0 4 rfl rfl)
theorem dX3_lies_5 : decode cX3_lies 5 = .ok (.aload_n 0, 1) := dk_42 (dk_at dksX3_lies_0 5 rfl rfl)
theorem dX3_lies_6 : decode cX3_lies 6 = .ok (.getfield 61, 3) := dk_180 0 61 (dk_at dksX3_lies_0 6 rfl rfl)
theorem dX3_lies_9 : decode cX3_lies 9 = .ok (.bipush 19, 2) := dk_16 19 (dk_at dksX3_lies_0 9 rfl rfl)
theorem dX3_lies_11 : decode cX3_lies 11 = .ok (.iaload, 1) := dk_46 (dk_at dksX3_lies_0 11 rfl rfl)
theorem dX3_lies_12 : decode cX3_lies 12 = .ok (.if_icmp .ge 44, 3) := dk_162 0 44 (dk_at dksX3_lies_0 12 rfl rfl)
theorem dX3_lies_15 : decode cX3_lies 15 = .ok (.iload_n 1, 1) := dk_27 (dk_at dksX3_lies_0 15 rfl rfl)
theorem dX3_lies_16 : decode cX3_lies 16 = .ok (.aload_n 0, 1) := dk_42 (dk_at dksX3_lies_0 16 rfl rfl)
theorem dX3_lies_17 : decode cX3_lies 17 = .ok (.getfield 61, 3) := dk_180 0 61 (dk_at dksX3_lies_0 17 rfl rfl)
theorem dX3_lies_20 : decode cX3_lies 20 = .ok (.bipush 22, 2) := dk_16 22 (dk_at dksX3_lies_0 20 rfl rfl)
theorem dX3_lies_22 : decode cX3_lies 22 = .ok (.iconst 3, 1) := dk_6 (dk_at dksX3_lies_0 22 rfl rfl)
theorem dX3_lies_23 : decode cX3_lies 23 = .ok (.iload_n 2, 1) := dk_28 (dk_at dksX3_lies_0 23 rfl rfl)
theorem dX3_lies_24 : decode cX3_lies 24 = .ok (.imul, 1) := dk_104 (dk_at dksX3_lies_1 0 rfl rfl)
theorem dX3_lies_25 : decode cX3_lies 25 = .ok (.iadd, 1) := dk_96 (dk_at dksX3_lies_1 1 rfl rfl)
theorem dX3_lies_26 : decode cX3_lies 26 = .ok (.iaload, 1) := dk_46 (dk_at dksX3_lies_1 2 rfl rfl)
theorem dX3_lies_27 : decode cX3_lies 27 = .ok (.aload_n 0, 1) := dk_42 (dk_at dksX3_lies_1 3 rfl rfl)
theorem dX3_lies_28 : decode cX3_lies 28 = .ok (.getfield 49, 3) := dk_180 0 49 (dk_at dksX3_lies_1 4 rfl rfl)
theorem dX3_lies_31 : decode cX3_lies 31 = .ok (.iconst 4, 1) := dk_7 (dk_at dksX3_lies_1 7 rfl rfl)
theorem dX3_lies_32 : decode cX3_lies 32 = .ok (.aload_n 0, 1) := dk_42 (dk_at dksX3_lies_1 8 rfl rfl)
theorem dX3_lies_33 : decode cX3_lies 33 = .ok (.getfield 61, 3) := dk_180 0 61 (dk_at dksX3_lies_1 9 rfl rfl)
theorem dX3_lies_36 : decode cX3_lies 36 = .ok (.bipush 20, 2) := dk_16 20 (dk_at dksX3_lies_1 12 rfl rfl)
theorem dX3_lies_38 : decode cX3_lies 38 = .ok (.iconst 3, 1) := dk_6 (dk_at dksX3_lies_1 14 rfl rfl)
theorem dX3_lies_39 : decode cX3_lies 39 = .ok (.iload_n 2, 1) := dk_28 (dk_at dksX3_lies_1 15 rfl rfl)
theorem dX3_lies_40 : decode cX3_lies 40 = .ok (.imul, 1) := dk_104 (dk_at dksX3_lies_1 16 rfl rfl)
theorem dX3_lies_41 : decode cX3_lies 41 = .ok (.iadd, 1) := dk_96 (dk_at dksX3_lies_1 17 rfl rfl)
theorem dX3_lies_42 : decode cX3_lies 42 = .ok (.iaload, 1) := dk_46 (dk_at dksX3_lies_1 18 rfl rfl)
theorem dX3_lies_43 : decode cX3_lies 43 = .ok (.imul, 1) := dk_104 (dk_at dksX3_lies_1 19 rfl rfl)
theorem dX3_lies_44 : decode cX3_lies 44 = .ok (.iconst 3, 1) := dk_6 (dk_at dksX3_lies_1 20 rfl rfl)
theorem dX3_lies_45 : decode cX3_lies 45 = .ok (.iadd, 1) := dk_96 (dk_at dksX3_lies_1 21 rfl rfl)
theorem dX3_lies_46 : decode cX3_lies 46 = .ok (.iaload, 1) := dk_46 (dk_at dksX3_lies_1 22 rfl rfl)
theorem dX3_lies_47 : decode cX3_lies 47 = .ok (.isub, 1) := dk_100 (dk_at dksX3_lies_1 23 rfl rfl)
theorem dX3_lies_48 : decode cX3_lies 48 = .ok (.iadd, 1) := dk_96 (dk_at dksX3_lies_2 0 rfl rfl)
theorem dX3_lies_49 : decode cX3_lies 49 = .ok (.istore_n 1, 1) := dk_60 (dk_at dksX3_lies_2 1 rfl rfl)
theorem dX3_lies_50 : decode cX3_lies 50 = .ok (.iinc 2 1, 3) := dk_132 2 1 (dk_at dksX3_lies_2 2 rfl rfl)
theorem dX3_lies_53 : decode cX3_lies 53 = .ok (.goto (-49), 3) := dk_167 255 207 (dk_at dksX3_lies_2 5 rfl rfl)
theorem dX3_lies_56 : decode cX3_lies 56 = .ok (.iload_n 1, 1) := dk_27 (dk_at dksX3_lies_2 8 rfl rfl)
theorem dX3_lies_57 : decode cX3_lies 57 = .ok (.ireturn, 1) := dk_172 (dk_at dksX3_lies_2 9 rfl rfl)
abbrev cX3_told0 : ByteArray := prog_14_method_100_code
def yX3_told0 : MethodName := ⟨RX3, "told0", "(Z)I"⟩
def dkwX3_told0_6 : List UInt8 := [28, 172]
abbrev dktX3_told0_6 : List UInt8 := dkwX3_told0_6 ++ []
def dkwX3_told0_5 : List UInt8 := [28, 4, 42, 180, 0, 61, 21, 4, 46, 120, 128, 61, 132, 5, 1, 167, 255, 163, 132, 3, 1, 167, 255, 119]
abbrev dktX3_told0_5 : List UInt8 := dkwX3_told0_5 ++ dktX3_told0_6
def dkwX3_told0_4 : List UInt8 := [159, 0, 36, 42, 180, 0, 61, 21, 4, 5, 96, 46, 42, 180, 0, 61, 21, 6, 5, 96, 46, 160, 0, 15]
abbrev dktX3_told0_4 : List UInt8 := dkwX3_told0_4 ++ dktX3_told0_5
def dkwX3_told0_3 : List UInt8 := [21, 6, 46, 160, 0, 57, 42, 180, 0, 61, 21, 4, 4, 96, 46, 42, 180, 0, 61, 21, 6, 4, 96, 46]
abbrev dktX3_told0_3 : List UInt8 := dkwX3_told0_3 ++ dktX3_told0_4
def dkwX3_told0_2 : List UInt8 := [27, 153, 0, 89, 16, 20, 6, 21, 5, 104, 96, 54, 6, 42, 180, 0, 61, 21, 4, 46, 42, 180, 0, 61]
abbrev dktX3_told0_2 : List UInt8 := dkwX3_told0_2 ++ dktX3_told0_3
def dkwX3_told0_1 : List UInt8 := [154, 0, 15, 28, 4, 42, 180, 0, 61, 21, 4, 46, 120, 128, 61, 3, 54, 5, 21, 5, 29, 162, 0, 93]
abbrev dktX3_told0_1 : List UInt8 := dkwX3_told0_1 ++ dktX3_told0_2
def dkwX3_told0_0 : List UInt8 := [3, 61, 3, 62, 29, 42, 180, 0, 61, 16, 19, 46, 162, 0, 132, 16, 20, 6, 29, 104, 96, 54, 4, 27]
abbrev dktX3_told0_0 : List UInt8 := dkwX3_told0_0 ++ dktX3_told0_1
theorem dksX3_told0_0 : cX3_told0.data.toList.drop 0 = dktX3_told0_0 := by decide +kernel
theorem dksX3_told0_1 : cX3_told0.data.toList.drop 24 = dktX3_told0_1 := dk_seg dksX3_told0_0 24 rfl rfl
theorem dksX3_told0_2 : cX3_told0.data.toList.drop 48 = dktX3_told0_2 := dk_seg dksX3_told0_1 24 rfl rfl
theorem dksX3_told0_3 : cX3_told0.data.toList.drop 72 = dktX3_told0_3 := dk_seg dksX3_told0_2 24 rfl rfl
theorem dksX3_told0_4 : cX3_told0.data.toList.drop 96 = dktX3_told0_4 := dk_seg dksX3_told0_3 24 rfl rfl
theorem dksX3_told0_5 : cX3_told0.data.toList.drop 120 = dktX3_told0_5 := dk_seg dksX3_told0_4 24 rfl rfl
theorem dksX3_told0_6 : cX3_told0.data.toList.drop 144 = dktX3_told0_6 := dk_seg dksX3_told0_5 24 rfl rfl
theorem dX3_told0_0 : decode cX3_told0 0 = .ok (.iconst 0, 1) := dk_3 (dk_at dksX3_told0_0 0 rfl rfl)
theorem dX3_told0_1 : decode cX3_told0 1 = .ok (.istore_n 2, 1) := dk_61 (dk_at dksX3_told0_0 1 rfl rfl)
theorem dX3_told0_2 : decode cX3_told0 2 = .ok (.iconst 0, 1) := dk_3 (dk_at dksX3_told0_0 2 rfl rfl)
theorem dX3_told0_3 : decode cX3_told0 3 = .ok (.istore_n 3, 1) := dk_62 (dk_at dksX3_told0_0 3 rfl rfl)
theorem dX3_told0_4 : decode cX3_told0 4 = .ok (.iload_n 3, 1) := dk_29 (dk_at dksX3_told0_0 4 rfl rfl)
theorem dX3_told0_5 : decode cX3_told0 5 = .ok (.aload_n 0, 1) := dk_42 (dk_at dksX3_told0_0 5 rfl rfl)
theorem dX3_told0_6 : decode cX3_told0 6 = .ok (.getfield 61, 3) := dk_180 0 61 (dk_at dksX3_told0_0 6 rfl rfl)
theorem dX3_told0_9 : decode cX3_told0 9 = .ok (.bipush 19, 2) := dk_16 19 (dk_at dksX3_told0_0 9 rfl rfl)
theorem dX3_told0_11 : decode cX3_told0 11 = .ok (.iaload, 1) := dk_46 (dk_at dksX3_told0_0 11 rfl rfl)
theorem dX3_told0_12 : decode cX3_told0 12 = .ok (.if_icmp .ge 132, 3) := dk_162 0 132 (dk_at dksX3_told0_0 12 rfl rfl)
theorem dX3_told0_15 : decode cX3_told0 15 = .ok (.bipush 20, 2) := dk_16 20 (dk_at dksX3_told0_0 15 rfl rfl)
theorem dX3_told0_17 : decode cX3_told0 17 = .ok (.iconst 3, 1) := dk_6 (dk_at dksX3_told0_0 17 rfl rfl)
theorem dX3_told0_18 : decode cX3_told0 18 = .ok (.iload_n 3, 1) := dk_29 (dk_at dksX3_told0_0 18 rfl rfl)
theorem dX3_told0_19 : decode cX3_told0 19 = .ok (.imul, 1) := dk_104 (dk_at dksX3_told0_0 19 rfl rfl)
theorem dX3_told0_20 : decode cX3_told0 20 = .ok (.iadd, 1) := dk_96 (dk_at dksX3_told0_0 20 rfl rfl)
theorem dX3_told0_21 : decode cX3_told0 21 = .ok (.istore 4, 2) := dk_54 4 (dk_at dksX3_told0_0 21 rfl rfl)
theorem dX3_told0_23 : decode cX3_told0 23 = .ok (.iload_n 1, 1) := dk_27 (dk_at dksX3_told0_0 23 rfl rfl)
theorem dX3_told0_24 : decode cX3_told0 24 = .ok (.ifCond .ne 15, 3) := dk_154 0 15 (dk_at dksX3_told0_1 0 rfl rfl)
theorem dX3_told0_27 : decode cX3_told0 27 = .ok (.iload_n 2, 1) := dk_28 (dk_at dksX3_told0_1 3 rfl rfl)
theorem dX3_told0_28 : decode cX3_told0 28 = .ok (.iconst 1, 1) := dk_4 (dk_at dksX3_told0_1 4 rfl rfl)
theorem dX3_told0_29 : decode cX3_told0 29 = .ok (.aload_n 0, 1) := dk_42 (dk_at dksX3_told0_1 5 rfl rfl)
theorem dX3_told0_30 : decode cX3_told0 30 = .ok (.getfield 61, 3) := dk_180 0 61 (dk_at dksX3_told0_1 6 rfl rfl)
theorem dX3_told0_33 : decode cX3_told0 33 = .ok (.iload 4, 2) := dk_21 4 (dk_at dksX3_told0_1 9 rfl rfl)
theorem dX3_told0_35 : decode cX3_told0 35 = .ok (.iaload, 1) := dk_46 (dk_at dksX3_told0_1 11 rfl rfl)
theorem dX3_told0_36 : decode cX3_told0 36 = .ok (.ishl, 1) := dk_120 (dk_at dksX3_told0_1 12 rfl rfl)
theorem dX3_told0_37 : decode cX3_told0 37 = .ok (.ior, 1) := dk_128 (dk_at dksX3_told0_1 13 rfl rfl)
theorem dX3_told0_38 : decode cX3_told0 38 = .ok (.istore_n 2, 1) := dk_61 (dk_at dksX3_told0_1 14 rfl rfl)
theorem dX3_told0_39 : decode cX3_told0 39 = .ok (.iconst 0, 1) := dk_3 (dk_at dksX3_told0_1 15 rfl rfl)
theorem dX3_told0_40 : decode cX3_told0 40 = .ok (.istore 5, 2) := dk_54 5 (dk_at dksX3_told0_1 16 rfl rfl)
theorem dX3_told0_42 : decode cX3_told0 42 = .ok (.iload 5, 2) := dk_21 5 (dk_at dksX3_told0_1 18 rfl rfl)
theorem dX3_told0_44 : decode cX3_told0 44 = .ok (.iload_n 3, 1) := dk_29 (dk_at dksX3_told0_1 20 rfl rfl)
theorem dX3_told0_45 : decode cX3_told0 45 = .ok (.if_icmp .ge 93, 3) := dk_162 0 93 (dk_at dksX3_told0_1 21 rfl rfl)
theorem dX3_told0_48 : decode cX3_told0 48 = .ok (.iload_n 1, 1) := dk_27 (dk_at dksX3_told0_2 0 rfl rfl)
theorem dX3_told0_49 : decode cX3_told0 49 = .ok (.ifCond .eq 89, 3) := dk_153 0 89 (dk_at dksX3_told0_2 1 rfl rfl)
theorem dX3_told0_52 : decode cX3_told0 52 = .ok (.bipush 20, 2) := dk_16 20 (dk_at dksX3_told0_2 4 rfl rfl)
theorem dX3_told0_54 : decode cX3_told0 54 = .ok (.iconst 3, 1) := dk_6 (dk_at dksX3_told0_2 6 rfl rfl)
theorem dX3_told0_55 : decode cX3_told0 55 = .ok (.iload 5, 2) := dk_21 5 (dk_at dksX3_told0_2 7 rfl rfl)
theorem dX3_told0_57 : decode cX3_told0 57 = .ok (.imul, 1) := dk_104 (dk_at dksX3_told0_2 9 rfl rfl)
theorem dX3_told0_58 : decode cX3_told0 58 = .ok (.iadd, 1) := dk_96 (dk_at dksX3_told0_2 10 rfl rfl)
theorem dX3_told0_59 : decode cX3_told0 59 = .ok (.istore 6, 2) := dk_54 6 (dk_at dksX3_told0_2 11 rfl rfl)
theorem dX3_told0_61 : decode cX3_told0 61 = .ok (.aload_n 0, 1) := dk_42 (dk_at dksX3_told0_2 13 rfl rfl)
theorem dX3_told0_62 : decode cX3_told0 62 = .ok (.getfield 61, 3) := dk_180 0 61 (dk_at dksX3_told0_2 14 rfl rfl)
theorem dX3_told0_65 : decode cX3_told0 65 = .ok (.iload 4, 2) := dk_21 4 (dk_at dksX3_told0_2 17 rfl rfl)
theorem dX3_told0_67 : decode cX3_told0 67 = .ok (.iaload, 1) := dk_46 (dk_at dksX3_told0_2 19 rfl rfl)
theorem dX3_told0_68 : decode cX3_told0 68 = .ok (.aload_n 0, 1) := dk_42 (dk_at dksX3_told0_2 20 rfl rfl)
theorem dX3_told0_69 : decode cX3_told0 69 = .ok (.getfield 61, 3) := dk_180 0 61 (dk_at dksX3_told0_2 21 rfl rfl)
theorem dX3_told0_72 : decode cX3_told0 72 = .ok (.iload 6, 2) := dk_21 6 (dk_at dksX3_told0_3 0 rfl rfl)
theorem dX3_told0_74 : decode cX3_told0 74 = .ok (.iaload, 1) := dk_46 (dk_at dksX3_told0_3 2 rfl rfl)
theorem dX3_told0_75 : decode cX3_told0 75 = .ok (.if_icmp .ne 57, 3) := dk_160 0 57 (dk_at dksX3_told0_3 3 rfl rfl)
theorem dX3_told0_78 : decode cX3_told0 78 = .ok (.aload_n 0, 1) := dk_42 (dk_at dksX3_told0_3 6 rfl rfl)
theorem dX3_told0_79 : decode cX3_told0 79 = .ok (.getfield 61, 3) := dk_180 0 61 (dk_at dksX3_told0_3 7 rfl rfl)
theorem dX3_told0_82 : decode cX3_told0 82 = .ok (.iload 4, 2) := dk_21 4 (dk_at dksX3_told0_3 10 rfl rfl)
theorem dX3_told0_84 : decode cX3_told0 84 = .ok (.iconst 1, 1) := dk_4 (dk_at dksX3_told0_3 12 rfl rfl)
theorem dX3_told0_85 : decode cX3_told0 85 = .ok (.iadd, 1) := dk_96 (dk_at dksX3_told0_3 13 rfl rfl)
theorem dX3_told0_86 : decode cX3_told0 86 = .ok (.iaload, 1) := dk_46 (dk_at dksX3_told0_3 14 rfl rfl)
theorem dX3_told0_87 : decode cX3_told0 87 = .ok (.aload_n 0, 1) := dk_42 (dk_at dksX3_told0_3 15 rfl rfl)
theorem dX3_told0_88 : decode cX3_told0 88 = .ok (.getfield 61, 3) := dk_180 0 61 (dk_at dksX3_told0_3 16 rfl rfl)
theorem dX3_told0_91 : decode cX3_told0 91 = .ok (.iload 6, 2) := dk_21 6 (dk_at dksX3_told0_3 19 rfl rfl)
theorem dX3_told0_93 : decode cX3_told0 93 = .ok (.iconst 1, 1) := dk_4 (dk_at dksX3_told0_3 21 rfl rfl)
theorem dX3_told0_94 : decode cX3_told0 94 = .ok (.iadd, 1) := dk_96 (dk_at dksX3_told0_3 22 rfl rfl)
theorem dX3_told0_95 : decode cX3_told0 95 = .ok (.iaload, 1) := dk_46 (dk_at dksX3_told0_3 23 rfl rfl)
theorem dX3_told0_96 : decode cX3_told0 96 = .ok (.if_icmp .eq 36, 3) := dk_159 0 36 (dk_at dksX3_told0_4 0 rfl rfl)
theorem dX3_told0_99 : decode cX3_told0 99 = .ok (.aload_n 0, 1) := dk_42 (dk_at dksX3_told0_4 3 rfl rfl)
theorem dX3_told0_100 : decode cX3_told0 100 = .ok (.getfield 61, 3) := dk_180 0 61 (dk_at dksX3_told0_4 4 rfl rfl)
theorem dX3_told0_103 : decode cX3_told0 103 = .ok (.iload 4, 2) := dk_21 4 (dk_at dksX3_told0_4 7 rfl rfl)
theorem dX3_told0_105 : decode cX3_told0 105 = .ok (.iconst 2, 1) := dk_5 (dk_at dksX3_told0_4 9 rfl rfl)
theorem dX3_told0_106 : decode cX3_told0 106 = .ok (.iadd, 1) := dk_96 (dk_at dksX3_told0_4 10 rfl rfl)
theorem dX3_told0_107 : decode cX3_told0 107 = .ok (.iaload, 1) := dk_46 (dk_at dksX3_told0_4 11 rfl rfl)
theorem dX3_told0_108 : decode cX3_told0 108 = .ok (.aload_n 0, 1) := dk_42 (dk_at dksX3_told0_4 12 rfl rfl)
theorem dX3_told0_109 : decode cX3_told0 109 = .ok (.getfield 61, 3) := dk_180 0 61 (dk_at dksX3_told0_4 13 rfl rfl)
theorem dX3_told0_112 : decode cX3_told0 112 = .ok (.iload 6, 2) := dk_21 6 (dk_at dksX3_told0_4 16 rfl rfl)
theorem dX3_told0_114 : decode cX3_told0 114 = .ok (.iconst 2, 1) := dk_5 (dk_at dksX3_told0_4 18 rfl rfl)
theorem dX3_told0_115 : decode cX3_told0 115 = .ok (.iadd, 1) := dk_96 (dk_at dksX3_told0_4 19 rfl rfl)
theorem dX3_told0_116 : decode cX3_told0 116 = .ok (.iaload, 1) := dk_46 (dk_at dksX3_told0_4 20 rfl rfl)
theorem dX3_told0_117 : decode cX3_told0 117 = .ok (.if_icmp .ne 15, 3) := dk_160 0 15 (dk_at dksX3_told0_4 21 rfl rfl)
theorem dX3_told0_120 : decode cX3_told0 120 = .ok (.iload_n 2, 1) := dk_28 (dk_at dksX3_told0_5 0 rfl rfl)
theorem dX3_told0_121 : decode cX3_told0 121 = .ok (.iconst 1, 1) := dk_4 (dk_at dksX3_told0_5 1 rfl rfl)
theorem dX3_told0_122 : decode cX3_told0 122 = .ok (.aload_n 0, 1) := dk_42 (dk_at dksX3_told0_5 2 rfl rfl)
theorem dX3_told0_123 : decode cX3_told0 123 = .ok (.getfield 61, 3) := dk_180 0 61 (dk_at dksX3_told0_5 3 rfl rfl)
theorem dX3_told0_126 : decode cX3_told0 126 = .ok (.iload 4, 2) := dk_21 4 (dk_at dksX3_told0_5 6 rfl rfl)
theorem dX3_told0_128 : decode cX3_told0 128 = .ok (.iaload, 1) := dk_46 (dk_at dksX3_told0_5 8 rfl rfl)
theorem dX3_told0_129 : decode cX3_told0 129 = .ok (.ishl, 1) := dk_120 (dk_at dksX3_told0_5 9 rfl rfl)
theorem dX3_told0_130 : decode cX3_told0 130 = .ok (.ior, 1) := dk_128 (dk_at dksX3_told0_5 10 rfl rfl)
theorem dX3_told0_131 : decode cX3_told0 131 = .ok (.istore_n 2, 1) := dk_61 (dk_at dksX3_told0_5 11 rfl rfl)
theorem dX3_told0_132 : decode cX3_told0 132 = .ok (.iinc 5 1, 3) := dk_132 5 1 (dk_at dksX3_told0_5 12 rfl rfl)
theorem dX3_told0_135 : decode cX3_told0 135 = .ok (.goto (-93), 3) := dk_167 255 163 (dk_at dksX3_told0_5 15 rfl rfl)
theorem dX3_told0_138 : decode cX3_told0 138 = .ok (.iinc 3 1, 3) := dk_132 3 1 (dk_at dksX3_told0_5 18 rfl rfl)
theorem dX3_told0_141 : decode cX3_told0 141 = .ok (.goto (-137), 3) := dk_167 255 119 (dk_at dksX3_told0_5 21 rfl rfl)
theorem dX3_told0_144 : decode cX3_told0 144 = .ok (.iload_n 2, 1) := dk_28 (dk_at dksX3_told0_6 0 rfl rfl)
theorem dX3_told0_145 : decode cX3_told0 145 = .ok (.ireturn, 1) := dk_172 (dk_at dksX3_told0_6 1 rfl rfl)
abbrev cX3_page : ByteArray := prog_14_method_102_code
def yX3_page : MethodName := ⟨RX3, "page", "(II)I"⟩
def dkwX3_page_2 : List UInt8 := [46, 167, 0, 4, 2, 172]
abbrev dktX3_page_2 : List UInt8 := dkwX3_page_2 ++ []
def dkwX3_page_1 : List UInt8 := [28, 133, 9, 20, 1, 12, 184, 1, 14, 153, 0, 19, 42, 180, 0, 61, 16, 20, 6, 27, 104, 96, 28, 96]
abbrev dktX3_page_1 : List UInt8 := dkwX3_page_1 ++ dktX3_page_2
def dkwX3_page_0 : List UInt8 := [42, 3, 181, 0, 99, 27, 133, 9, 42, 180, 0, 61, 16, 19, 46, 4, 100, 133, 184, 1, 14, 153, 0, 31]
abbrev dktX3_page_0 : List UInt8 := dkwX3_page_0 ++ dktX3_page_1
theorem dksX3_page_0 : cX3_page.data.toList.drop 0 = dktX3_page_0 := by decide +kernel
theorem dksX3_page_1 : cX3_page.data.toList.drop 24 = dktX3_page_1 := dk_seg dksX3_page_0 24 rfl rfl
theorem dksX3_page_2 : cX3_page.data.toList.drop 48 = dktX3_page_2 := dk_seg dksX3_page_1 24 rfl rfl
theorem dX3_page_0 : decode cX3_page 0 = .ok (.aload_n 0, 1) := dk_42 (dk_at dksX3_page_0 0 rfl rfl)
theorem dX3_page_1 : decode cX3_page 1 = .ok (.iconst 0, 1) := dk_3 (dk_at dksX3_page_0 1 rfl rfl)
theorem dX3_page_2 : decode cX3_page 2 = .ok (.putfield 99, 3) := dk_181 0 99 (dk_at dksX3_page_0 2 rfl rfl)
theorem dX3_page_5 : decode cX3_page 5 = .ok (.iload_n 1, 1) := dk_27 (dk_at dksX3_page_0 5 rfl rfl)
theorem dX3_page_6 : decode cX3_page 6 = .ok (.i2l, 1) := dk_133 (dk_at dksX3_page_0 6 rfl rfl)
theorem dX3_page_7 : decode cX3_page 7 = .ok (.lconst 0, 1) := dk_9 (dk_at dksX3_page_0 7 rfl rfl)
theorem dX3_page_8 : decode cX3_page 8 = .ok (.aload_n 0, 1) := dk_42 (dk_at dksX3_page_0 8 rfl rfl)
theorem dX3_page_9 : decode cX3_page 9 = .ok (.getfield 61, 3) := dk_180 0 61 (dk_at dksX3_page_0 9 rfl rfl)
theorem dX3_page_12 : decode cX3_page 12 = .ok (.bipush 19, 2) := dk_16 19 (dk_at dksX3_page_0 12 rfl rfl)
theorem dX3_page_14 : decode cX3_page 14 = .ok (.iaload, 1) := dk_46 (dk_at dksX3_page_0 14 rfl rfl)
theorem dX3_page_15 : decode cX3_page 15 = .ok (.iconst 1, 1) := dk_4 (dk_at dksX3_page_0 15 rfl rfl)
theorem dX3_page_16 : decode cX3_page 16 = .ok (.isub, 1) := dk_100 (dk_at dksX3_page_0 16 rfl rfl)
theorem dX3_page_17 : decode cX3_page 17 = .ok (.i2l, 1) := dk_133 (dk_at dksX3_page_0 17 rfl rfl)
theorem dX3_page_18 : decode cX3_page 18 = .ok (.invokestatic 270, 3) := dk_184 1 14 (dk_at dksX3_page_0 18 rfl rfl)
theorem dX3_page_21 : decode cX3_page 21 = .ok (.ifCond .eq 31, 3) := dk_153 0 31 (dk_at dksX3_page_0 21 rfl rfl)
theorem dX3_page_24 : decode cX3_page 24 = .ok (.iload_n 2, 1) := dk_28 (dk_at dksX3_page_1 0 rfl rfl)
theorem dX3_page_25 : decode cX3_page 25 = .ok (.i2l, 1) := dk_133 (dk_at dksX3_page_1 1 rfl rfl)
theorem dX3_page_26 : decode cX3_page 26 = .ok (.lconst 0, 1) := dk_9 (dk_at dksX3_page_1 2 rfl rfl)
theorem dX3_page_27 : decode cX3_page 27 = .ok (.ldc2_w 268, 3) := dk_20 1 12 (dk_at dksX3_page_1 3 rfl rfl)
theorem dX3_page_30 : decode cX3_page 30 = .ok (.invokestatic 270, 3) := dk_184 1 14 (dk_at dksX3_page_1 6 rfl rfl)
theorem dX3_page_33 : decode cX3_page 33 = .ok (.ifCond .eq 19, 3) := dk_153 0 19 (dk_at dksX3_page_1 9 rfl rfl)
theorem dX3_page_36 : decode cX3_page 36 = .ok (.aload_n 0, 1) := dk_42 (dk_at dksX3_page_1 12 rfl rfl)
theorem dX3_page_37 : decode cX3_page 37 = .ok (.getfield 61, 3) := dk_180 0 61 (dk_at dksX3_page_1 13 rfl rfl)
theorem dX3_page_40 : decode cX3_page 40 = .ok (.bipush 20, 2) := dk_16 20 (dk_at dksX3_page_1 16 rfl rfl)
theorem dX3_page_42 : decode cX3_page 42 = .ok (.iconst 3, 1) := dk_6 (dk_at dksX3_page_1 18 rfl rfl)
theorem dX3_page_43 : decode cX3_page 43 = .ok (.iload_n 1, 1) := dk_27 (dk_at dksX3_page_1 19 rfl rfl)
theorem dX3_page_44 : decode cX3_page 44 = .ok (.imul, 1) := dk_104 (dk_at dksX3_page_1 20 rfl rfl)
theorem dX3_page_45 : decode cX3_page 45 = .ok (.iadd, 1) := dk_96 (dk_at dksX3_page_1 21 rfl rfl)
theorem dX3_page_46 : decode cX3_page 46 = .ok (.iload_n 2, 1) := dk_28 (dk_at dksX3_page_1 22 rfl rfl)
theorem dX3_page_47 : decode cX3_page 47 = .ok (.iadd, 1) := dk_96 (dk_at dksX3_page_1 23 rfl rfl)
theorem dX3_page_48 : decode cX3_page 48 = .ok (.iaload, 1) := dk_46 (dk_at dksX3_page_2 0 rfl rfl)
theorem dX3_page_49 : decode cX3_page 49 = .ok (.goto 4, 3) := dk_167 0 4 (dk_at dksX3_page_2 1 rfl rfl)
theorem dX3_page_52 : decode cX3_page 52 = .ok (.iconst (-1), 1) := dk_2 (dk_at dksX3_page_2 4 rfl rfl)
theorem dX3_page_53 : decode cX3_page 53 = .ok (.ireturn, 1) := dk_172 (dk_at dksX3_page_2 5 rfl rfl)
abbrev cX3_wars : ByteArray := prog_14_method_103_code
def yX3_wars : MethodName := ⟨RX3, "wars", "(II)I"⟩
def dkwX3_wars_4 : List UInt8 := [62, 132, 4, 1, 167, 255, 185, 29, 172]
abbrev dktX3_wars_4 : List UInt8 := dkwX3_wars_4 ++ []
def dkwX3_wars_3 : List UInt8 := [159, 0, 15, 21, 5, 28, 160, 0, 16, 21, 6, 27, 160, 0, 10, 4, 21, 4, 120, 167, 0, 4, 3, 128]
abbrev dktX3_wars_3 : List UInt8 := dkwX3_wars_3 ++ dktX3_wars_4
def dkwX3_wars_2 : List UInt8 := [42, 180, 0, 49, 7, 21, 4, 104, 4, 96, 46, 54, 6, 29, 21, 5, 27, 160, 0, 9, 21, 6, 28]
abbrev dktX3_wars_2 : List UInt8 := dkwX3_wars_2 ++ dktX3_wars_3
def dkwX3_wars_1 : List UInt8 := [62, 3, 54, 4, 21, 4, 42, 180, 1, 38, 162, 0, 68, 42, 180, 0, 49, 7, 21, 4, 104, 46, 54, 5]
abbrev dktX3_wars_1 : List UInt8 := dkwX3_wars_1 ++ dktX3_wars_2
def dkwX3_wars_0 : List UInt8 := [42, 3, 181, 0, 99, 42, 27, 182, 1, 91, 153, 0, 11, 42, 28, 182, 1, 91, 154, 0, 5, 2, 172, 3]
abbrev dktX3_wars_0 : List UInt8 := dkwX3_wars_0 ++ dktX3_wars_1
theorem dksX3_wars_0 : cX3_wars.data.toList.drop 0 = dktX3_wars_0 := by decide +kernel
theorem dksX3_wars_1 : cX3_wars.data.toList.drop 24 = dktX3_wars_1 := dk_seg dksX3_wars_0 24 rfl rfl
theorem dksX3_wars_2 : cX3_wars.data.toList.drop 48 = dktX3_wars_2 := dk_seg dksX3_wars_1 24 rfl rfl
theorem dksX3_wars_3 : cX3_wars.data.toList.drop 71 = dktX3_wars_3 := dk_seg dksX3_wars_2 23 rfl rfl
theorem dksX3_wars_4 : cX3_wars.data.toList.drop 95 = dktX3_wars_4 := dk_seg dksX3_wars_3 24 rfl rfl
theorem dX3_wars_0 : decode cX3_wars 0 = .ok (.aload_n 0, 1) := dk_42 (dk_at dksX3_wars_0 0 rfl rfl)
theorem dX3_wars_1 : decode cX3_wars 1 = .ok (.iconst 0, 1) := dk_3 (dk_at dksX3_wars_0 1 rfl rfl)
theorem dX3_wars_2 : decode cX3_wars 2 = .ok (.putfield 99, 3) := dk_181 0 99 (dk_at dksX3_wars_0 2 rfl rfl)
theorem dX3_wars_5 : decode cX3_wars 5 = .ok (.aload_n 0, 1) := dk_42 (dk_at dksX3_wars_0 5 rfl rfl)
theorem dX3_wars_6 : decode cX3_wars 6 = .ok (.iload_n 1, 1) := dk_27 (dk_at dksX3_wars_0 6 rfl rfl)
theorem dX3_wars_7 : decode cX3_wars 7 = .ok (.invokevirtual 347, 3) := dk_182 1 91 (dk_at dksX3_wars_0 7 rfl rfl)
theorem dX3_wars_10 : decode cX3_wars 10 = .ok (.ifCond .eq 11, 3) := dk_153 0 11 (dk_at dksX3_wars_0 10 rfl rfl)
theorem dX3_wars_13 : decode cX3_wars 13 = .ok (.aload_n 0, 1) := dk_42 (dk_at dksX3_wars_0 13 rfl rfl)
theorem dX3_wars_14 : decode cX3_wars 14 = .ok (.iload_n 2, 1) := dk_28 (dk_at dksX3_wars_0 14 rfl rfl)
theorem dX3_wars_15 : decode cX3_wars 15 = .ok (.invokevirtual 347, 3) := dk_182 1 91 (dk_at dksX3_wars_0 15 rfl rfl)
theorem dX3_wars_18 : decode cX3_wars 18 = .ok (.ifCond .ne 5, 3) := dk_154 0 5 (dk_at dksX3_wars_0 18 rfl rfl)
theorem dX3_wars_21 : decode cX3_wars 21 = .ok (.iconst (-1), 1) := dk_2 (dk_at dksX3_wars_0 21 rfl rfl)
theorem dX3_wars_22 : decode cX3_wars 22 = .ok (.ireturn, 1) := dk_172 (dk_at dksX3_wars_0 22 rfl rfl)
theorem dX3_wars_23 : decode cX3_wars 23 = .ok (.iconst 0, 1) := dk_3 (dk_at dksX3_wars_0 23 rfl rfl)
theorem dX3_wars_24 : decode cX3_wars 24 = .ok (.istore_n 3, 1) := dk_62 (dk_at dksX3_wars_1 0 rfl rfl)
theorem dX3_wars_25 : decode cX3_wars 25 = .ok (.iconst 0, 1) := dk_3 (dk_at dksX3_wars_1 1 rfl rfl)
theorem dX3_wars_26 : decode cX3_wars 26 = .ok (.istore 4, 2) := dk_54 4 (dk_at dksX3_wars_1 2 rfl rfl)
theorem dX3_wars_28 : decode cX3_wars 28 = .ok (.iload 4, 2) := dk_21 4 (dk_at dksX3_wars_1 4 rfl rfl)
theorem dX3_wars_30 : decode cX3_wars 30 = .ok (.aload_n 0, 1) := dk_42 (dk_at dksX3_wars_1 6 rfl rfl)
theorem dX3_wars_31 : decode cX3_wars 31 = .ok (.getfield 294, 3) := dk_180 1 38 (dk_at dksX3_wars_1 7 rfl rfl)
theorem dX3_wars_34 : decode cX3_wars 34 = .ok (.if_icmp .ge 68, 3) := dk_162 0 68 (dk_at dksX3_wars_1 10 rfl rfl)
theorem dX3_wars_37 : decode cX3_wars 37 = .ok (.aload_n 0, 1) := dk_42 (dk_at dksX3_wars_1 13 rfl rfl)
theorem dX3_wars_38 : decode cX3_wars 38 = .ok (.getfield 49, 3) := dk_180 0 49 (dk_at dksX3_wars_1 14 rfl rfl)
theorem dX3_wars_41 : decode cX3_wars 41 = .ok (.iconst 4, 1) := dk_7 (dk_at dksX3_wars_1 17 rfl rfl)
theorem dX3_wars_42 : decode cX3_wars 42 = .ok (.iload 4, 2) := dk_21 4 (dk_at dksX3_wars_1 18 rfl rfl)
theorem dX3_wars_44 : decode cX3_wars 44 = .ok (.imul, 1) := dk_104 (dk_at dksX3_wars_1 20 rfl rfl)
theorem dX3_wars_45 : decode cX3_wars 45 = .ok (.iaload, 1) := dk_46 (dk_at dksX3_wars_1 21 rfl rfl)
theorem dX3_wars_46 : decode cX3_wars 46 = .ok (.istore 5, 2) := dk_54 5 (dk_at dksX3_wars_1 22 rfl rfl)
theorem dX3_wars_48 : decode cX3_wars 48 = .ok (.aload_n 0, 1) := dk_42 (dk_at dksX3_wars_2 0 rfl rfl)
theorem dX3_wars_49 : decode cX3_wars 49 = .ok (.getfield 49, 3) := dk_180 0 49 (dk_at dksX3_wars_2 1 rfl rfl)
theorem dX3_wars_52 : decode cX3_wars 52 = .ok (.iconst 4, 1) := dk_7 (dk_at dksX3_wars_2 4 rfl rfl)
theorem dX3_wars_53 : decode cX3_wars 53 = .ok (.iload 4, 2) := dk_21 4 (dk_at dksX3_wars_2 5 rfl rfl)
theorem dX3_wars_55 : decode cX3_wars 55 = .ok (.imul, 1) := dk_104 (dk_at dksX3_wars_2 7 rfl rfl)
theorem dX3_wars_56 : decode cX3_wars 56 = .ok (.iconst 1, 1) := dk_4 (dk_at dksX3_wars_2 8 rfl rfl)
theorem dX3_wars_57 : decode cX3_wars 57 = .ok (.iadd, 1) := dk_96 (dk_at dksX3_wars_2 9 rfl rfl)
theorem dX3_wars_58 : decode cX3_wars 58 = .ok (.iaload, 1) := dk_46 (dk_at dksX3_wars_2 10 rfl rfl)
theorem dX3_wars_59 : decode cX3_wars 59 = .ok (.istore 6, 2) := dk_54 6 (dk_at dksX3_wars_2 11 rfl rfl)
theorem dX3_wars_61 : decode cX3_wars 61 = .ok (.iload_n 3, 1) := dk_29 (dk_at dksX3_wars_2 13 rfl rfl)
theorem dX3_wars_62 : decode cX3_wars 62 = .ok (.iload 5, 2) := dk_21 5 (dk_at dksX3_wars_2 14 rfl rfl)
theorem dX3_wars_64 : decode cX3_wars 64 = .ok (.iload_n 1, 1) := dk_27 (dk_at dksX3_wars_2 16 rfl rfl)
theorem dX3_wars_65 : decode cX3_wars 65 = .ok (.if_icmp .ne 9, 3) := dk_160 0 9 (dk_at dksX3_wars_2 17 rfl rfl)
theorem dX3_wars_68 : decode cX3_wars 68 = .ok (.iload 6, 2) := dk_21 6 (dk_at dksX3_wars_2 20 rfl rfl)
theorem dX3_wars_70 : decode cX3_wars 70 = .ok (.iload_n 2, 1) := dk_28 (dk_at dksX3_wars_2 22 rfl rfl)
theorem dX3_wars_71 : decode cX3_wars 71 = .ok (.if_icmp .eq 15, 3) := dk_159 0 15 (dk_at dksX3_wars_3 0 rfl rfl)
theorem dX3_wars_74 : decode cX3_wars 74 = .ok (.iload 5, 2) := dk_21 5 (dk_at dksX3_wars_3 3 rfl rfl)
theorem dX3_wars_76 : decode cX3_wars 76 = .ok (.iload_n 2, 1) := dk_28 (dk_at dksX3_wars_3 5 rfl rfl)
theorem dX3_wars_77 : decode cX3_wars 77 = .ok (.if_icmp .ne 16, 3) := dk_160 0 16 (dk_at dksX3_wars_3 6 rfl rfl)
theorem dX3_wars_80 : decode cX3_wars 80 = .ok (.iload 6, 2) := dk_21 6 (dk_at dksX3_wars_3 9 rfl rfl)
theorem dX3_wars_82 : decode cX3_wars 82 = .ok (.iload_n 1, 1) := dk_27 (dk_at dksX3_wars_3 11 rfl rfl)
theorem dX3_wars_83 : decode cX3_wars 83 = .ok (.if_icmp .ne 10, 3) := dk_160 0 10 (dk_at dksX3_wars_3 12 rfl rfl)
theorem dX3_wars_86 : decode cX3_wars 86 = .ok (.iconst 1, 1) := dk_4 (dk_at dksX3_wars_3 15 rfl rfl)
theorem dX3_wars_87 : decode cX3_wars 87 = .ok (.iload 4, 2) := dk_21 4 (dk_at dksX3_wars_3 16 rfl rfl)
theorem dX3_wars_89 : decode cX3_wars 89 = .ok (.ishl, 1) := dk_120 (dk_at dksX3_wars_3 18 rfl rfl)
theorem dX3_wars_90 : decode cX3_wars 90 = .ok (.goto 4, 3) := dk_167 0 4 (dk_at dksX3_wars_3 19 rfl rfl)
theorem dX3_wars_93 : decode cX3_wars 93 = .ok (.iconst 0, 1) := dk_3 (dk_at dksX3_wars_3 22 rfl rfl)
theorem dX3_wars_94 : decode cX3_wars 94 = .ok (.ior, 1) := dk_128 (dk_at dksX3_wars_3 23 rfl rfl)
theorem dX3_wars_95 : decode cX3_wars 95 = .ok (.istore_n 3, 1) := dk_62 (dk_at dksX3_wars_4 0 rfl rfl)
theorem dX3_wars_96 : decode cX3_wars 96 = .ok (.iinc 4 1, 3) := dk_132 4 1 (dk_at dksX3_wars_4 1 rfl rfl)
theorem dX3_wars_99 : decode cX3_wars 99 = .ok (.goto (-71), 3) := dk_167 255 185 (dk_at dksX3_wars_4 4 rfl rfl)
theorem dX3_wars_102 : decode cX3_wars 102 = .ok (.iload_n 3, 1) := dk_29 (dk_at dksX3_wars_4 7 rfl rfl)
theorem dX3_wars_103 : decode cX3_wars 103 = .ok (.ireturn, 1) := dk_172 (dk_at dksX3_wars_4 8 rfl rfl)
abbrev cX3_image : ByteArray := prog_14_method_104_code
def yX3_image : MethodName := ⟨RX3, "image", "()I"⟩
def dkwX3_image_2 : List UInt8 := [180, 0, 61, 16, 18, 46, 172]
abbrev dktX3_image_2 : List UInt8 := dkwX3_image_2 ++ []
def dkwX3_image_1 : List UInt8 := [180, 0, 96, 27, 42, 180, 0, 61, 27, 46, 79, 132, 1, 1, 167, 255, 234, 42, 4, 181, 1, 47, 42]
abbrev dktX3_image_1 : List UInt8 := dkwX3_image_1 ++ dktX3_image_2
def dkwX3_image_0 : List UInt8 := [42, 3, 181, 0, 99, 42, 180, 1, 35, 154, 0, 5, 2, 172, 3, 60, 27, 17, 1, 35, 162, 0, 21, 42]
abbrev dktX3_image_0 : List UInt8 := dkwX3_image_0 ++ dktX3_image_1
theorem dksX3_image_0 : cX3_image.data.toList.drop 0 = dktX3_image_0 := by decide +kernel
theorem dksX3_image_1 : cX3_image.data.toList.drop 24 = dktX3_image_1 := dk_seg dksX3_image_0 24 rfl rfl
theorem dksX3_image_2 : cX3_image.data.toList.drop 47 = dktX3_image_2 := dk_seg dksX3_image_1 23 rfl rfl
theorem dX3_image_0 : decode cX3_image 0 = .ok (.aload_n 0, 1) := dk_42 (dk_at dksX3_image_0 0 rfl rfl)
theorem dX3_image_1 : decode cX3_image 1 = .ok (.iconst 0, 1) := dk_3 (dk_at dksX3_image_0 1 rfl rfl)
theorem dX3_image_2 : decode cX3_image 2 = .ok (.putfield 99, 3) := dk_181 0 99 (dk_at dksX3_image_0 2 rfl rfl)
theorem dX3_image_5 : decode cX3_image 5 = .ok (.aload_n 0, 1) := dk_42 (dk_at dksX3_image_0 5 rfl rfl)
theorem dX3_image_6 : decode cX3_image 6 = .ok (.getfield 291, 3) := dk_180 1 35 (dk_at dksX3_image_0 6 rfl rfl)
theorem dX3_image_9 : decode cX3_image 9 = .ok (.ifCond .ne 5, 3) := dk_154 0 5 (dk_at dksX3_image_0 9 rfl rfl)
theorem dX3_image_12 : decode cX3_image 12 = .ok (.iconst (-1), 1) := dk_2 (dk_at dksX3_image_0 12 rfl rfl)
theorem dX3_image_13 : decode cX3_image 13 = .ok (.ireturn, 1) := dk_172 (dk_at dksX3_image_0 13 rfl rfl)
theorem dX3_image_14 : decode cX3_image 14 = .ok (.iconst 0, 1) := dk_3 (dk_at dksX3_image_0 14 rfl rfl)
theorem dX3_image_15 : decode cX3_image 15 = .ok (.istore_n 1, 1) := dk_60 (dk_at dksX3_image_0 15 rfl rfl)
theorem dX3_image_16 : decode cX3_image 16 = .ok (.iload_n 1, 1) := dk_27 (dk_at dksX3_image_0 16 rfl rfl)
theorem dX3_image_17 : decode cX3_image 17 = .ok (.sipush 291, 3) := dk_17 1 35 (dk_at dksX3_image_0 17 rfl rfl)
theorem dX3_image_20 : decode cX3_image 20 = .ok (.if_icmp .ge 21, 3) := dk_162 0 21 (dk_at dksX3_image_0 20 rfl rfl)
theorem dX3_image_23 : decode cX3_image 23 = .ok (.aload_n 0, 1) := dk_42 (dk_at dksX3_image_0 23 rfl rfl)
theorem dX3_image_24 : decode cX3_image 24 = .ok (.getfield 96, 3) := dk_180 0 96 (dk_at dksX3_image_1 0 rfl rfl)
theorem dX3_image_27 : decode cX3_image 27 = .ok (.iload_n 1, 1) := dk_27 (dk_at dksX3_image_1 3 rfl rfl)
theorem dX3_image_28 : decode cX3_image 28 = .ok (.aload_n 0, 1) := dk_42 (dk_at dksX3_image_1 4 rfl rfl)
theorem dX3_image_29 : decode cX3_image 29 = .ok (.getfield 61, 3) := dk_180 0 61 (dk_at dksX3_image_1 5 rfl rfl)
theorem dX3_image_32 : decode cX3_image 32 = .ok (.iload_n 1, 1) := dk_27 (dk_at dksX3_image_1 8 rfl rfl)
theorem dX3_image_33 : decode cX3_image 33 = .ok (.iaload, 1) := dk_46 (dk_at dksX3_image_1 9 rfl rfl)
theorem dX3_image_34 : decode cX3_image 34 = .ok (.iastore, 1) := dk_79 (dk_at dksX3_image_1 10 rfl rfl)
theorem dX3_image_35 : decode cX3_image 35 = .ok (.iinc 1 1, 3) := dk_132 1 1 (dk_at dksX3_image_1 11 rfl rfl)
theorem dX3_image_38 : decode cX3_image 38 = .ok (.goto (-22), 3) := dk_167 255 234 (dk_at dksX3_image_1 14 rfl rfl)
theorem dX3_image_41 : decode cX3_image 41 = .ok (.aload_n 0, 1) := dk_42 (dk_at dksX3_image_1 17 rfl rfl)
theorem dX3_image_42 : decode cX3_image 42 = .ok (.iconst 1, 1) := dk_4 (dk_at dksX3_image_1 18 rfl rfl)
theorem dX3_image_43 : decode cX3_image 43 = .ok (.putfield 303, 3) := dk_181 1 47 (dk_at dksX3_image_1 19 rfl rfl)
theorem dX3_image_46 : decode cX3_image 46 = .ok (.aload_n 0, 1) := dk_42 (dk_at dksX3_image_1 22 rfl rfl)
theorem dX3_image_47 : decode cX3_image 47 = .ok (.getfield 61, 3) := dk_180 0 61 (dk_at dksX3_image_2 0 rfl rfl)
theorem dX3_image_50 : decode cX3_image 50 = .ok (.bipush 18, 2) := dk_16 18 (dk_at dksX3_image_2 3 rfl rfl)
theorem dX3_image_52 : decode cX3_image 52 = .ok (.iaload, 1) := dk_46 (dk_at dksX3_image_2 5 rfl rfl)
theorem dX3_image_53 : decode cX3_image 53 = .ok (.ireturn, 1) := dk_172 (dk_at dksX3_image_2 6 rfl rfl)
abbrev cX3_back : ByteArray := prog_14_method_105_code
def yX3_back : MethodName := ⟨RX3, "back", "()I"⟩
def dkwX3_back_2 : List UInt8 := [180, 0, 61, 16, 18, 46, 172]
abbrev dktX3_back_2 : List UInt8 := dkwX3_back_2 ++ []
def dkwX3_back_1 : List UInt8 := [180, 0, 61, 27, 42, 180, 0, 96, 27, 46, 79, 132, 1, 1, 167, 255, 234, 42, 3, 181, 1, 44, 42]
abbrev dktX3_back_1 : List UInt8 := dkwX3_back_1 ++ dktX3_back_2
def dkwX3_back_0 : List UInt8 := [42, 3, 181, 0, 99, 42, 180, 1, 47, 154, 0, 5, 2, 172, 3, 60, 27, 17, 1, 35, 162, 0, 21, 42]
abbrev dktX3_back_0 : List UInt8 := dkwX3_back_0 ++ dktX3_back_1
theorem dksX3_back_0 : cX3_back.data.toList.drop 0 = dktX3_back_0 := by decide +kernel
theorem dksX3_back_1 : cX3_back.data.toList.drop 24 = dktX3_back_1 := dk_seg dksX3_back_0 24 rfl rfl
theorem dksX3_back_2 : cX3_back.data.toList.drop 47 = dktX3_back_2 := dk_seg dksX3_back_1 23 rfl rfl
theorem dX3_back_0 : decode cX3_back 0 = .ok (.aload_n 0, 1) := dk_42 (dk_at dksX3_back_0 0 rfl rfl)
theorem dX3_back_1 : decode cX3_back 1 = .ok (.iconst 0, 1) := dk_3 (dk_at dksX3_back_0 1 rfl rfl)
theorem dX3_back_2 : decode cX3_back 2 = .ok (.putfield 99, 3) := dk_181 0 99 (dk_at dksX3_back_0 2 rfl rfl)
theorem dX3_back_5 : decode cX3_back 5 = .ok (.aload_n 0, 1) := dk_42 (dk_at dksX3_back_0 5 rfl rfl)
theorem dX3_back_6 : decode cX3_back 6 = .ok (.getfield 303, 3) := dk_180 1 47 (dk_at dksX3_back_0 6 rfl rfl)
theorem dX3_back_9 : decode cX3_back 9 = .ok (.ifCond .ne 5, 3) := dk_154 0 5 (dk_at dksX3_back_0 9 rfl rfl)
theorem dX3_back_12 : decode cX3_back 12 = .ok (.iconst (-1), 1) := dk_2 (dk_at dksX3_back_0 12 rfl rfl)
theorem dX3_back_13 : decode cX3_back 13 = .ok (.ireturn, 1) := dk_172 (dk_at dksX3_back_0 13 rfl rfl)
theorem dX3_back_14 : decode cX3_back 14 = .ok (.iconst 0, 1) := dk_3 (dk_at dksX3_back_0 14 rfl rfl)
theorem dX3_back_15 : decode cX3_back 15 = .ok (.istore_n 1, 1) := dk_60 (dk_at dksX3_back_0 15 rfl rfl)
theorem dX3_back_16 : decode cX3_back 16 = .ok (.iload_n 1, 1) := dk_27 (dk_at dksX3_back_0 16 rfl rfl)
theorem dX3_back_17 : decode cX3_back 17 = .ok (.sipush 291, 3) := dk_17 1 35 (dk_at dksX3_back_0 17 rfl rfl)
theorem dX3_back_20 : decode cX3_back 20 = .ok (.if_icmp .ge 21, 3) := dk_162 0 21 (dk_at dksX3_back_0 20 rfl rfl)
theorem dX3_back_23 : decode cX3_back 23 = .ok (.aload_n 0, 1) := dk_42 (dk_at dksX3_back_0 23 rfl rfl)
theorem dX3_back_24 : decode cX3_back 24 = .ok (.getfield 61, 3) := dk_180 0 61 (dk_at dksX3_back_1 0 rfl rfl)
theorem dX3_back_27 : decode cX3_back 27 = .ok (.iload_n 1, 1) := dk_27 (dk_at dksX3_back_1 3 rfl rfl)
theorem dX3_back_28 : decode cX3_back 28 = .ok (.aload_n 0, 1) := dk_42 (dk_at dksX3_back_1 4 rfl rfl)
theorem dX3_back_29 : decode cX3_back 29 = .ok (.getfield 96, 3) := dk_180 0 96 (dk_at dksX3_back_1 5 rfl rfl)
theorem dX3_back_32 : decode cX3_back 32 = .ok (.iload_n 1, 1) := dk_27 (dk_at dksX3_back_1 8 rfl rfl)
theorem dX3_back_33 : decode cX3_back 33 = .ok (.iaload, 1) := dk_46 (dk_at dksX3_back_1 9 rfl rfl)
theorem dX3_back_34 : decode cX3_back 34 = .ok (.iastore, 1) := dk_79 (dk_at dksX3_back_1 10 rfl rfl)
theorem dX3_back_35 : decode cX3_back 35 = .ok (.iinc 1 1, 3) := dk_132 1 1 (dk_at dksX3_back_1 11 rfl rfl)
theorem dX3_back_38 : decode cX3_back 38 = .ok (.goto (-22), 3) := dk_167 255 234 (dk_at dksX3_back_1 14 rfl rfl)
theorem dX3_back_41 : decode cX3_back 41 = .ok (.aload_n 0, 1) := dk_42 (dk_at dksX3_back_1 17 rfl rfl)
theorem dX3_back_42 : decode cX3_back 42 = .ok (.iconst 0, 1) := dk_3 (dk_at dksX3_back_1 18 rfl rfl)
theorem dX3_back_43 : decode cX3_back 43 = .ok (.putfield 300, 3) := dk_181 1 44 (dk_at dksX3_back_1 19 rfl rfl)
theorem dX3_back_46 : decode cX3_back 46 = .ok (.aload_n 0, 1) := dk_42 (dk_at dksX3_back_1 22 rfl rfl)
theorem dX3_back_47 : decode cX3_back 47 = .ok (.getfield 61, 3) := dk_180 0 61 (dk_at dksX3_back_2 0 rfl rfl)
theorem dX3_back_50 : decode cX3_back 50 = .ok (.bipush 18, 2) := dk_16 18 (dk_at dksX3_back_2 3 rfl rfl)
theorem dX3_back_52 : decode cX3_back 52 = .ok (.iaload, 1) := dk_46 (dk_at dksX3_back_2 5 rfl rfl)
theorem dX3_back_53 : decode cX3_back 53 = .ok (.ireturn, 1) := dk_172 (dk_at dksX3_back_2 6 rfl rfl)
abbrev cX3_count : ByteArray := prog_14_method_106_code
def yX3_count : MethodName := ⟨RX3, "count", "(I)I"⟩
def dkwX3_count_5 : List UInt8 := [172, 42, 180, 1, 44, 172, 19, 1, 135, 172]
abbrev dktX3_count_5 : List UInt8 := dkwX3_count_5 ++ []
def dkwX3_count_4 : List UInt8 := [180, 0, 61, 16, 19, 46, 172, 42, 180, 0, 71, 172, 42, 180, 1, 41, 172, 42, 180, 0, 61, 16, 110, 46]
abbrev dktX3_count_4 : List UInt8 := dkwX3_count_4 ++ dktX3_count_5
def dkwX3_count_3 : List UInt8 := [172, 42, 180, 0, 67, 172, 42, 180, 0, 61, 16, 18, 46, 172, 42, 180, 0, 61, 16, 17, 46, 172, 42]
abbrev dktX3_count_3 : List UInt8 := dkwX3_count_3 ++ dktX3_count_4
def dkwX3_count_2 : List UInt8 := [42, 180, 1, 35, 172, 42, 180, 1, 38, 172, 42, 180, 1, 27, 172, 42, 180, 1, 30, 172, 42, 180, 0, 112]
abbrev dktX3_count_2 : List UInt8 := dkwX3_count_2 ++ dktX3_count_3
def dkwX3_count_1 : List UInt8 := [170, 0, 0, 0, 0, 143, 0, 0, 0, 0, 0, 0, 0, 12, 0, 0, 0, 66, 0, 0, 0, 71, 0, 0, 0, 76, 0, 0, 0, 81, 0, 0, 0, 86, 0, 0, 0, 91, 0, 0, 0, 96, 0, 0, 0, 104, 0, 0, 0, 112, 0, 0, 0, 120, 0, 0, 0, 125, 0, 0, 0, 130, 0, 0, 0, 138]
abbrev dktX3_count_1 : List UInt8 := dkwX3_count_1 ++ dktX3_count_2
def dkwX3_count_0 : List UInt8 := [42, 3, 181, 0, 99, 27]
abbrev dktX3_count_0 : List UInt8 := dkwX3_count_0 ++ dktX3_count_1
theorem dksX3_count_0 : cX3_count.data.toList.drop 0 = dktX3_count_0 := by decide +kernel
theorem dksX3_count_1 : cX3_count.data.toList.drop 6 = dktX3_count_1 := dk_seg dksX3_count_0 6 rfl rfl
theorem dksX3_count_2 : cX3_count.data.toList.drop 72 = dktX3_count_2 := dk_seg dksX3_count_1 66 rfl rfl
theorem dksX3_count_3 : cX3_count.data.toList.drop 96 = dktX3_count_3 := dk_seg dksX3_count_2 24 rfl rfl
theorem dksX3_count_4 : cX3_count.data.toList.drop 119 = dktX3_count_4 := dk_seg dksX3_count_3 23 rfl rfl
theorem dksX3_count_5 : cX3_count.data.toList.drop 143 = dktX3_count_5 := dk_seg dksX3_count_4 24 rfl rfl
theorem dX3_count_0 : decode cX3_count 0 = .ok (.aload_n 0, 1) := dk_42 (dk_at dksX3_count_0 0 rfl rfl)
theorem dX3_count_1 : decode cX3_count 1 = .ok (.iconst 0, 1) := dk_3 (dk_at dksX3_count_0 1 rfl rfl)
theorem dX3_count_2 : decode cX3_count 2 = .ok (.putfield 99, 3) := dk_181 0 99 (dk_at dksX3_count_0 2 rfl rfl)
theorem dX3_count_5 : decode cX3_count 5 = .ok (.iload_n 1, 1) := dk_27 (dk_at dksX3_count_0 5 rfl rfl)
theorem dX3_count_6 : decode cX3_count 6 = .ok (.tableswitch 143 0 12 #[66, 71, 76, 81, 86, 91, 96, 104, 112, 120, 125, 130, 138], 66) := by decide +kernel
theorem dX3_count_72 : decode cX3_count 72 = .ok (.aload_n 0, 1) := dk_42 (dk_at dksX3_count_2 0 rfl rfl)
theorem dX3_count_73 : decode cX3_count 73 = .ok (.getfield 291, 3) := dk_180 1 35 (dk_at dksX3_count_2 1 rfl rfl)
theorem dX3_count_76 : decode cX3_count 76 = .ok (.ireturn, 1) := dk_172 (dk_at dksX3_count_2 4 rfl rfl)
theorem dX3_count_77 : decode cX3_count 77 = .ok (.aload_n 0, 1) := dk_42 (dk_at dksX3_count_2 5 rfl rfl)
theorem dX3_count_78 : decode cX3_count 78 = .ok (.getfield 294, 3) := dk_180 1 38 (dk_at dksX3_count_2 6 rfl rfl)
theorem dX3_count_81 : decode cX3_count 81 = .ok (.ireturn, 1) := dk_172 (dk_at dksX3_count_2 9 rfl rfl)
theorem dX3_count_82 : decode cX3_count 82 = .ok (.aload_n 0, 1) := dk_42 (dk_at dksX3_count_2 10 rfl rfl)
theorem dX3_count_83 : decode cX3_count 83 = .ok (.getfield 283, 3) := dk_180 1 27 (dk_at dksX3_count_2 11 rfl rfl)
theorem dX3_count_86 : decode cX3_count 86 = .ok (.ireturn, 1) := dk_172 (dk_at dksX3_count_2 14 rfl rfl)
theorem dX3_count_87 : decode cX3_count 87 = .ok (.aload_n 0, 1) := dk_42 (dk_at dksX3_count_2 15 rfl rfl)
theorem dX3_count_88 : decode cX3_count 88 = .ok (.getfield 286, 3) := dk_180 1 30 (dk_at dksX3_count_2 16 rfl rfl)
theorem dX3_count_91 : decode cX3_count 91 = .ok (.ireturn, 1) := dk_172 (dk_at dksX3_count_2 19 rfl rfl)
theorem dX3_count_92 : decode cX3_count 92 = .ok (.aload_n 0, 1) := dk_42 (dk_at dksX3_count_2 20 rfl rfl)
theorem dX3_count_93 : decode cX3_count 93 = .ok (.getfield 112, 3) := dk_180 0 112 (dk_at dksX3_count_2 21 rfl rfl)
theorem dX3_count_96 : decode cX3_count 96 = .ok (.ireturn, 1) := dk_172 (dk_at dksX3_count_3 0 rfl rfl)
theorem dX3_count_97 : decode cX3_count 97 = .ok (.aload_n 0, 1) := dk_42 (dk_at dksX3_count_3 1 rfl rfl)
theorem dX3_count_98 : decode cX3_count 98 = .ok (.getfield 67, 3) := dk_180 0 67 (dk_at dksX3_count_3 2 rfl rfl)
theorem dX3_count_101 : decode cX3_count 101 = .ok (.ireturn, 1) := dk_172 (dk_at dksX3_count_3 5 rfl rfl)
theorem dX3_count_102 : decode cX3_count 102 = .ok (.aload_n 0, 1) := dk_42 (dk_at dksX3_count_3 6 rfl rfl)
theorem dX3_count_103 : decode cX3_count 103 = .ok (.getfield 61, 3) := dk_180 0 61 (dk_at dksX3_count_3 7 rfl rfl)
theorem dX3_count_106 : decode cX3_count 106 = .ok (.bipush 18, 2) := dk_16 18 (dk_at dksX3_count_3 10 rfl rfl)
theorem dX3_count_108 : decode cX3_count 108 = .ok (.iaload, 1) := dk_46 (dk_at dksX3_count_3 12 rfl rfl)
theorem dX3_count_109 : decode cX3_count 109 = .ok (.ireturn, 1) := dk_172 (dk_at dksX3_count_3 13 rfl rfl)
theorem dX3_count_110 : decode cX3_count 110 = .ok (.aload_n 0, 1) := dk_42 (dk_at dksX3_count_3 14 rfl rfl)
theorem dX3_count_111 : decode cX3_count 111 = .ok (.getfield 61, 3) := dk_180 0 61 (dk_at dksX3_count_3 15 rfl rfl)
theorem dX3_count_114 : decode cX3_count 114 = .ok (.bipush 17, 2) := dk_16 17 (dk_at dksX3_count_3 18 rfl rfl)
theorem dX3_count_116 : decode cX3_count 116 = .ok (.iaload, 1) := dk_46 (dk_at dksX3_count_3 20 rfl rfl)
theorem dX3_count_117 : decode cX3_count 117 = .ok (.ireturn, 1) := dk_172 (dk_at dksX3_count_3 21 rfl rfl)
theorem dX3_count_118 : decode cX3_count 118 = .ok (.aload_n 0, 1) := dk_42 (dk_at dksX3_count_3 22 rfl rfl)
theorem dX3_count_119 : decode cX3_count 119 = .ok (.getfield 61, 3) := dk_180 0 61 (dk_at dksX3_count_4 0 rfl rfl)
theorem dX3_count_122 : decode cX3_count 122 = .ok (.bipush 19, 2) := dk_16 19 (dk_at dksX3_count_4 3 rfl rfl)
theorem dX3_count_124 : decode cX3_count 124 = .ok (.iaload, 1) := dk_46 (dk_at dksX3_count_4 5 rfl rfl)
theorem dX3_count_125 : decode cX3_count 125 = .ok (.ireturn, 1) := dk_172 (dk_at dksX3_count_4 6 rfl rfl)
theorem dX3_count_126 : decode cX3_count 126 = .ok (.aload_n 0, 1) := dk_42 (dk_at dksX3_count_4 7 rfl rfl)
theorem dX3_count_127 : decode cX3_count 127 = .ok (.getfield 71, 3) := dk_180 0 71 (dk_at dksX3_count_4 8 rfl rfl)
theorem dX3_count_130 : decode cX3_count 130 = .ok (.ireturn, 1) := dk_172 (dk_at dksX3_count_4 11 rfl rfl)
theorem dX3_count_131 : decode cX3_count 131 = .ok (.aload_n 0, 1) := dk_42 (dk_at dksX3_count_4 12 rfl rfl)
theorem dX3_count_132 : decode cX3_count 132 = .ok (.getfield 297, 3) := dk_180 1 41 (dk_at dksX3_count_4 13 rfl rfl)
theorem dX3_count_135 : decode cX3_count 135 = .ok (.ireturn, 1) := dk_172 (dk_at dksX3_count_4 16 rfl rfl)
theorem dX3_count_136 : decode cX3_count 136 = .ok (.aload_n 0, 1) := dk_42 (dk_at dksX3_count_4 17 rfl rfl)
theorem dX3_count_137 : decode cX3_count 137 = .ok (.getfield 61, 3) := dk_180 0 61 (dk_at dksX3_count_4 18 rfl rfl)
theorem dX3_count_140 : decode cX3_count 140 = .ok (.bipush 110, 2) := dk_16 110 (dk_at dksX3_count_4 21 rfl rfl)
theorem dX3_count_142 : decode cX3_count 142 = .ok (.iaload, 1) := dk_46 (dk_at dksX3_count_4 23 rfl rfl)
theorem dX3_count_143 : decode cX3_count 143 = .ok (.ireturn, 1) := dk_172 (dk_at dksX3_count_5 0 rfl rfl)
theorem dX3_count_144 : decode cX3_count 144 = .ok (.aload_n 0, 1) := dk_42 (dk_at dksX3_count_5 1 rfl rfl)
theorem dX3_count_145 : decode cX3_count 145 = .ok (.getfield 300, 3) := dk_180 1 44 (dk_at dksX3_count_5 2 rfl rfl)
theorem dX3_count_148 : decode cX3_count 148 = .ok (.ireturn, 1) := dk_172 (dk_at dksX3_count_5 5 rfl rfl)
theorem dX3_count_149 : decode cX3_count 149 = .ok (.ldc_w 391, 3) := dk_19 1 135 (dk_at dksX3_count_5 6 rfl rfl)
theorem dX3_count_152 : decode cX3_count 152 = .ok (.ireturn, 1) := dk_172 (dk_at dksX3_count_5 9 rfl rfl)
theorem q123 : (Jvm.Cond.initialized "LosersBooksModel") ∈ lw_all := lw_g (lw_at lw_m1 5 rfl) rfl
theorem q1114 : (Jvm.Cond.instantiable "LosersBooksModel" (48 : Nat)) ∈ lw_all := lw_g (lw_at lw_m5 36 rfl) rfl
theorem q1116 : (Jvm.Cond.instanceMethod ({ cls := "LosersBooksModel", name := "<init>", desc := "()V" } : Jvm.MethodName)) ∈ lw_all := lw_g (lw_at lw_m5 38 rfl) rfl
theorem q1117 : (Jvm.Cond.code ({ cls := "LosersBooksModel", name := "<init>", desc := "()V" } : Jvm.MethodName) prog_14_method_1_code (1 : Nat) (Option.none : Option Jvm.ClassFile.FieldType)) ∈ lw_all := lw_g (lw_at lw_m5 39 rfl) rfl
theorem q1118 : (Jvm.Cond.methodLink "LosersBooksModel" (3 : Nat) ({ cls := "java/lang/Object", name := "<init>", desc := "()V" } : Jvm.MethodName)) ∈ lw_all := lw_g (lw_at lw_m5 40 rfl) rfl
theorem q1119 : (Jvm.Cond.stringRef "LosersBooksModel" (26 : Nat) "y") ∈ lw_tbl := lw_at lw_m5 41 rfl
theorem q1120 : (Jvm.Cond.stringRef "LosersBooksModel" (32 : Nat) "mgspwd") ∈ lw_tbl := lw_at lw_m5 42 rfl
theorem q1121 : (Jvm.Cond.fieldLink "LosersBooksModel" (99 : Nat) "LosersBooksModel" "thrown" "I") ∈ lw_all := lw_g (lw_at lw_m5 43 rfl) rfl
theorem q1122 : (Jvm.Cond.fieldLink "LosersBooksModel" (9 : Nat) "LosersBooksModel" "tape" "[B") ∈ lw_all := lw_g (lw_at lw_m5 44 rfl) rfl
theorem q1123 : (Jvm.Cond.fieldLink "LosersBooksModel" (13 : Nat) "LosersBooksModel" "texts" "[B") ∈ lw_all := lw_g (lw_at lw_m5 45 rfl) rfl
theorem q1124 : (Jvm.Cond.fieldLink "LosersBooksModel" (16 : Nat) "LosersBooksModel" "textLong" "[I") ∈ lw_all := lw_g (lw_at lw_m5 46 rfl) rfl
theorem q1125 : (Jvm.Cond.fieldLink "LosersBooksModel" (20 : Nat) "LosersBooksModel" "letters" "[I") ∈ lw_all := lw_g (lw_at lw_m5 47 rfl) rfl
theorem q1126 : (Jvm.Cond.fieldLink "LosersBooksModel" (23 : Nat) "LosersBooksModel" "text" "[B") ∈ lw_all := lw_g (lw_at lw_m5 48 rfl) rfl
theorem q1127 : (Jvm.Cond.fieldLink "LosersBooksModel" (112 : Nat) "LosersBooksModel" "length" "I") ∈ lw_all := lw_g (lw_at lw_m5 49 rfl) rfl
theorem q1128 : (Jvm.Cond.fieldLink "LosersBooksModel" (283 : Nat) "LosersBooksModel" "lawMany" "I") ∈ lw_all := lw_g (lw_at lw_m5 50 rfl) rfl
theorem q1129 : (Jvm.Cond.fieldLink "LosersBooksModel" (128 : Nat) "LosersBooksModel" "begins" "I") ∈ lw_all := lw_g (lw_at lw_m5 51 rfl) rfl
theorem q1130 : (Jvm.Cond.fieldLink "LosersBooksModel" (125 : Nat) "LosersBooksModel" "ends" "I") ∈ lw_all := lw_g (lw_at lw_m5 52 rfl) rfl
theorem q1131 : (Jvm.Cond.fieldLink "LosersBooksModel" (122 : Nat) "LosersBooksModel" "at" "I") ∈ lw_all := lw_g (lw_at lw_m5 53 rfl) rfl
theorem q1132 : (Jvm.Cond.fieldLink "LosersBooksModel" (131 : Nat) "LosersBooksModel" "fault" "I") ∈ lw_all := lw_g (lw_at lw_m5 54 rfl) rfl
theorem q1133 : (Jvm.Cond.fieldLink "LosersBooksModel" (134 : Nat) "LosersBooksModel" "deep" "I") ∈ lw_all := lw_g (lw_at lw_m5 55 rfl) rfl
theorem q1134 : (Jvm.Cond.fieldLink "LosersBooksModel" (204 : Nat) "LosersBooksModel" "label" "I") ∈ lw_all := lw_g (lw_at lw_m5 56 rfl) rfl
theorem q1135 : (Jvm.Cond.fieldLink "LosersBooksModel" (207 : Nat) "LosersBooksModel" "found" "I") ∈ lw_all := lw_g (lw_at lw_m5 57 rfl) rfl
theorem q1136 : (Jvm.Cond.fieldLink "LosersBooksModel" (28 : Nat) "LosersBooksModel" "labels" "Ljava/lang/String;") ∈ lw_all := lw_g (lw_at lw_m5 58 rfl) rfl
theorem q1137 : (Jvm.Cond.fieldLink "LosersBooksModel" (34 : Nat) "LosersBooksModel" "allowed" "Ljava/lang/String;") ∈ lw_all := lw_g (lw_at lw_m5 59 rfl) rfl
theorem q1138 : (Jvm.Cond.fieldLink "LosersBooksModel" (200 : Nat) "LosersBooksModel" "hasFound" "Z") ∈ lw_all := lw_g (lw_at lw_m5 60 rfl) rfl
theorem q1139 : (Jvm.Cond.fieldLink "LosersBooksModel" (37 : Nat) "LosersBooksModel" "rule" "[I") ∈ lw_all := lw_g (lw_at lw_m5 61 rfl) rfl
theorem q1140 : (Jvm.Cond.fieldLink "LosersBooksModel" (40 : Nat) "LosersBooksModel" "ruleRead" "[I") ∈ lw_all := lw_g (lw_at lw_m5 62 rfl) rfl
theorem q1141 : (Jvm.Cond.fieldLink "LosersBooksModel" (43 : Nat) "LosersBooksModel" "realm" "[I") ∈ lw_all := lw_g (lw_at lw_m5 63 rfl) rfl
theorem q1142 : (Jvm.Cond.fieldLink "LosersBooksModel" (46 : Nat) "LosersBooksModel" "realmRead" "[I") ∈ lw_all := lw_g (lw_at lw_m5 64 rfl) rfl
theorem q1143 : (Jvm.Cond.fieldLink "LosersBooksModel" (49 : Nat) "LosersBooksModel" "ground" "[I") ∈ lw_all := lw_g (lw_at lw_m5 65 rfl) rfl
theorem q1144 : (Jvm.Cond.fieldLink "LosersBooksModel" (52 : Nat) "LosersBooksModel" "groundRead" "[I") ∈ lw_all := lw_g (lw_at lw_m5 66 rfl) rfl
theorem q1145 : (Jvm.Cond.fieldLink "LosersBooksModel" (55 : Nat) "LosersBooksModel" "plan" "[I") ∈ lw_all := lw_g (lw_at lw_m5 67 rfl) rfl
theorem q1146 : (Jvm.Cond.fieldLink "LosersBooksModel" (58 : Nat) "LosersBooksModel" "planLong" "[I") ∈ lw_all := lw_g (lw_at lw_m5 68 rfl) rfl
theorem q1147 : (Jvm.Cond.fieldLink "LosersBooksModel" (291 : Nat) "LosersBooksModel" "kingdoms" "I") ∈ lw_all := lw_g (lw_at lw_m5 69 rfl) rfl
theorem q1148 : (Jvm.Cond.fieldLink "LosersBooksModel" (294 : Nat) "LosersBooksModel" "fields" "I") ∈ lw_all := lw_g (lw_at lw_m5 70 rfl) rfl
theorem q1149 : (Jvm.Cond.fieldLink "LosersBooksModel" (241 : Nat) "LosersBooksModel" "kingdomsRead" "I") ∈ lw_all := lw_g (lw_at lw_m5 71 rfl) rfl
theorem q1150 : (Jvm.Cond.fieldLink "LosersBooksModel" (244 : Nat) "LosersBooksModel" "fieldsRead" "I") ∈ lw_all := lw_g (lw_at lw_m5 72 rfl) rfl
theorem q1151 : (Jvm.Cond.fieldLink "LosersBooksModel" (286 : Nat) "LosersBooksModel" "plans" "I") ∈ lw_all := lw_g (lw_at lw_m5 73 rfl) rfl
theorem q1152 : (Jvm.Cond.fieldLink "LosersBooksModel" (238 : Nat) "LosersBooksModel" "hasRules" "Z") ∈ lw_all := lw_g (lw_at lw_m5 74 rfl) rfl
theorem q1153 : (Jvm.Cond.fieldLink "LosersBooksModel" (61 : Nat) "LosersBooksModel" "now" "[I") ∈ lw_all := lw_g (lw_at lw_m5 75 rfl) rfl
theorem q1154 : (Jvm.Cond.fieldLink "LosersBooksModel" (64 : Nat) "LosersBooksModel" "trial" "[I") ∈ lw_all := lw_g (lw_at lw_m5 76 rfl) rfl
theorem q1155 : (Jvm.Cond.fieldLink "LosersBooksModel" (67 : Nat) "LosersBooksModel" "law" "I") ∈ lw_all := lw_g (lw_at lw_m5 77 rfl) rfl
theorem q1156 : (Jvm.Cond.fieldLink "LosersBooksModel" (71 : Nat) "LosersBooksModel" "intriguing" "I") ∈ lw_all := lw_g (lw_at lw_m5 78 rfl) rfl
theorem q1157 : (Jvm.Cond.fieldLink "LosersBooksModel" (74 : Nat) "LosersBooksModel" "memoKey" "[J") ∈ lw_all := lw_g (lw_at lw_m5 79 rfl) rfl
theorem q1158 : (Jvm.Cond.fieldLink "LosersBooksModel" (78 : Nat) "LosersBooksModel" "memoWorth" "[I") ∈ lw_all := lw_g (lw_at lw_m5 80 rfl) rfl
theorem q1159 : (Jvm.Cond.fieldLink "LosersBooksModel" (81 : Nat) "LosersBooksModel" "undoRow" "[I") ∈ lw_all := lw_g (lw_at lw_m5 81 rfl) rfl
theorem q1160 : (Jvm.Cond.fieldLink "LosersBooksModel" (300 : Nat) "LosersBooksModel" "acts" "I") ∈ lw_all := lw_g (lw_at lw_m5 82 rfl) rfl
theorem q1161 : (Jvm.Cond.fieldLink "LosersBooksModel" (378 : Nat) "LosersBooksModel" "x" "J") ∈ lw_all := lw_g (lw_at lw_m5 83 rfl) rfl
theorem q1162 : (Jvm.Cond.fieldLink "LosersBooksModel" (84 : Nat) "LosersBooksModel" "note" "[I") ∈ lw_all := lw_g (lw_at lw_m5 84 rfl) rfl
theorem q1163 : (Jvm.Cond.fieldLink "LosersBooksModel" (87 : Nat) "LosersBooksModel" "truth" "[I") ∈ lw_all := lw_g (lw_at lw_m5 85 rfl) rfl
theorem q1164 : (Jvm.Cond.fieldLink "LosersBooksModel" (90 : Nat) "LosersBooksModel" "bias" "[I") ∈ lw_all := lw_g (lw_at lw_m5 86 rfl) rfl
theorem q1165 : (Jvm.Cond.fieldLink "LosersBooksModel" (297 : Nat) "LosersBooksModel" "notes" "I") ∈ lw_all := lw_g (lw_at lw_m5 87 rfl) rfl
theorem q1166 : (Jvm.Cond.fieldLink "LosersBooksModel" (93 : Nat) "LosersBooksModel" "tally" "[I") ∈ lw_all := lw_g (lw_at lw_m5 88 rfl) rfl
theorem q1167 : (Jvm.Cond.fieldLink "LosersBooksModel" (96 : Nat) "LosersBooksModel" "imageRow" "[I") ∈ lw_all := lw_g (lw_at lw_m5 89 rfl) rfl
theorem q1168 : (Jvm.Cond.fieldLink "LosersBooksModel" (303 : Nat) "LosersBooksModel" "hasImage" "Z") ∈ lw_all := lw_g (lw_at lw_m5 90 rfl) rfl
theorem q1169 : (Jvm.Cond.lays "LosersBooksModel" "LosersBooksModel" "thrown" "I") ∈ lw_all := lw_g (lw_at lw_m5 91 rfl) rfl
theorem q1170 : (Jvm.Cond.soleField "LosersBooksModel" "thrown") ∈ lw_all := lw_g (lw_at lw_m5 92 rfl) rfl
theorem q1171 : (Jvm.Cond.laysFinal "LosersBooksModel" "LosersBooksModel" "tape" "[B") ∈ lw_all := lw_g (lw_at lw_m5 93 rfl) rfl
theorem q1172 : (Jvm.Cond.soleField "LosersBooksModel" "tape") ∈ lw_all := lw_g (lw_at lw_m5 94 rfl) rfl
theorem q1173 : (Jvm.Cond.laysFinal "LosersBooksModel" "LosersBooksModel" "texts" "[B") ∈ lw_all := lw_g (lw_at lw_m5 95 rfl) rfl
theorem q1174 : (Jvm.Cond.soleField "LosersBooksModel" "texts") ∈ lw_all := lw_g (lw_at lw_m5 96 rfl) rfl
theorem q1175 : (Jvm.Cond.laysFinal "LosersBooksModel" "LosersBooksModel" "textLong" "[I") ∈ lw_all := lw_g (lw_at lw_m5 97 rfl) rfl
theorem q1176 : (Jvm.Cond.soleField "LosersBooksModel" "textLong") ∈ lw_all := lw_g (lw_at lw_m5 98 rfl) rfl
theorem q1177 : (Jvm.Cond.laysFinal "LosersBooksModel" "LosersBooksModel" "letters" "[I") ∈ lw_all := lw_g (lw_at lw_m5 99 rfl) rfl
theorem q1178 : (Jvm.Cond.soleField "LosersBooksModel" "letters") ∈ lw_all := lw_g (lw_at lw_m5 100 rfl) rfl
theorem q1179 : (Jvm.Cond.lays "LosersBooksModel" "LosersBooksModel" "text" "[B") ∈ lw_all := lw_g (lw_at lw_m5 101 rfl) rfl
theorem q1180 : (Jvm.Cond.soleField "LosersBooksModel" "text") ∈ lw_all := lw_g (lw_at lw_m5 102 rfl) rfl
theorem q1181 : (Jvm.Cond.lays "LosersBooksModel" "LosersBooksModel" "length" "I") ∈ lw_all := lw_g (lw_at lw_m5 103 rfl) rfl
theorem q1182 : (Jvm.Cond.soleField "LosersBooksModel" "length") ∈ lw_all := lw_g (lw_at lw_m5 104 rfl) rfl
theorem q1183 : (Jvm.Cond.lays "LosersBooksModel" "LosersBooksModel" "lawMany" "I") ∈ lw_all := lw_g (lw_at lw_m5 105 rfl) rfl
theorem q1184 : (Jvm.Cond.soleField "LosersBooksModel" "lawMany") ∈ lw_all := lw_g (lw_at lw_m5 106 rfl) rfl
theorem q1185 : (Jvm.Cond.lays "LosersBooksModel" "LosersBooksModel" "begins" "I") ∈ lw_all := lw_g (lw_at lw_m5 107 rfl) rfl
theorem q1186 : (Jvm.Cond.soleField "LosersBooksModel" "begins") ∈ lw_all := lw_g (lw_at lw_m5 108 rfl) rfl
theorem q1187 : (Jvm.Cond.lays "LosersBooksModel" "LosersBooksModel" "ends" "I") ∈ lw_all := lw_g (lw_at lw_m5 109 rfl) rfl
theorem q1188 : (Jvm.Cond.soleField "LosersBooksModel" "ends") ∈ lw_all := lw_g (lw_at lw_m5 110 rfl) rfl
theorem q1189 : (Jvm.Cond.lays "LosersBooksModel" "LosersBooksModel" "at" "I") ∈ lw_all := lw_g (lw_at lw_m5 111 rfl) rfl
theorem q1190 : (Jvm.Cond.soleField "LosersBooksModel" "at") ∈ lw_all := lw_g (lw_at lw_m5 112 rfl) rfl
theorem q1191 : (Jvm.Cond.lays "LosersBooksModel" "LosersBooksModel" "fault" "I") ∈ lw_all := lw_g (lw_at lw_m5 113 rfl) rfl
theorem q1192 : (Jvm.Cond.soleField "LosersBooksModel" "fault") ∈ lw_all := lw_g (lw_at lw_m5 114 rfl) rfl
theorem q1193 : (Jvm.Cond.lays "LosersBooksModel" "LosersBooksModel" "deep" "I") ∈ lw_all := lw_g (lw_at lw_m5 115 rfl) rfl
theorem q1194 : (Jvm.Cond.soleField "LosersBooksModel" "deep") ∈ lw_all := lw_g (lw_at lw_m5 116 rfl) rfl
theorem q1195 : (Jvm.Cond.lays "LosersBooksModel" "LosersBooksModel" "label" "I") ∈ lw_all := lw_g (lw_at lw_m5 117 rfl) rfl
theorem q1196 : (Jvm.Cond.soleField "LosersBooksModel" "label") ∈ lw_all := lw_g (lw_at lw_m5 118 rfl) rfl
theorem q1197 : (Jvm.Cond.lays "LosersBooksModel" "LosersBooksModel" "found" "I") ∈ lw_all := lw_g (lw_at lw_m5 119 rfl) rfl
theorem q1198 : (Jvm.Cond.soleField "LosersBooksModel" "found") ∈ lw_all := lw_g (lw_at lw_m5 120 rfl) rfl
theorem q1199 : (Jvm.Cond.laysFinal "LosersBooksModel" "LosersBooksModel" "labels" "Ljava/lang/String;") ∈ lw_all := lw_g (lw_at lw_m5 121 rfl) rfl
theorem q1200 : (Jvm.Cond.soleField "LosersBooksModel" "labels") ∈ lw_all := lw_g (lw_at lw_m5 122 rfl) rfl
theorem q1201 : (Jvm.Cond.laysFinal "LosersBooksModel" "LosersBooksModel" "allowed" "Ljava/lang/String;") ∈ lw_all := lw_g (lw_at lw_m5 123 rfl) rfl
theorem q1202 : (Jvm.Cond.soleField "LosersBooksModel" "allowed") ∈ lw_all := lw_g (lw_at lw_m5 124 rfl) rfl
theorem q1203 : (Jvm.Cond.lays "LosersBooksModel" "LosersBooksModel" "hasFound" "Z") ∈ lw_all := lw_g (lw_at lw_m5 125 rfl) rfl
theorem q1204 : (Jvm.Cond.soleField "LosersBooksModel" "hasFound") ∈ lw_all := lw_g (lw_at lw_m5 126 rfl) rfl
theorem q1205 : (Jvm.Cond.laysFinal "LosersBooksModel" "LosersBooksModel" "rule" "[I") ∈ lw_all := lw_g (lw_at lw_m5 127 rfl) rfl
theorem q1206 : (Jvm.Cond.soleField "LosersBooksModel" "rule") ∈ lw_all := lw_g (lw_at lw_m5 128 rfl) rfl
theorem q1207 : (Jvm.Cond.laysFinal "LosersBooksModel" "LosersBooksModel" "ruleRead" "[I") ∈ lw_all := lw_g (lw_at lw_m5 129 rfl) rfl
theorem q1208 : (Jvm.Cond.soleField "LosersBooksModel" "ruleRead") ∈ lw_all := lw_g (lw_at lw_m5 130 rfl) rfl
theorem q1209 : (Jvm.Cond.laysFinal "LosersBooksModel" "LosersBooksModel" "realm" "[I") ∈ lw_all := lw_g (lw_at lw_m5 131 rfl) rfl
theorem q1210 : (Jvm.Cond.soleField "LosersBooksModel" "realm") ∈ lw_all := lw_g (lw_at lw_m5 132 rfl) rfl
theorem q1211 : (Jvm.Cond.laysFinal "LosersBooksModel" "LosersBooksModel" "realmRead" "[I") ∈ lw_all := lw_g (lw_at lw_m5 133 rfl) rfl
theorem q1212 : (Jvm.Cond.soleField "LosersBooksModel" "realmRead") ∈ lw_all := lw_g (lw_at lw_m5 134 rfl) rfl
theorem q1213 : (Jvm.Cond.laysFinal "LosersBooksModel" "LosersBooksModel" "ground" "[I") ∈ lw_all := lw_g (lw_at lw_m5 135 rfl) rfl
theorem q1214 : (Jvm.Cond.soleField "LosersBooksModel" "ground") ∈ lw_all := lw_g (lw_at lw_m5 136 rfl) rfl
theorem q1215 : (Jvm.Cond.laysFinal "LosersBooksModel" "LosersBooksModel" "groundRead" "[I") ∈ lw_all := lw_g (lw_at lw_m5 137 rfl) rfl
theorem q1216 : (Jvm.Cond.soleField "LosersBooksModel" "groundRead") ∈ lw_all := lw_g (lw_at lw_m5 138 rfl) rfl
theorem q1217 : (Jvm.Cond.laysFinal "LosersBooksModel" "LosersBooksModel" "plan" "[I") ∈ lw_all := lw_g (lw_at lw_m5 139 rfl) rfl
theorem q1218 : (Jvm.Cond.soleField "LosersBooksModel" "plan") ∈ lw_all := lw_g (lw_at lw_m5 140 rfl) rfl
theorem q1219 : (Jvm.Cond.laysFinal "LosersBooksModel" "LosersBooksModel" "planLong" "[I") ∈ lw_all := lw_g (lw_at lw_m5 141 rfl) rfl
theorem q1220 : (Jvm.Cond.soleField "LosersBooksModel" "planLong") ∈ lw_all := lw_g (lw_at lw_m5 142 rfl) rfl
theorem q1221 : (Jvm.Cond.lays "LosersBooksModel" "LosersBooksModel" "kingdoms" "I") ∈ lw_all := lw_g (lw_at lw_m5 143 rfl) rfl
theorem q1222 : (Jvm.Cond.soleField "LosersBooksModel" "kingdoms") ∈ lw_all := lw_g (lw_at lw_m5 144 rfl) rfl
theorem q1223 : (Jvm.Cond.lays "LosersBooksModel" "LosersBooksModel" "fields" "I") ∈ lw_all := lw_g (lw_at lw_m5 145 rfl) rfl
theorem q1224 : (Jvm.Cond.soleField "LosersBooksModel" "fields") ∈ lw_all := lw_g (lw_at lw_m5 146 rfl) rfl
theorem q1225 : (Jvm.Cond.lays "LosersBooksModel" "LosersBooksModel" "kingdomsRead" "I") ∈ lw_all := lw_g (lw_at lw_m5 147 rfl) rfl
theorem q1226 : (Jvm.Cond.soleField "LosersBooksModel" "kingdomsRead") ∈ lw_all := lw_g (lw_at lw_m5 148 rfl) rfl
theorem q1227 : (Jvm.Cond.lays "LosersBooksModel" "LosersBooksModel" "fieldsRead" "I") ∈ lw_all := lw_g (lw_at lw_m5 149 rfl) rfl
theorem q1228 : (Jvm.Cond.soleField "LosersBooksModel" "fieldsRead") ∈ lw_all := lw_g (lw_at lw_m5 150 rfl) rfl
theorem q1229 : (Jvm.Cond.lays "LosersBooksModel" "LosersBooksModel" "plans" "I") ∈ lw_all := lw_g (lw_at lw_m5 151 rfl) rfl
theorem q1230 : (Jvm.Cond.soleField "LosersBooksModel" "plans") ∈ lw_all := lw_g (lw_at lw_m5 152 rfl) rfl
theorem q1231 : (Jvm.Cond.lays "LosersBooksModel" "LosersBooksModel" "hasRules" "Z") ∈ lw_all := lw_g (lw_at lw_m5 153 rfl) rfl
theorem q1232 : (Jvm.Cond.soleField "LosersBooksModel" "hasRules") ∈ lw_all := lw_g (lw_at lw_m5 154 rfl) rfl
theorem q1233 : (Jvm.Cond.laysFinal "LosersBooksModel" "LosersBooksModel" "now" "[I") ∈ lw_all := lw_g (lw_at lw_m5 155 rfl) rfl
theorem q1234 : (Jvm.Cond.soleField "LosersBooksModel" "now") ∈ lw_all := lw_g (lw_at lw_m5 156 rfl) rfl
theorem q1235 : (Jvm.Cond.laysFinal "LosersBooksModel" "LosersBooksModel" "trial" "[I") ∈ lw_all := lw_g (lw_at lw_m5 157 rfl) rfl
theorem q1236 : (Jvm.Cond.soleField "LosersBooksModel" "trial") ∈ lw_all := lw_g (lw_at lw_m5 158 rfl) rfl
theorem q1237 : (Jvm.Cond.lays "LosersBooksModel" "LosersBooksModel" "law" "I") ∈ lw_all := lw_g (lw_at lw_m5 159 rfl) rfl
theorem q1238 : (Jvm.Cond.soleField "LosersBooksModel" "law") ∈ lw_all := lw_g (lw_at lw_m5 160 rfl) rfl
theorem q1239 : (Jvm.Cond.lays "LosersBooksModel" "LosersBooksModel" "intriguing" "I") ∈ lw_all := lw_g (lw_at lw_m5 161 rfl) rfl
theorem q1240 : (Jvm.Cond.soleField "LosersBooksModel" "intriguing") ∈ lw_all := lw_g (lw_at lw_m5 162 rfl) rfl
theorem q1241 : (Jvm.Cond.laysFinal "LosersBooksModel" "LosersBooksModel" "memoKey" "[J") ∈ lw_all := lw_g (lw_at lw_m5 163 rfl) rfl
theorem q1242 : (Jvm.Cond.soleField "LosersBooksModel" "memoKey") ∈ lw_all := lw_g (lw_at lw_m5 164 rfl) rfl
theorem q1243 : (Jvm.Cond.laysFinal "LosersBooksModel" "LosersBooksModel" "memoWorth" "[I") ∈ lw_all := lw_g (lw_at lw_m5 165 rfl) rfl
theorem q1244 : (Jvm.Cond.soleField "LosersBooksModel" "memoWorth") ∈ lw_all := lw_g (lw_at lw_m5 166 rfl) rfl
theorem q1245 : (Jvm.Cond.laysFinal "LosersBooksModel" "LosersBooksModel" "undoRow" "[I") ∈ lw_all := lw_g (lw_at lw_m5 167 rfl) rfl
theorem q1246 : (Jvm.Cond.soleField "LosersBooksModel" "undoRow") ∈ lw_all := lw_g (lw_at lw_m5 168 rfl) rfl
theorem q1247 : (Jvm.Cond.lays "LosersBooksModel" "LosersBooksModel" "acts" "I") ∈ lw_all := lw_g (lw_at lw_m5 169 rfl) rfl
theorem q1248 : (Jvm.Cond.soleField "LosersBooksModel" "acts") ∈ lw_all := lw_g (lw_at lw_m5 170 rfl) rfl
theorem q1249 : (Jvm.Cond.lays "LosersBooksModel" "LosersBooksModel" "x" "J") ∈ lw_all := lw_g (lw_at lw_m5 171 rfl) rfl
theorem q1250 : (Jvm.Cond.soleField "LosersBooksModel" "x") ∈ lw_all := lw_g (lw_at lw_m5 172 rfl) rfl
theorem q1251 : (Jvm.Cond.laysFinal "LosersBooksModel" "LosersBooksModel" "note" "[I") ∈ lw_all := lw_g (lw_at lw_m5 173 rfl) rfl
theorem q1252 : (Jvm.Cond.soleField "LosersBooksModel" "note") ∈ lw_all := lw_g (lw_at lw_m5 174 rfl) rfl
theorem q1253 : (Jvm.Cond.laysFinal "LosersBooksModel" "LosersBooksModel" "truth" "[I") ∈ lw_all := lw_g (lw_at lw_m5 175 rfl) rfl
theorem q1254 : (Jvm.Cond.soleField "LosersBooksModel" "truth") ∈ lw_all := lw_g (lw_at lw_m5 176 rfl) rfl
theorem q1255 : (Jvm.Cond.laysFinal "LosersBooksModel" "LosersBooksModel" "bias" "[I") ∈ lw_all := lw_g (lw_at lw_m5 177 rfl) rfl
theorem q1256 : (Jvm.Cond.soleField "LosersBooksModel" "bias") ∈ lw_all := lw_g (lw_at lw_m5 178 rfl) rfl
theorem q1257 : (Jvm.Cond.lays "LosersBooksModel" "LosersBooksModel" "notes" "I") ∈ lw_all := lw_g (lw_at lw_m5 179 rfl) rfl
theorem q1258 : (Jvm.Cond.soleField "LosersBooksModel" "notes") ∈ lw_all := lw_g (lw_at lw_m5 180 rfl) rfl
theorem q1259 : (Jvm.Cond.laysFinal "LosersBooksModel" "LosersBooksModel" "tally" "[I") ∈ lw_all := lw_g (lw_at lw_m5 181 rfl) rfl
theorem q1260 : (Jvm.Cond.soleField "LosersBooksModel" "tally") ∈ lw_all := lw_g (lw_at lw_m5 182 rfl) rfl
theorem q1261 : (Jvm.Cond.laysFinal "LosersBooksModel" "LosersBooksModel" "imageRow" "[I") ∈ lw_all := lw_g (lw_at lw_m5 183 rfl) rfl
theorem q1262 : (Jvm.Cond.soleField "LosersBooksModel" "imageRow") ∈ lw_all := lw_g (lw_at lw_m5 184 rfl) rfl
theorem q1263 : (Jvm.Cond.lays "LosersBooksModel" "LosersBooksModel" "hasImage" "Z") ∈ lw_all := lw_g (lw_at lw_m5 185 rfl) rfl
theorem q1264 : (Jvm.Cond.soleField "LosersBooksModel" "hasImage") ∈ lw_all := lw_g (lw_at lw_m5 186 rfl) rfl
theorem q1265 : (Jvm.Cond.superclass "LosersBooksModel" "java/lang/Object") ∈ lw_all := lw_g (lw_at lw_m5 187 rfl) rfl
theorem q1268 : (Jvm.Cond.instanceMethod ({ cls := "LosersBooksModel", name := "thrown", desc := "()I" } : Jvm.MethodName)) ∈ lw_all := lw_g (lw_at lw_m5 190 rfl) rfl
theorem q1269 : (Jvm.Cond.selects "LosersBooksModel" ({ cls := "LosersBooksModel", name := "thrown", desc := "()I" } : Jvm.MethodName) ({ cls := "LosersBooksModel", name := "thrown", desc := "()I" } : Jvm.MethodName)) ∈ lw_all := lw_g (lw_at lw_m5 191 rfl) rfl
theorem q1270 : (Jvm.Cond.code ({ cls := "LosersBooksModel", name := "thrown", desc := "()I" } : Jvm.MethodName) prog_14_method_2_code (1 : Nat) (Option.some Jvm.ClassFile.FieldType.int)) ∈ lw_all := lw_g (lw_at lw_m5 192 rfl) rfl
theorem q1272 : (Jvm.Cond.instanceMethod ({ cls := "LosersBooksModel", name := "feed", desc := "(IIIII)I" } : Jvm.MethodName)) ∈ lw_all := lw_g (lw_at lw_m5 194 rfl) rfl
theorem q1273 : (Jvm.Cond.selects "LosersBooksModel" ({ cls := "LosersBooksModel", name := "feed", desc := "(IIIII)I" } : Jvm.MethodName) ({ cls := "LosersBooksModel", name := "feed", desc := "(IIIII)I" } : Jvm.MethodName)) ∈ lw_all := lw_g (lw_at lw_m5 195 rfl) rfl
theorem q1274 : (Jvm.Cond.code ({ cls := "LosersBooksModel", name := "feed", desc := "(IIIII)I" } : Jvm.MethodName) prog_14_method_8_code (6 : Nat) (Option.some Jvm.ClassFile.FieldType.int)) ∈ lw_all := lw_g (lw_at lw_m5 196 rfl) rfl
theorem q1275 : (Jvm.Cond.methodLink "LosersBooksModel" (114 : Nat) ({ cls := "LosersBooksModel", name := "bytesIn", desc := "(I)I" } : Jvm.MethodName)) ∈ lw_all := lw_g (lw_at lw_m5 197 rfl) rfl
theorem q1276 : (Jvm.Cond.static ({ cls := "LosersBooksModel", name := "bytesIn", desc := "(I)I" } : Jvm.MethodName)) ∈ lw_all := lw_g (lw_at lw_m5 198 rfl) rfl
theorem q1277 : (Jvm.Cond.code ({ cls := "LosersBooksModel", name := "bytesIn", desc := "(I)I" } : Jvm.MethodName) prog_14_method_6_code (3 : Nat) (Option.some Jvm.ClassFile.FieldType.int)) ∈ lw_all := lw_g (lw_at lw_m5 199 rfl) rfl
theorem q1278 : (Jvm.Cond.methodLink "LosersBooksModel" (118 : Nat) ({ cls := "LosersBooksModel", name := "put", desc := "(I)V" } : Jvm.MethodName)) ∈ lw_all := lw_g (lw_at lw_m5 200 rfl) rfl
theorem q1279 : (Jvm.Cond.privateMethod ({ cls := "LosersBooksModel", name := "put", desc := "(I)V" } : Jvm.MethodName)) ∈ lw_tbl := lw_at lw_m5 201 rfl
theorem q1280 : (Jvm.Cond.instanceMethod ({ cls := "LosersBooksModel", name := "put", desc := "(I)V" } : Jvm.MethodName)) ∈ lw_all := lw_g (lw_at lw_m5 202 rfl) rfl
theorem q1281 : (Jvm.Cond.code ({ cls := "LosersBooksModel", name := "put", desc := "(I)V" } : Jvm.MethodName) prog_14_method_7_code (3 : Nat) (Option.none : Option Jvm.ClassFile.FieldType)) ∈ lw_all := lw_g (lw_at lw_m5 203 rfl) rfl
theorem q1283 : (Jvm.Cond.instanceMethod ({ cls := "LosersBooksModel", name := "end", desc := "(I)Z" } : Jvm.MethodName)) ∈ lw_all := lw_g (lw_at lw_m5 205 rfl) rfl
theorem q1284 : (Jvm.Cond.selects "LosersBooksModel" ({ cls := "LosersBooksModel", name := "end", desc := "(I)Z" } : Jvm.MethodName) ({ cls := "LosersBooksModel", name := "end", desc := "(I)Z" } : Jvm.MethodName)) ∈ lw_all := lw_g (lw_at lw_m5 206 rfl) rfl
theorem q1285 : (Jvm.Cond.code ({ cls := "LosersBooksModel", name := "end", desc := "(I)Z" } : Jvm.MethodName) prog_14_method_9_code (2 : Nat) (Option.some Jvm.ClassFile.FieldType.boolean)) ∈ lw_all := lw_g (lw_at lw_m5 207 rfl) rfl
theorem q1287 : (Jvm.Cond.instanceMethod ({ cls := "LosersBooksModel", name := "fault", desc := "(I)I" } : Jvm.MethodName)) ∈ lw_all := lw_g (lw_at lw_m5 209 rfl) rfl
theorem q1288 : (Jvm.Cond.selects "LosersBooksModel" ({ cls := "LosersBooksModel", name := "fault", desc := "(I)I" } : Jvm.MethodName) ({ cls := "LosersBooksModel", name := "fault", desc := "(I)I" } : Jvm.MethodName)) ∈ lw_all := lw_g (lw_at lw_m5 210 rfl) rfl
theorem q1289 : (Jvm.Cond.code ({ cls := "LosersBooksModel", name := "fault", desc := "(I)I" } : Jvm.MethodName) prog_14_method_38_code (2 : Nat) (Option.some Jvm.ClassFile.FieldType.int)) ∈ lw_all := lw_g (lw_at lw_m5 211 rfl) rfl
theorem q1290 : (Jvm.Cond.constantLong "LosersBooksModel" (268 : Nat) (2 : Int64)) ∈ lw_all := lw_g (lw_at lw_m5 212 rfl) rfl
theorem q1291 : (Jvm.Cond.methodLink "LosersBooksModel" (270 : Nat) ({ cls := "LosersBooksModel", name := "isIn", desc := "(JJJ)Z" } : Jvm.MethodName)) ∈ lw_all := lw_g (lw_at lw_m5 213 rfl) rfl
theorem q1292 : (Jvm.Cond.static ({ cls := "LosersBooksModel", name := "isIn", desc := "(JJJ)Z" } : Jvm.MethodName)) ∈ lw_all := lw_g (lw_at lw_m5 214 rfl) rfl
theorem q1293 : (Jvm.Cond.code ({ cls := "LosersBooksModel", name := "isIn", desc := "(JJJ)Z" } : Jvm.MethodName) prog_14_method_3_code (6 : Nat) (Option.some Jvm.ClassFile.FieldType.boolean)) ∈ lw_all := lw_g (lw_at lw_m5 215 rfl) rfl
theorem q1294 : (Jvm.Cond.methodLink "LosersBooksModel" (274 : Nat) ({ cls := "LosersBooksModel", name := "readRealm", desc := "()V" } : Jvm.MethodName)) ∈ lw_all := lw_g (lw_at lw_m5 216 rfl) rfl
theorem q1295 : (Jvm.Cond.privateMethod ({ cls := "LosersBooksModel", name := "readRealm", desc := "()V" } : Jvm.MethodName)) ∈ lw_tbl := lw_at lw_m5 217 rfl
theorem q1296 : (Jvm.Cond.instanceMethod ({ cls := "LosersBooksModel", name := "readRealm", desc := "()V" } : Jvm.MethodName)) ∈ lw_all := lw_g (lw_at lw_m5 218 rfl) rfl
theorem q1297 : (Jvm.Cond.code ({ cls := "LosersBooksModel", name := "readRealm", desc := "()V" } : Jvm.MethodName) prog_14_method_35_code (2 : Nat) (Option.none : Option Jvm.ClassFile.FieldType)) ∈ lw_all := lw_g (lw_at lw_m5 219 rfl) rfl
theorem q1298 : (Jvm.Cond.methodLink "LosersBooksModel" (210 : Nat) ({ cls := "LosersBooksModel", name := "starts", desc := "([BII)V" } : Jvm.MethodName)) ∈ lw_all := lw_g (lw_at lw_m5 220 rfl) rfl
theorem q1299 : (Jvm.Cond.privateMethod ({ cls := "LosersBooksModel", name := "starts", desc := "([BII)V" } : Jvm.MethodName)) ∈ lw_tbl := lw_at lw_m5 221 rfl
theorem q1300 : (Jvm.Cond.instanceMethod ({ cls := "LosersBooksModel", name := "starts", desc := "([BII)V" } : Jvm.MethodName)) ∈ lw_all := lw_g (lw_at lw_m5 222 rfl) rfl
theorem q1301 : (Jvm.Cond.code ({ cls := "LosersBooksModel", name := "starts", desc := "([BII)V" } : Jvm.MethodName) prog_14_method_25_code (4 : Nat) (Option.none : Option Jvm.ClassFile.FieldType)) ∈ lw_all := lw_g (lw_at lw_m5 223 rfl) rfl
theorem q1302 : (Jvm.Cond.methodLink "LosersBooksModel" (220 : Nat) ({ cls := "LosersBooksModel", name := "usual", desc := "(II)I" } : Jvm.MethodName)) ∈ lw_all := lw_g (lw_at lw_m5 224 rfl) rfl
theorem q1303 : (Jvm.Cond.static ({ cls := "LosersBooksModel", name := "usual", desc := "(II)I" } : Jvm.MethodName)) ∈ lw_all := lw_g (lw_at lw_m5 225 rfl) rfl
theorem q1304 : (Jvm.Cond.code ({ cls := "LosersBooksModel", name := "usual", desc := "(II)I" } : Jvm.MethodName) prog_14_method_31_code (2 : Nat) (Option.some Jvm.ClassFile.FieldType.int)) ∈ lw_all := lw_g (lw_at lw_m5 226 rfl) rfl
theorem q1305 : (Jvm.Cond.methodLink "LosersBooksModel" (257 : Nat) ({ cls := "LosersBooksModel", name := "readClause", desc := "()V" } : Jvm.MethodName)) ∈ lw_all := lw_g (lw_at lw_m5 227 rfl) rfl
theorem q1306 : (Jvm.Cond.privateMethod ({ cls := "LosersBooksModel", name := "readClause", desc := "()V" } : Jvm.MethodName)) ∈ lw_tbl := lw_at lw_m5 228 rfl
theorem q1307 : (Jvm.Cond.instanceMethod ({ cls := "LosersBooksModel", name := "readClause", desc := "()V" } : Jvm.MethodName)) ∈ lw_all := lw_g (lw_at lw_m5 229 rfl) rfl
theorem q1308 : (Jvm.Cond.code ({ cls := "LosersBooksModel", name := "readClause", desc := "()V" } : Jvm.MethodName) prog_14_method_33_code (3 : Nat) (Option.none : Option Jvm.ClassFile.FieldType)) ∈ lw_all := lw_g (lw_at lw_m5 230 rfl) rfl
theorem q1309 : (Jvm.Cond.methodLink "LosersBooksModel" (141 : Nat) ({ cls := "LosersBooksModel", name := "look", desc := "()I" } : Jvm.MethodName)) ∈ lw_all := lw_g (lw_at lw_m5 231 rfl) rfl
theorem q1310 : (Jvm.Cond.privateMethod ({ cls := "LosersBooksModel", name := "look", desc := "()I" } : Jvm.MethodName)) ∈ lw_tbl := lw_at lw_m5 232 rfl
theorem q1311 : (Jvm.Cond.instanceMethod ({ cls := "LosersBooksModel", name := "look", desc := "()I" } : Jvm.MethodName)) ∈ lw_all := lw_g (lw_at lw_m5 233 rfl) rfl
theorem q1312 : (Jvm.Cond.code ({ cls := "LosersBooksModel", name := "look", desc := "()I" } : Jvm.MethodName) prog_14_method_10_code (1 : Nat) (Option.some Jvm.ClassFile.FieldType.int)) ∈ lw_all := lw_g (lw_at lw_m5 234 rfl) rfl
theorem q1313 : (Jvm.Cond.methodLink "LosersBooksModel" (137 : Nat) ({ cls := "LosersBooksModel", name := "fails", desc := "()Z" } : Jvm.MethodName)) ∈ lw_all := lw_g (lw_at lw_m5 235 rfl) rfl
theorem q1314 : (Jvm.Cond.privateMethod ({ cls := "LosersBooksModel", name := "fails", desc := "()Z" } : Jvm.MethodName)) ∈ lw_tbl := lw_at lw_m5 236 rfl
theorem q1315 : (Jvm.Cond.instanceMethod ({ cls := "LosersBooksModel", name := "fails", desc := "()Z" } : Jvm.MethodName)) ∈ lw_all := lw_g (lw_at lw_m5 237 rfl) rfl
theorem q1316 : (Jvm.Cond.code ({ cls := "LosersBooksModel", name := "fails", desc := "()Z" } : Jvm.MethodName) prog_14_method_11_code (1 : Nat) (Option.some Jvm.ClassFile.FieldType.boolean)) ∈ lw_all := lw_g (lw_at lw_m5 238 rfl) rfl
theorem q1317 : (Jvm.Cond.stringRef "LosersBooksModel" (247 : Nat) "wc") ∈ lw_tbl := lw_at lw_m5 239 rfl
theorem q1318 : (Jvm.Cond.methodLink "LosersBooksModel" (249 : Nat) ({ cls := "LosersBooksModel", name := "readItems", desc := "(I[IILjava/lang/String;)V" } : Jvm.MethodName)) ∈ lw_all := lw_g (lw_at lw_m6 0 rfl) rfl
theorem q1319 : (Jvm.Cond.privateMethod ({ cls := "LosersBooksModel", name := "readItems", desc := "(I[IILjava/lang/String;)V" } : Jvm.MethodName)) ∈ lw_tbl := lw_at lw_m6 1 rfl
theorem q1320 : (Jvm.Cond.instanceMethod ({ cls := "LosersBooksModel", name := "readItems", desc := "(I[IILjava/lang/String;)V" } : Jvm.MethodName)) ∈ lw_all := lw_g (lw_at lw_m6 2 rfl) rfl
theorem q1321 : (Jvm.Cond.code ({ cls := "LosersBooksModel", name := "readItems", desc := "(I[IILjava/lang/String;)V" } : Jvm.MethodName) prog_14_method_32_code (7 : Nat) (Option.none : Option Jvm.ClassFile.FieldType)) ∈ lw_all := lw_g (lw_at lw_m6 3 rfl) rfl
theorem q1322 : (Jvm.Cond.methodLink "LosersBooksModel" (102 : Nat) ({ cls := "java/lang/String", name := "length", desc := "()I" } : Jvm.MethodName)) ∈ lw_all := lw_g (lw_at lw_m6 4 rfl) rfl
theorem q1323 : (Jvm.Cond.methodLink "LosersBooksModel" (224 : Nat) ({ cls := "LosersBooksModel", name := "spotOf", desc := "(Ljava/lang/String;I)I" } : Jvm.MethodName)) ∈ lw_all := lw_g (lw_at lw_m6 5 rfl) rfl
theorem q1324 : (Jvm.Cond.static ({ cls := "LosersBooksModel", name := "spotOf", desc := "(Ljava/lang/String;I)I" } : Jvm.MethodName)) ∈ lw_all := lw_g (lw_at lw_m6 6 rfl) rfl
theorem q1325 : (Jvm.Cond.code ({ cls := "LosersBooksModel", name := "spotOf", desc := "(Ljava/lang/String;I)I" } : Jvm.MethodName) prog_14_method_28_code (3 : Nat) (Option.some Jvm.ClassFile.FieldType.int)) ∈ lw_all := lw_g (lw_at lw_m6 7 rfl) rfl
theorem q1326 : (Jvm.Cond.methodLink "LosersBooksModel" (108 : Nat) ({ cls := "java/lang/String", name := "charAt", desc := "(I)C" } : Jvm.MethodName)) ∈ lw_all := lw_g (lw_at lw_m6 8 rfl) rfl
theorem q1327 : (Jvm.Cond.methodLink "LosersBooksModel" (228 : Nat) ({ cls := "LosersBooksModel", name := "has", desc := "(II)Z" } : Jvm.MethodName)) ∈ lw_all := lw_g (lw_at lw_m6 9 rfl) rfl
theorem q1328 : (Jvm.Cond.static ({ cls := "LosersBooksModel", name := "has", desc := "(II)Z" } : Jvm.MethodName)) ∈ lw_all := lw_g (lw_at lw_m6 10 rfl) rfl
theorem q1329 : (Jvm.Cond.code ({ cls := "LosersBooksModel", name := "has", desc := "(II)Z" } : Jvm.MethodName) prog_14_method_4_code (2 : Nat) (Option.some Jvm.ClassFile.FieldType.boolean)) ∈ lw_all := lw_g (lw_at lw_m6 11 rfl) rfl
theorem q1330 : (Jvm.Cond.methodLink "LosersBooksModel" (232 : Nat) ({ cls := "LosersBooksModel", name := "mostOf", desc := "(II)I" } : Jvm.MethodName)) ∈ lw_all := lw_g (lw_at lw_m6 12 rfl) rfl
theorem q1331 : (Jvm.Cond.static ({ cls := "LosersBooksModel", name := "mostOf", desc := "(II)I" } : Jvm.MethodName)) ∈ lw_all := lw_g (lw_at lw_m6 13 rfl) rfl
theorem q1332 : (Jvm.Cond.code ({ cls := "LosersBooksModel", name := "mostOf", desc := "(II)I" } : Jvm.MethodName) prog_14_method_30_code (2 : Nat) (Option.some Jvm.ClassFile.FieldType.int)) ∈ lw_all := lw_g (lw_at lw_m6 14 rfl) rfl
theorem q1333 : (Jvm.Cond.methodLink "LosersBooksModel" (235 : Nat) ({ cls := "LosersBooksModel", name := "number", desc := "(I)I" } : Jvm.MethodName)) ∈ lw_all := lw_g (lw_at lw_m6 15 rfl) rfl
theorem q1334 : (Jvm.Cond.privateMethod ({ cls := "LosersBooksModel", name := "number", desc := "(I)I" } : Jvm.MethodName)) ∈ lw_tbl := lw_at lw_m6 16 rfl
theorem q1335 : (Jvm.Cond.instanceMethod ({ cls := "LosersBooksModel", name := "number", desc := "(I)I" } : Jvm.MethodName)) ∈ lw_all := lw_g (lw_at lw_m6 17 rfl) rfl
theorem q1336 : (Jvm.Cond.code ({ cls := "LosersBooksModel", name := "number", desc := "(I)I" } : Jvm.MethodName) prog_14_method_29_code (4 : Nat) (Option.some Jvm.ClassFile.FieldType.int)) ∈ lw_all := lw_g (lw_at lw_m6 18 rfl) rfl
theorem q1337 : (Jvm.Cond.methodLink "LosersBooksModel" (171 : Nat) ({ cls := "LosersBooksModel", name := "isDigit", desc := "()Z" } : Jvm.MethodName)) ∈ lw_all := lw_g (lw_at lw_m6 19 rfl) rfl
theorem q1338 : (Jvm.Cond.privateMethod ({ cls := "LosersBooksModel", name := "isDigit", desc := "()Z" } : Jvm.MethodName)) ∈ lw_tbl := lw_at lw_m6 20 rfl
theorem q1339 : (Jvm.Cond.instanceMethod ({ cls := "LosersBooksModel", name := "isDigit", desc := "()Z" } : Jvm.MethodName)) ∈ lw_all := lw_g (lw_at lw_m6 21 rfl) rfl
theorem q1340 : (Jvm.Cond.code ({ cls := "LosersBooksModel", name := "isDigit", desc := "()Z" } : Jvm.MethodName) prog_14_method_14_code (1 : Nat) (Option.some Jvm.ClassFile.FieldType.boolean)) ∈ lw_all := lw_g (lw_at lw_m6 22 rfl) rfl
theorem q1341 : (Jvm.Cond.methodLink "LosersBooksModel" (217 : Nat) ({ cls := "LosersBooksModel", name := "here", desc := "()I" } : Jvm.MethodName)) ∈ lw_all := lw_g (lw_at lw_m6 23 rfl) rfl
theorem q1342 : (Jvm.Cond.privateMethod ({ cls := "LosersBooksModel", name := "here", desc := "()I" } : Jvm.MethodName)) ∈ lw_tbl := lw_at lw_m6 24 rfl
theorem q1343 : (Jvm.Cond.instanceMethod ({ cls := "LosersBooksModel", name := "here", desc := "()I" } : Jvm.MethodName)) ∈ lw_all := lw_g (lw_at lw_m6 25 rfl) rfl
theorem q1344 : (Jvm.Cond.code ({ cls := "LosersBooksModel", name := "here", desc := "()I" } : Jvm.MethodName) prog_14_method_27_code (1 : Nat) (Option.some Jvm.ClassFile.FieldType.int)) ∈ lw_all := lw_g (lw_at lw_m6 26 rfl) rfl
theorem q1345 : (Jvm.Cond.stringRef "LosersBooksModel" (253 : Nat) "mbs") ∈ lw_tbl := lw_at lw_m6 27 rfl
theorem q1346 : (Jvm.Cond.stringRef "LosersBooksModel" (255 : Nat) "abgn") ∈ lw_tbl := lw_at lw_m6 28 rfl
theorem q1347 : (Jvm.Cond.methodLink "LosersBooksModel" (260 : Nat) ({ cls := "LosersBooksModel", name := "isWhole", desc := "()Z" } : Jvm.MethodName)) ∈ lw_all := lw_g (lw_at lw_m6 29 rfl) rfl
theorem q1348 : (Jvm.Cond.privateMethod ({ cls := "LosersBooksModel", name := "isWhole", desc := "()Z" } : Jvm.MethodName)) ∈ lw_tbl := lw_at lw_m6 30 rfl
theorem q1349 : (Jvm.Cond.instanceMethod ({ cls := "LosersBooksModel", name := "isWhole", desc := "()Z" } : Jvm.MethodName)) ∈ lw_all := lw_g (lw_at lw_m6 31 rfl) rfl
theorem q1350 : (Jvm.Cond.code ({ cls := "LosersBooksModel", name := "isWhole", desc := "()Z" } : Jvm.MethodName) prog_14_method_34_code (4 : Nat) (Option.some Jvm.ClassFile.FieldType.boolean)) ∈ lw_all := lw_g (lw_at lw_m6 32 rfl) rfl
theorem q1351 : (Jvm.Cond.methodLink "LosersBooksModel" (277 : Nat) ({ cls := "LosersBooksModel", name := "goThrough", desc := "([BII)V" } : Jvm.MethodName)) ∈ lw_all := lw_g (lw_at lw_m6 33 rfl) rfl
theorem q1352 : (Jvm.Cond.privateMethod ({ cls := "LosersBooksModel", name := "goThrough", desc := "([BII)V" } : Jvm.MethodName)) ∈ lw_tbl := lw_at lw_m6 34 rfl
theorem q1353 : (Jvm.Cond.instanceMethod ({ cls := "LosersBooksModel", name := "goThrough", desc := "([BII)V" } : Jvm.MethodName)) ∈ lw_all := lw_g (lw_at lw_m6 35 rfl) rfl
theorem q1354 : (Jvm.Cond.code ({ cls := "LosersBooksModel", name := "goThrough", desc := "([BII)V" } : Jvm.MethodName) prog_14_method_26_code (4 : Nat) (Option.none : Option Jvm.ClassFile.FieldType)) ∈ lw_all := lw_g (lw_at lw_m6 36 rfl) rfl
theorem q1355 : (Jvm.Cond.methodLink "LosersBooksModel" (214 : Nat) ({ cls := "LosersBooksModel", name := "clause", desc := "()V" } : Jvm.MethodName)) ∈ lw_all := lw_g (lw_at lw_m6 37 rfl) rfl
theorem q1356 : (Jvm.Cond.privateMethod ({ cls := "LosersBooksModel", name := "clause", desc := "()V" } : Jvm.MethodName)) ∈ lw_tbl := lw_at lw_m6 38 rfl
theorem q1357 : (Jvm.Cond.instanceMethod ({ cls := "LosersBooksModel", name := "clause", desc := "()V" } : Jvm.MethodName)) ∈ lw_all := lw_g (lw_at lw_m6 39 rfl) rfl
theorem q1358 : (Jvm.Cond.code ({ cls := "LosersBooksModel", name := "clause", desc := "()V" } : Jvm.MethodName) prog_14_method_24_code (5 : Nat) (Option.none : Option Jvm.ClassFile.FieldType)) ∈ lw_all := lw_g (lw_at lw_m6 40 rfl) rfl
theorem q1359 : (Jvm.Cond.methodLink "LosersBooksModel" (157 : Nat) ({ cls := "LosersBooksModel", name := "isAmong", desc := "(Ljava/lang/String;I)Z" } : Jvm.MethodName)) ∈ lw_all := lw_g (lw_at lw_m6 41 rfl) rfl
theorem q1360 : (Jvm.Cond.static ({ cls := "LosersBooksModel", name := "isAmong", desc := "(Ljava/lang/String;I)Z" } : Jvm.MethodName)) ∈ lw_all := lw_g (lw_at lw_m6 42 rfl) rfl
theorem q1361 : (Jvm.Cond.code ({ cls := "LosersBooksModel", name := "isAmong", desc := "(Ljava/lang/String;I)Z" } : Jvm.MethodName) prog_14_method_5_code (3 : Nat) (Option.some Jvm.ClassFile.FieldType.boolean)) ∈ lw_all := lw_g (lw_at lw_m6 43 rfl) rfl
theorem q1362 : (Jvm.Cond.methodLink "LosersBooksModel" (167 : Nat) ({ cls := "LosersBooksModel", name := "takes", desc := "(I)Z" } : Jvm.MethodName)) ∈ lw_all := lw_g (lw_at lw_m6 44 rfl) rfl
theorem q1363 : (Jvm.Cond.privateMethod ({ cls := "LosersBooksModel", name := "takes", desc := "(I)Z" } : Jvm.MethodName)) ∈ lw_tbl := lw_at lw_m6 45 rfl
theorem q1364 : (Jvm.Cond.instanceMethod ({ cls := "LosersBooksModel", name := "takes", desc := "(I)Z" } : Jvm.MethodName)) ∈ lw_all := lw_g (lw_at lw_m6 46 rfl) rfl
theorem q1365 : (Jvm.Cond.code ({ cls := "LosersBooksModel", name := "takes", desc := "(I)Z" } : Jvm.MethodName) prog_14_method_13_code (2 : Nat) (Option.some Jvm.ClassFile.FieldType.boolean)) ∈ lw_all := lw_g (lw_at lw_m6 47 rfl) rfl
theorem q1366 : (Jvm.Cond.methodLink "LosersBooksModel" (190 : Nat) ({ cls := "LosersBooksModel", name := "condition", desc := "(ZI)Z" } : Jvm.MethodName)) ∈ lw_all := lw_g (lw_at lw_m6 48 rfl) rfl
theorem q1367 : (Jvm.Cond.privateMethod ({ cls := "LosersBooksModel", name := "condition", desc := "(ZI)Z" } : Jvm.MethodName)) ∈ lw_tbl := lw_at lw_m6 49 rfl
theorem q1368 : (Jvm.Cond.instanceMethod ({ cls := "LosersBooksModel", name := "condition", desc := "(ZI)Z" } : Jvm.MethodName)) ∈ lw_all := lw_g (lw_at lw_m6 50 rfl) rfl
theorem q1369 : (Jvm.Cond.code ({ cls := "LosersBooksModel", name := "condition", desc := "(ZI)Z" } : Jvm.MethodName) prog_14_method_23_code (5 : Nat) (Option.some Jvm.ClassFile.FieldType.boolean)) ∈ lw_all := lw_g (lw_at lw_m6 51 rfl) rfl
theorem q1370 : (Jvm.Cond.methodLink "LosersBooksModel" (197 : Nat) ({ cls := "LosersBooksModel", name := "part", desc := "(ZI)Z" } : Jvm.MethodName)) ∈ lw_all := lw_g (lw_at lw_m6 52 rfl) rfl
theorem q1371 : (Jvm.Cond.privateMethod ({ cls := "LosersBooksModel", name := "part", desc := "(ZI)Z" } : Jvm.MethodName)) ∈ lw_tbl := lw_at lw_m6 53 rfl
theorem q1372 : (Jvm.Cond.instanceMethod ({ cls := "LosersBooksModel", name := "part", desc := "(ZI)Z" } : Jvm.MethodName)) ∈ lw_all := lw_g (lw_at lw_m6 54 rfl) rfl
theorem q1373 : (Jvm.Cond.code ({ cls := "LosersBooksModel", name := "part", desc := "(ZI)Z" } : Jvm.MethodName) prog_14_method_22_code (5 : Nat) (Option.some Jvm.ClassFile.FieldType.boolean)) ∈ lw_all := lw_g (lw_at lw_m6 55 rfl) rfl
theorem q1374 : (Jvm.Cond.methodLink "LosersBooksModel" (194 : Nat) ({ cls := "LosersBooksModel", name := "compares", desc := "(ZI)Z" } : Jvm.MethodName)) ∈ lw_all := lw_g (lw_at lw_m6 56 rfl) rfl
theorem q1375 : (Jvm.Cond.privateMethod ({ cls := "LosersBooksModel", name := "compares", desc := "(ZI)Z" } : Jvm.MethodName)) ∈ lw_tbl := lw_at lw_m6 57 rfl
theorem q1376 : (Jvm.Cond.instanceMethod ({ cls := "LosersBooksModel", name := "compares", desc := "(ZI)Z" } : Jvm.MethodName)) ∈ lw_all := lw_g (lw_at lw_m6 58 rfl) rfl
theorem q1377 : (Jvm.Cond.code ({ cls := "LosersBooksModel", name := "compares", desc := "(ZI)Z" } : Jvm.MethodName) prog_14_method_20_code (6 : Nat) (Option.some Jvm.ClassFile.FieldType.boolean)) ∈ lw_all := lw_g (lw_at lw_m6 59 rfl) rfl
theorem q1378 : (Jvm.Cond.methodLink "LosersBooksModel" (164 : Nat) ({ cls := "LosersBooksModel", name := "sum", desc := "()I" } : Jvm.MethodName)) ∈ lw_all := lw_g (lw_at lw_m6 60 rfl) rfl
theorem q1379 : (Jvm.Cond.privateMethod ({ cls := "LosersBooksModel", name := "sum", desc := "()I" } : Jvm.MethodName)) ∈ lw_tbl := lw_at lw_m6 61 rfl
theorem q1380 : (Jvm.Cond.instanceMethod ({ cls := "LosersBooksModel", name := "sum", desc := "()I" } : Jvm.MethodName)) ∈ lw_all := lw_g (lw_at lw_m6 62 rfl) rfl
theorem q1381 : (Jvm.Cond.code ({ cls := "LosersBooksModel", name := "sum", desc := "()I" } : Jvm.MethodName) prog_14_method_18_code (5 : Nat) (Option.some Jvm.ClassFile.FieldType.int)) ∈ lw_all := lw_g (lw_at lw_m6 63 rfl) rfl
theorem q1382 : (Jvm.Cond.methodLink "LosersBooksModel" (181 : Nat) ({ cls := "LosersBooksModel", name := "term", desc := "()I" } : Jvm.MethodName)) ∈ lw_all := lw_g (lw_at lw_m6 64 rfl) rfl
theorem q1383 : (Jvm.Cond.privateMethod ({ cls := "LosersBooksModel", name := "term", desc := "()I" } : Jvm.MethodName)) ∈ lw_tbl := lw_at lw_m6 65 rfl
theorem q1384 : (Jvm.Cond.instanceMethod ({ cls := "LosersBooksModel", name := "term", desc := "()I" } : Jvm.MethodName)) ∈ lw_all := lw_g (lw_at lw_m6 66 rfl) rfl
theorem q1385 : (Jvm.Cond.code ({ cls := "LosersBooksModel", name := "term", desc := "()I" } : Jvm.MethodName) prog_14_method_17_code (5 : Nat) (Option.some Jvm.ClassFile.FieldType.int)) ∈ lw_all := lw_g (lw_at lw_m6 67 rfl) rfl
theorem q1386 : (Jvm.Cond.methodLink "LosersBooksModel" (174 : Nat) ({ cls := "LosersBooksModel", name := "atom", desc := "()I" } : Jvm.MethodName)) ∈ lw_all := lw_g (lw_at lw_m6 68 rfl) rfl
theorem q1387 : (Jvm.Cond.privateMethod ({ cls := "LosersBooksModel", name := "atom", desc := "()I" } : Jvm.MethodName)) ∈ lw_tbl := lw_at lw_m6 69 rfl
theorem q1388 : (Jvm.Cond.instanceMethod ({ cls := "LosersBooksModel", name := "atom", desc := "()I" } : Jvm.MethodName)) ∈ lw_all := lw_g (lw_at lw_m6 70 rfl) rfl
theorem q1389 : (Jvm.Cond.code ({ cls := "LosersBooksModel", name := "atom", desc := "()I" } : Jvm.MethodName) prog_14_method_16_code (4 : Nat) (Option.some Jvm.ClassFile.FieldType.int)) ∈ lw_all := lw_g (lw_at lw_m6 71 rfl) rfl
theorem q1390 : (Jvm.Cond.methodLink "LosersBooksModel" (161 : Nat) ({ cls := "LosersBooksModel", name := "goesIn", desc := "()Z" } : Jvm.MethodName)) ∈ lw_all := lw_g (lw_at lw_m6 72 rfl) rfl
theorem q1391 : (Jvm.Cond.privateMethod ({ cls := "LosersBooksModel", name := "goesIn", desc := "()Z" } : Jvm.MethodName)) ∈ lw_tbl := lw_at lw_m6 73 rfl
theorem q1392 : (Jvm.Cond.instanceMethod ({ cls := "LosersBooksModel", name := "goesIn", desc := "()Z" } : Jvm.MethodName)) ∈ lw_all := lw_g (lw_at lw_m6 74 rfl) rfl
theorem q1393 : (Jvm.Cond.code ({ cls := "LosersBooksModel", name := "goesIn", desc := "()Z" } : Jvm.MethodName) prog_14_method_12_code (1 : Nat) (Option.some Jvm.ClassFile.FieldType.boolean)) ∈ lw_all := lw_g (lw_at lw_m6 75 rfl) rfl
theorem q1394 : (Jvm.Cond.methodLink "LosersBooksModel" (177 : Nat) ({ cls := "LosersBooksModel", name := "within", desc := "(J)I" } : Jvm.MethodName)) ∈ lw_all := lw_g (lw_at lw_m6 76 rfl) rfl
theorem q1395 : (Jvm.Cond.static ({ cls := "LosersBooksModel", name := "within", desc := "(J)I" } : Jvm.MethodName)) ∈ lw_all := lw_g (lw_at lw_m6 77 rfl) rfl
theorem q1396 : (Jvm.Cond.code ({ cls := "LosersBooksModel", name := "within", desc := "(J)I" } : Jvm.MethodName) prog_14_method_15_code (2 : Nat) (Option.some Jvm.ClassFile.FieldType.int)) ∈ lw_all := lw_g (lw_at lw_m6 78 rfl) rfl
theorem q1397 : (Jvm.Cond.constantLong "LosersBooksModel" (144 : Nat) (-1000000 : Int64)) ∈ lw_all := lw_g (lw_at lw_m6 79 rfl) rfl
theorem q1398 : (Jvm.Cond.constantLong "LosersBooksModel" (146 : Nat) (1000000 : Int64)) ∈ lw_all := lw_g (lw_at lw_m6 80 rfl) rfl
theorem q1399 : (Jvm.Cond.methodLink "LosersBooksModel" (148 : Nat) ({ cls := "java/lang/Math", name := "min", desc := "(JJ)J" } : Jvm.MethodName)) ∈ lw_all := lw_g (lw_at lw_m6 81 rfl) rfl
theorem q1400 : (Jvm.Cond.methodLink "LosersBooksModel" (154 : Nat) ({ cls := "java/lang/Math", name := "max", desc := "(JJ)J" } : Jvm.MethodName)) ∈ lw_all := lw_g (lw_at lw_m6 82 rfl) rfl
theorem q1401 : (Jvm.Cond.methodLink "LosersBooksModel" (184 : Nat) ({ cls := "LosersBooksModel", name := "isSign", desc := "(I)Z" } : Jvm.MethodName)) ∈ lw_all := lw_g (lw_at lw_m6 83 rfl) rfl
theorem q1402 : (Jvm.Cond.static ({ cls := "LosersBooksModel", name := "isSign", desc := "(I)Z" } : Jvm.MethodName)) ∈ lw_all := lw_g (lw_at lw_m6 84 rfl) rfl
theorem q1403 : (Jvm.Cond.code ({ cls := "LosersBooksModel", name := "isSign", desc := "(I)Z" } : Jvm.MethodName) prog_14_method_19_code (1 : Nat) (Option.some Jvm.ClassFile.FieldType.boolean)) ∈ lw_all := lw_g (lw_at lw_m6 85 rfl) rfl
theorem q1404 : (Jvm.Cond.methodLink "LosersBooksModel" (187 : Nat) ({ cls := "LosersBooksModel", name := "unit", desc := "()Z" } : Jvm.MethodName)) ∈ lw_all := lw_g (lw_at lw_m6 86 rfl) rfl
theorem q1405 : (Jvm.Cond.privateMethod ({ cls := "LosersBooksModel", name := "unit", desc := "()Z" } : Jvm.MethodName)) ∈ lw_tbl := lw_at lw_m6 87 rfl
theorem q1406 : (Jvm.Cond.instanceMethod ({ cls := "LosersBooksModel", name := "unit", desc := "()Z" } : Jvm.MethodName)) ∈ lw_all := lw_g (lw_at lw_m6 88 rfl) rfl
theorem q1407 : (Jvm.Cond.code ({ cls := "LosersBooksModel", name := "unit", desc := "()Z" } : Jvm.MethodName) prog_14_method_21_code (3 : Nat) (Option.some Jvm.ClassFile.FieldType.boolean)) ∈ lw_all := lw_g (lw_at lw_m6 89 rfl) rfl
theorem q1408 : (Jvm.Cond.methodLink "LosersBooksModel" (280 : Nat) ({ cls := "LosersBooksModel", name := "readPlan", desc := "()V" } : Jvm.MethodName)) ∈ lw_all := lw_g (lw_at lw_m6 90 rfl) rfl
theorem q1409 : (Jvm.Cond.privateMethod ({ cls := "LosersBooksModel", name := "readPlan", desc := "()V" } : Jvm.MethodName)) ∈ lw_tbl := lw_at lw_m6 91 rfl
theorem q1410 : (Jvm.Cond.instanceMethod ({ cls := "LosersBooksModel", name := "readPlan", desc := "()V" } : Jvm.MethodName)) ∈ lw_all := lw_g (lw_at lw_m6 92 rfl) rfl
theorem q1411 : (Jvm.Cond.code ({ cls := "LosersBooksModel", name := "readPlan", desc := "()V" } : Jvm.MethodName) prog_14_method_37_code (3 : Nat) (Option.none : Option Jvm.ClassFile.FieldType)) ∈ lw_all := lw_g (lw_at lw_m6 93 rfl) rfl
theorem q1412 : (Jvm.Cond.methodLink "LosersBooksModel" (265 : Nat) ({ cls := "LosersBooksModel", name := "readStep", desc := "(I)V" } : Jvm.MethodName)) ∈ lw_all := lw_g (lw_at lw_m6 94 rfl) rfl
theorem q1413 : (Jvm.Cond.privateMethod ({ cls := "LosersBooksModel", name := "readStep", desc := "(I)V" } : Jvm.MethodName)) ∈ lw_tbl := lw_at lw_m6 95 rfl
theorem q1414 : (Jvm.Cond.instanceMethod ({ cls := "LosersBooksModel", name := "readStep", desc := "(I)V" } : Jvm.MethodName)) ∈ lw_all := lw_g (lw_at lw_m6 96 rfl) rfl
theorem q1415 : (Jvm.Cond.code ({ cls := "LosersBooksModel", name := "readStep", desc := "(I)V" } : Jvm.MethodName) prog_14_method_36_code (4 : Nat) (Option.none : Option Jvm.ClassFile.FieldType)) ∈ lw_all := lw_g (lw_at lw_m6 97 rfl) rfl
theorem q1416 : (Jvm.Cond.stringRef "LosersBooksModel" (263 : Nat) "yhat") ∈ lw_tbl := lw_at lw_m6 98 rfl
theorem q1418 : (Jvm.Cond.instanceMethod ({ cls := "LosersBooksModel", name := "text", desc := "(I)I" } : Jvm.MethodName)) ∈ lw_all := lw_g (lw_at lw_m6 100 rfl) rfl
theorem q1419 : (Jvm.Cond.selects "LosersBooksModel" ({ cls := "LosersBooksModel", name := "text", desc := "(I)I" } : Jvm.MethodName) ({ cls := "LosersBooksModel", name := "text", desc := "(I)I" } : Jvm.MethodName)) ∈ lw_all := lw_g (lw_at lw_m6 101 rfl) rfl
theorem q1420 : (Jvm.Cond.code ({ cls := "LosersBooksModel", name := "text", desc := "(I)I" } : Jvm.MethodName) prog_14_method_39_code (5 : Nat) (Option.some Jvm.ClassFile.FieldType.int)) ∈ lw_all := lw_g (lw_at lw_m6 102 rfl) rfl
theorem q1421 : (Jvm.Cond.methodLink "LosersBooksModel" (289 : Nat) ({ cls := "LosersBooksModel", name := "fault", desc := "(I)I" } : Jvm.MethodName)) ∈ lw_all := lw_g (lw_at lw_m6 103 rfl) rfl
theorem q1423 : (Jvm.Cond.instanceMethod ({ cls := "LosersBooksModel", name := "kingdom", desc := "(II)I" } : Jvm.MethodName)) ∈ lw_all := lw_g (lw_at lw_m6 105 rfl) rfl
theorem q1424 : (Jvm.Cond.selects "LosersBooksModel" ({ cls := "LosersBooksModel", name := "kingdom", desc := "(II)I" } : Jvm.MethodName) ({ cls := "LosersBooksModel", name := "kingdom", desc := "(II)I" } : Jvm.MethodName)) ∈ lw_all := lw_g (lw_at lw_m6 106 rfl) rfl
theorem q1425 : (Jvm.Cond.code ({ cls := "LosersBooksModel", name := "kingdom", desc := "(II)I" } : Jvm.MethodName) prog_14_method_51_code (3 : Nat) (Option.some Jvm.ClassFile.FieldType.int)) ∈ lw_all := lw_g (lw_at lw_m6 107 rfl) rfl
theorem q1426 : (Jvm.Cond.methodLink "LosersBooksModel" (347 : Nat) ({ cls := "LosersBooksModel", name := "isKingdom", desc := "(I)Z" } : Jvm.MethodName)) ∈ lw_all := lw_g (lw_at lw_m6 108 rfl) rfl
theorem q1427 : (Jvm.Cond.privateMethod ({ cls := "LosersBooksModel", name := "isKingdom", desc := "(I)Z" } : Jvm.MethodName)) ∈ lw_tbl := lw_at lw_m6 109 rfl
theorem q1428 : (Jvm.Cond.instanceMethod ({ cls := "LosersBooksModel", name := "isKingdom", desc := "(I)Z" } : Jvm.MethodName)) ∈ lw_all := lw_g (lw_at lw_m6 110 rfl) rfl
theorem q1429 : (Jvm.Cond.code ({ cls := "LosersBooksModel", name := "isKingdom", desc := "(I)Z" } : Jvm.MethodName) prog_14_method_41_code (2 : Nat) (Option.some Jvm.ClassFile.FieldType.boolean)) ∈ lw_all := lw_g (lw_at lw_m6 111 rfl) rfl
theorem q1430 : (Jvm.Cond.constantLong "LosersBooksModel" (350 : Nat) (5 : Int64)) ∈ lw_all := lw_g (lw_at lw_m6 112 rfl) rfl
theorem q1431 : (Jvm.Cond.methodLink "LosersBooksModel" (316 : Nat) ({ cls := "LosersBooksModel", name := "pagesOf", desc := "([II)I" } : Jvm.MethodName)) ∈ lw_all := lw_g (lw_at lw_m6 113 rfl) rfl
theorem q1432 : (Jvm.Cond.static ({ cls := "LosersBooksModel", name := "pagesOf", desc := "([II)I" } : Jvm.MethodName)) ∈ lw_all := lw_g (lw_at lw_m6 114 rfl) rfl
theorem q1433 : (Jvm.Cond.code ({ cls := "LosersBooksModel", name := "pagesOf", desc := "([II)I" } : Jvm.MethodName) prog_14_method_43_code (4 : Nat) (Option.some Jvm.ClassFile.FieldType.int)) ∈ lw_all := lw_g (lw_at lw_m6 115 rfl) rfl
theorem q1435 : (Jvm.Cond.instanceMethod ({ cls := "LosersBooksModel", name := "field", desc := "(II)I" } : Jvm.MethodName)) ∈ lw_all := lw_g (lw_at lw_m6 117 rfl) rfl
theorem q1436 : (Jvm.Cond.selects "LosersBooksModel" ({ cls := "LosersBooksModel", name := "field", desc := "(II)I" } : Jvm.MethodName) ({ cls := "LosersBooksModel", name := "field", desc := "(II)I" } : Jvm.MethodName)) ∈ lw_all := lw_g (lw_at lw_m6 118 rfl) rfl
theorem q1437 : (Jvm.Cond.code ({ cls := "LosersBooksModel", name := "field", desc := "(II)I" } : Jvm.MethodName) prog_14_method_52_code (3 : Nat) (Option.some Jvm.ClassFile.FieldType.int)) ∈ lw_all := lw_g (lw_at lw_m6 119 rfl) rfl
theorem q1438 : (Jvm.Cond.methodLink "LosersBooksModel" (352 : Nat) ({ cls := "LosersBooksModel", name := "isField", desc := "(I)Z" } : Jvm.MethodName)) ∈ lw_all := lw_g (lw_at lw_m6 120 rfl) rfl
theorem q1439 : (Jvm.Cond.privateMethod ({ cls := "LosersBooksModel", name := "isField", desc := "(I)Z" } : Jvm.MethodName)) ∈ lw_tbl := lw_at lw_m6 121 rfl
theorem q1440 : (Jvm.Cond.instanceMethod ({ cls := "LosersBooksModel", name := "isField", desc := "(I)Z" } : Jvm.MethodName)) ∈ lw_all := lw_g (lw_at lw_m6 122 rfl) rfl
theorem q1441 : (Jvm.Cond.code ({ cls := "LosersBooksModel", name := "isField", desc := "(I)Z" } : Jvm.MethodName) prog_14_method_42_code (2 : Nat) (Option.some Jvm.ClassFile.FieldType.boolean)) ∈ lw_all := lw_g (lw_at lw_m6 123 rfl) rfl
theorem q1442 : (Jvm.Cond.constantLong "LosersBooksModel" (355 : Nat) (3 : Int64)) ∈ lw_all := lw_g (lw_at lw_m6 124 rfl) rfl
theorem q1444 : (Jvm.Cond.instanceMethod ({ cls := "LosersBooksModel", name := "law", desc := "(I)Z" } : Jvm.MethodName)) ∈ lw_all := lw_g (lw_at lw_m6 126 rfl) rfl
theorem q1445 : (Jvm.Cond.selects "LosersBooksModel" ({ cls := "LosersBooksModel", name := "law", desc := "(I)Z" } : Jvm.MethodName) ({ cls := "LosersBooksModel", name := "law", desc := "(I)Z" } : Jvm.MethodName)) ∈ lw_all := lw_g (lw_at lw_m6 127 rfl) rfl
theorem q1446 : (Jvm.Cond.code ({ cls := "LosersBooksModel", name := "law", desc := "(I)Z" } : Jvm.MethodName) prog_14_method_53_code (2 : Nat) (Option.some Jvm.ClassFile.FieldType.boolean)) ∈ lw_all := lw_g (lw_at lw_m6 128 rfl) rfl
theorem q1448 : (Jvm.Cond.instanceMethod ({ cls := "LosersBooksModel", name := "intrigue", desc := "(I)Z" } : Jvm.MethodName)) ∈ lw_all := lw_g (lw_at lw_m6 130 rfl) rfl
theorem q1449 : (Jvm.Cond.selects "LosersBooksModel" ({ cls := "LosersBooksModel", name := "intrigue", desc := "(I)Z" } : Jvm.MethodName) ({ cls := "LosersBooksModel", name := "intrigue", desc := "(I)Z" } : Jvm.MethodName)) ∈ lw_all := lw_g (lw_at lw_m6 131 rfl) rfl
theorem q1450 : (Jvm.Cond.code ({ cls := "LosersBooksModel", name := "intrigue", desc := "(I)Z" } : Jvm.MethodName) prog_14_method_54_code (2 : Nat) (Option.some Jvm.ClassFile.FieldType.boolean)) ∈ lw_all := lw_g (lw_at lw_m6 132 rfl) rfl
theorem q1451 : (Jvm.Cond.constantLong "LosersBooksModel" (357 : Nat) (9 : Int64)) ∈ lw_all := lw_g (lw_at lw_m6 133 rfl) rfl
theorem q1453 : (Jvm.Cond.instanceMethod ({ cls := "LosersBooksModel", name := "year", desc := "()I" } : Jvm.MethodName)) ∈ lw_all := lw_g (lw_at lw_m6 135 rfl) rfl
theorem q1454 : (Jvm.Cond.selects "LosersBooksModel" ({ cls := "LosersBooksModel", name := "year", desc := "()I" } : Jvm.MethodName) ({ cls := "LosersBooksModel", name := "year", desc := "()I" } : Jvm.MethodName)) ∈ lw_all := lw_g (lw_at lw_m6 136 rfl) rfl
theorem q1455 : (Jvm.Cond.code ({ cls := "LosersBooksModel", name := "year", desc := "()I" } : Jvm.MethodName) prog_14_method_56_code (1 : Nat) (Option.some Jvm.ClassFile.FieldType.int)) ∈ lw_all := lw_g (lw_at lw_m6 137 rfl) rfl
theorem q1456 : (Jvm.Cond.methodLink "LosersBooksModel" (359 : Nat) ({ cls := "LosersBooksModel", name := "remember", desc := "()V" } : Jvm.MethodName)) ∈ lw_all := lw_g (lw_at lw_m6 138 rfl) rfl
theorem q1457 : (Jvm.Cond.privateMethod ({ cls := "LosersBooksModel", name := "remember", desc := "()V" } : Jvm.MethodName)) ∈ lw_tbl := lw_at lw_m6 139 rfl
theorem q1458 : (Jvm.Cond.instanceMethod ({ cls := "LosersBooksModel", name := "remember", desc := "()V" } : Jvm.MethodName)) ∈ lw_all := lw_g (lw_at lw_m6 140 rfl) rfl
theorem q1459 : (Jvm.Cond.code ({ cls := "LosersBooksModel", name := "remember", desc := "()V" } : Jvm.MethodName) prog_14_method_55_code (2 : Nat) (Option.none : Option Jvm.ClassFile.FieldType)) ∈ lw_all := lw_g (lw_at lw_m6 141 rfl) rfl
theorem q1460 : (Jvm.Cond.methodLink "LosersBooksModel" (362 : Nat) ({ cls := "LosersBooksModel", name := "goYear", desc := "([I)I" } : Jvm.MethodName)) ∈ lw_all := lw_g (lw_at lw_m6 142 rfl) rfl
theorem q1461 : (Jvm.Cond.privateMethod ({ cls := "LosersBooksModel", name := "goYear", desc := "([I)I" } : Jvm.MethodName)) ∈ lw_tbl := lw_at lw_m6 143 rfl
theorem q1462 : (Jvm.Cond.instanceMethod ({ cls := "LosersBooksModel", name := "goYear", desc := "([I)I" } : Jvm.MethodName)) ∈ lw_all := lw_g (lw_at lw_m6 144 rfl) rfl
theorem q1463 : (Jvm.Cond.code ({ cls := "LosersBooksModel", name := "goYear", desc := "([I)I" } : Jvm.MethodName) prog_14_method_50_code (7 : Nat) (Option.some Jvm.ClassFile.FieldType.int)) ∈ lw_all := lw_g (lw_at lw_m6 145 rfl) rfl
theorem q1464 : (Jvm.Cond.methodLink "LosersBooksModel" (340 : Nat) ({ cls := "LosersBooksModel", name := "sideNow", desc := "([II)I" } : Jvm.MethodName)) ∈ lw_all := lw_g (lw_at lw_m6 146 rfl) rfl
theorem q1465 : (Jvm.Cond.privateMethod ({ cls := "LosersBooksModel", name := "sideNow", desc := "([II)I" } : Jvm.MethodName)) ∈ lw_tbl := lw_at lw_m6 147 rfl
theorem q1466 : (Jvm.Cond.instanceMethod ({ cls := "LosersBooksModel", name := "sideNow", desc := "([II)I" } : Jvm.MethodName)) ∈ lw_all := lw_g (lw_at lw_m6 148 rfl) rfl
theorem q1467 : (Jvm.Cond.code ({ cls := "LosersBooksModel", name := "sideNow", desc := "([II)I" } : Jvm.MethodName) prog_14_method_47_code (3 : Nat) (Option.some Jvm.ClassFile.FieldType.int)) ∈ lw_all := lw_g (lw_at lw_m6 149 rfl) rfl
theorem q1468 : (Jvm.Cond.methodLink "LosersBooksModel" (332 : Nat) ({ cls := "LosersBooksModel", name := "sideBy", desc := "([IIZZ)I" } : Jvm.MethodName)) ∈ lw_all := lw_g (lw_at lw_m6 150 rfl) rfl
theorem q1469 : (Jvm.Cond.privateMethod ({ cls := "LosersBooksModel", name := "sideBy", desc := "([IIZZ)I" } : Jvm.MethodName)) ∈ lw_tbl := lw_at lw_m6 151 rfl
theorem q1470 : (Jvm.Cond.instanceMethod ({ cls := "LosersBooksModel", name := "sideBy", desc := "([IIZZ)I" } : Jvm.MethodName)) ∈ lw_all := lw_g (lw_at lw_m6 152 rfl) rfl
theorem q1471 : (Jvm.Cond.code ({ cls := "LosersBooksModel", name := "sideBy", desc := "([IIZZ)I" } : Jvm.MethodName) prog_14_method_46_code (7 : Nat) (Option.some Jvm.ClassFile.FieldType.int)) ∈ lw_all := lw_g (lw_at lw_m6 153 rfl) rfl
theorem q1472 : (Jvm.Cond.methodLink "LosersBooksModel" (328 : Nat) ({ cls := "LosersBooksModel", name := "forceBy", desc := "([IIIZ)I" } : Jvm.MethodName)) ∈ lw_all := lw_g (lw_at lw_m6 154 rfl) rfl
theorem q1473 : (Jvm.Cond.privateMethod ({ cls := "LosersBooksModel", name := "forceBy", desc := "([IIIZ)I" } : Jvm.MethodName)) ∈ lw_tbl := lw_at lw_m6 155 rfl
theorem q1474 : (Jvm.Cond.instanceMethod ({ cls := "LosersBooksModel", name := "forceBy", desc := "([IIIZ)I" } : Jvm.MethodName)) ∈ lw_all := lw_g (lw_at lw_m6 156 rfl) rfl
theorem q1475 : (Jvm.Cond.code ({ cls := "LosersBooksModel", name := "forceBy", desc := "([IIIZ)I" } : Jvm.MethodName) prog_14_method_45_code (8 : Nat) (Option.some Jvm.ClassFile.FieldType.int)) ∈ lw_all := lw_g (lw_at lw_m6 157 rfl) rfl
theorem q1476 : (Jvm.Cond.methodLink "LosersBooksModel" (320 : Nat) ({ cls := "LosersBooksModel", name := "worthOf", desc := "(IIIIII)I" } : Jvm.MethodName)) ∈ lw_all := lw_g (lw_at lw_m6 158 rfl) rfl
theorem q1477 : (Jvm.Cond.privateMethod ({ cls := "LosersBooksModel", name := "worthOf", desc := "(IIIIII)I" } : Jvm.MethodName)) ∈ lw_tbl := lw_at lw_m6 159 rfl
theorem q1478 : (Jvm.Cond.instanceMethod ({ cls := "LosersBooksModel", name := "worthOf", desc := "(IIIIII)I" } : Jvm.MethodName)) ∈ lw_all := lw_g (lw_at lw_m6 160 rfl) rfl
theorem q1479 : (Jvm.Cond.code ({ cls := "LosersBooksModel", name := "worthOf", desc := "(IIIIII)I" } : Jvm.MethodName) prog_14_method_44_code (10 : Nat) (Option.some Jvm.ClassFile.FieldType.int)) ∈ lw_all := lw_g (lw_at lw_m6 161 rfl) rfl
theorem q1480 : (Jvm.Cond.constantLong "LosersBooksModel" (306 : Nat) (31 : Int64)) ∈ lw_all := lw_g (lw_at lw_m6 162 rfl) rfl
theorem q1481 : (Jvm.Cond.constantLong "LosersBooksModel" (308 : Nat) (10 : Int64)) ∈ lw_all := lw_g (lw_at lw_m6 163 rfl) rfl
theorem q1482 : (Jvm.Cond.constantLong "LosersBooksModel" (310 : Nat) (1000 : Int64)) ∈ lw_all := lw_g (lw_at lw_m6 164 rfl) rfl
theorem q1483 : (Jvm.Cond.constantLong "LosersBooksModel" (312 : Nat) (2000 : Int64)) ∈ lw_all := lw_g (lw_at lw_m6 165 rfl) rfl
theorem q1484 : (Jvm.Cond.constantLong "LosersBooksModel" (314 : Nat) (8191 : Int64)) ∈ lw_all := lw_g (lw_at lw_m6 166 rfl) rfl
theorem q1485 : (Jvm.Cond.methodLink "LosersBooksModel" (324 : Nat) ({ cls := "java/lang/Math", name := "min", desc := "(II)I" } : Jvm.MethodName)) ∈ lw_all := lw_g (lw_at lw_m6 167 rfl) rfl
theorem q1486 : (Jvm.Cond.methodLink "LosersBooksModel" (326 : Nat) ({ cls := "java/lang/Math", name := "max", desc := "(II)I" } : Jvm.MethodName)) ∈ lw_all := lw_g (lw_at lw_m6 168 rfl) rfl
theorem q1487 : (Jvm.Cond.methodLink "LosersBooksModel" (343 : Nat) ({ cls := "LosersBooksModel", name := "writes", desc := "([IIII)V" } : Jvm.MethodName)) ∈ lw_all := lw_g (lw_at lw_m6 169 rfl) rfl
theorem q1488 : (Jvm.Cond.privateMethod ({ cls := "LosersBooksModel", name := "writes", desc := "([IIII)V" } : Jvm.MethodName)) ∈ lw_tbl := lw_at lw_m6 170 rfl
theorem q1489 : (Jvm.Cond.instanceMethod ({ cls := "LosersBooksModel", name := "writes", desc := "([IIII)V" } : Jvm.MethodName)) ∈ lw_all := lw_g (lw_at lw_m6 171 rfl) rfl
theorem q1490 : (Jvm.Cond.code ({ cls := "LosersBooksModel", name := "writes", desc := "([IIII)V" } : Jvm.MethodName) prog_14_method_48_code (6 : Nat) (Option.none : Option Jvm.ClassFile.FieldType)) ∈ lw_all := lw_g (lw_at lw_m6 172 rfl) rfl
theorem q1491 : (Jvm.Cond.methodLink "LosersBooksModel" (336 : Nat) ({ cls := "LosersBooksModel", name := "burns", desc := "([II)V" } : Jvm.MethodName)) ∈ lw_all := lw_g (lw_at lw_m6 173 rfl) rfl
theorem q1492 : (Jvm.Cond.static ({ cls := "LosersBooksModel", name := "burns", desc := "([II)V" } : Jvm.MethodName)) ∈ lw_all := lw_g (lw_at lw_m6 174 rfl) rfl
theorem q1493 : (Jvm.Cond.code ({ cls := "LosersBooksModel", name := "burns", desc := "([II)V" } : Jvm.MethodName) prog_14_method_49_code (3 : Nat) (Option.none : Option Jvm.ClassFile.FieldType)) ∈ lw_all := lw_g (lw_at lw_m6 175 rfl) rfl
theorem q1495 : (Jvm.Cond.instanceMethod ({ cls := "LosersBooksModel", name := "hold", desc := "(I)I" } : Jvm.MethodName)) ∈ lw_all := lw_g (lw_at lw_m6 177 rfl) rfl
theorem q1496 : (Jvm.Cond.selects "LosersBooksModel" ({ cls := "LosersBooksModel", name := "hold", desc := "(I)I" } : Jvm.MethodName) ({ cls := "LosersBooksModel", name := "hold", desc := "(I)I" } : Jvm.MethodName)) ∈ lw_all := lw_g (lw_at lw_m6 178 rfl) rfl
theorem q1497 : (Jvm.Cond.code ({ cls := "LosersBooksModel", name := "hold", desc := "(I)I" } : Jvm.MethodName) prog_14_method_57_code (2 : Nat) (Option.some Jvm.ClassFile.FieldType.int)) ∈ lw_all := lw_g (lw_at lw_m6 179 rfl) rfl
theorem q1499 : (Jvm.Cond.instanceMethod ({ cls := "LosersBooksModel", name := "arm", desc := "(I)I" } : Jvm.MethodName)) ∈ lw_all := lw_g (lw_at lw_m6 181 rfl) rfl
theorem q1500 : (Jvm.Cond.selects "LosersBooksModel" ({ cls := "LosersBooksModel", name := "arm", desc := "(I)I" } : Jvm.MethodName) ({ cls := "LosersBooksModel", name := "arm", desc := "(I)I" } : Jvm.MethodName)) ∈ lw_all := lw_g (lw_at lw_m6 182 rfl) rfl
theorem q1501 : (Jvm.Cond.code ({ cls := "LosersBooksModel", name := "arm", desc := "(I)I" } : Jvm.MethodName) prog_14_method_61_code (2 : Nat) (Option.some Jvm.ClassFile.FieldType.int)) ∈ lw_all := lw_g (lw_at lw_m6 183 rfl) rfl
theorem q1502 : (Jvm.Cond.methodLink "LosersBooksModel" (366 : Nat) ({ cls := "LosersBooksModel", name := "canArm", desc := "([II)Z" } : Jvm.MethodName)) ∈ lw_all := lw_g (lw_at lw_m6 184 rfl) rfl
theorem q1503 : (Jvm.Cond.privateMethod ({ cls := "LosersBooksModel", name := "canArm", desc := "([II)Z" } : Jvm.MethodName)) ∈ lw_tbl := lw_at lw_m6 185 rfl
theorem q1504 : (Jvm.Cond.instanceMethod ({ cls := "LosersBooksModel", name := "canArm", desc := "([II)Z" } : Jvm.MethodName)) ∈ lw_all := lw_g (lw_at lw_m6 186 rfl) rfl
theorem q1505 : (Jvm.Cond.code ({ cls := "LosersBooksModel", name := "canArm", desc := "([II)Z" } : Jvm.MethodName) prog_14_method_58_code (3 : Nat) (Option.some Jvm.ClassFile.FieldType.boolean)) ∈ lw_all := lw_g (lw_at lw_m6 187 rfl) rfl
theorem q1506 : (Jvm.Cond.methodLink "LosersBooksModel" (370 : Nat) ({ cls := "LosersBooksModel", name := "spends", desc := "([IIII)V" } : Jvm.MethodName)) ∈ lw_all := lw_g (lw_at lw_m6 188 rfl) rfl
theorem q1507 : (Jvm.Cond.static ({ cls := "LosersBooksModel", name := "spends", desc := "([IIII)V" } : Jvm.MethodName)) ∈ lw_all := lw_g (lw_at lw_m6 189 rfl) rfl
theorem q1508 : (Jvm.Cond.code ({ cls := "LosersBooksModel", name := "spends", desc := "([IIII)V" } : Jvm.MethodName) prog_14_method_60_code (4 : Nat) (Option.none : Option Jvm.ClassFile.FieldType)) ∈ lw_all := lw_g (lw_at lw_m6 190 rfl) rfl
theorem q1510 : (Jvm.Cond.instanceMethod ({ cls := "LosersBooksModel", name := "teach", desc := "(I)I" } : Jvm.MethodName)) ∈ lw_all := lw_g (lw_at lw_m6 192 rfl) rfl
theorem q1511 : (Jvm.Cond.selects "LosersBooksModel" ({ cls := "LosersBooksModel", name := "teach", desc := "(I)I" } : Jvm.MethodName) ({ cls := "LosersBooksModel", name := "teach", desc := "(I)I" } : Jvm.MethodName)) ∈ lw_all := lw_g (lw_at lw_m6 193 rfl) rfl
theorem q1512 : (Jvm.Cond.code ({ cls := "LosersBooksModel", name := "teach", desc := "(I)I" } : Jvm.MethodName) prog_14_method_62_code (2 : Nat) (Option.some Jvm.ClassFile.FieldType.int)) ∈ lw_all := lw_g (lw_at lw_m6 194 rfl) rfl
theorem q1513 : (Jvm.Cond.methodLink "LosersBooksModel" (373 : Nat) ({ cls := "LosersBooksModel", name := "canTeach", desc := "([II)Z" } : Jvm.MethodName)) ∈ lw_all := lw_g (lw_at lw_m6 195 rfl) rfl
theorem q1514 : (Jvm.Cond.privateMethod ({ cls := "LosersBooksModel", name := "canTeach", desc := "([II)Z" } : Jvm.MethodName)) ∈ lw_tbl := lw_at lw_m6 196 rfl
theorem q1515 : (Jvm.Cond.instanceMethod ({ cls := "LosersBooksModel", name := "canTeach", desc := "([II)Z" } : Jvm.MethodName)) ∈ lw_all := lw_g (lw_at lw_m6 197 rfl) rfl
theorem q1516 : (Jvm.Cond.code ({ cls := "LosersBooksModel", name := "canTeach", desc := "([II)Z" } : Jvm.MethodName) prog_14_method_59_code (3 : Nat) (Option.some Jvm.ClassFile.FieldType.boolean)) ∈ lw_all := lw_g (lw_at lw_m6 198 rfl) rfl
theorem q1518 : (Jvm.Cond.instanceMethod ({ cls := "LosersBooksModel", name := "swear", desc := "(I)I" } : Jvm.MethodName)) ∈ lw_all := lw_g (lw_at lw_m6 200 rfl) rfl
theorem q1519 : (Jvm.Cond.selects "LosersBooksModel" ({ cls := "LosersBooksModel", name := "swear", desc := "(I)I" } : Jvm.MethodName) ({ cls := "LosersBooksModel", name := "swear", desc := "(I)I" } : Jvm.MethodName)) ∈ lw_all := lw_g (lw_at lw_m6 201 rfl) rfl
theorem q1520 : (Jvm.Cond.code ({ cls := "LosersBooksModel", name := "swear", desc := "(I)I" } : Jvm.MethodName) prog_14_method_63_code (2 : Nat) (Option.some Jvm.ClassFile.FieldType.int)) ∈ lw_all := lw_g (lw_at lw_m6 202 rfl) rfl
theorem q1522 : (Jvm.Cond.instanceMethod ({ cls := "LosersBooksModel", name := "burn", desc := "(I)I" } : Jvm.MethodName)) ∈ lw_all := lw_g (lw_at lw_m6 204 rfl) rfl
theorem q1523 : (Jvm.Cond.selects "LosersBooksModel" ({ cls := "LosersBooksModel", name := "burn", desc := "(I)I" } : Jvm.MethodName) ({ cls := "LosersBooksModel", name := "burn", desc := "(I)I" } : Jvm.MethodName)) ∈ lw_all := lw_g (lw_at lw_m6 205 rfl) rfl
theorem q1524 : (Jvm.Cond.code ({ cls := "LosersBooksModel", name := "burn", desc := "(I)I" } : Jvm.MethodName) prog_14_method_64_code (2 : Nat) (Option.some Jvm.ClassFile.FieldType.int)) ∈ lw_all := lw_g (lw_at lw_m6 206 rfl) rfl
theorem q1526 : (Jvm.Cond.instanceMethod ({ cls := "LosersBooksModel", name := "give", desc := "(I)I" } : Jvm.MethodName)) ∈ lw_all := lw_g (lw_at lw_m6 208 rfl) rfl
theorem q1527 : (Jvm.Cond.selects "LosersBooksModel" ({ cls := "LosersBooksModel", name := "give", desc := "(I)I" } : Jvm.MethodName) ({ cls := "LosersBooksModel", name := "give", desc := "(I)I" } : Jvm.MethodName)) ∈ lw_all := lw_g (lw_at lw_m6 209 rfl) rfl
theorem q1528 : (Jvm.Cond.code ({ cls := "LosersBooksModel", name := "give", desc := "(I)I" } : Jvm.MethodName) prog_14_method_65_code (2 : Nat) (Option.some Jvm.ClassFile.FieldType.int)) ∈ lw_all := lw_g (lw_at lw_m6 210 rfl) rfl
theorem q1529 : (Jvm.Cond.constantLong "LosersBooksModel" (376 : Nat) (50 : Int64)) ∈ lw_all := lw_g (lw_at lw_m6 211 rfl) rfl
theorem q1531 : (Jvm.Cond.instanceMethod ({ cls := "LosersBooksModel", name := "years", desc := "(IJ)I" } : Jvm.MethodName)) ∈ lw_all := lw_g (lw_at lw_m6 213 rfl) rfl
theorem q1532 : (Jvm.Cond.selects "LosersBooksModel" ({ cls := "LosersBooksModel", name := "years", desc := "(IJ)I" } : Jvm.MethodName) ({ cls := "LosersBooksModel", name := "years", desc := "(IJ)I" } : Jvm.MethodName)) ∈ lw_all := lw_g (lw_at lw_m6 214 rfl) rfl
theorem q1533 : (Jvm.Cond.code ({ cls := "LosersBooksModel", name := "years", desc := "(IJ)I" } : Jvm.MethodName) prog_14_method_67_code (6 : Nat) (Option.some Jvm.ClassFile.FieldType.int)) ∈ lw_all := lw_g (lw_at lw_m6 215 rfl) rfl
theorem q1534 : (Jvm.Cond.constantLong "LosersBooksModel" (386 : Nat) (30 : Int64)) ∈ lw_all := lw_g (lw_at lw_m6 216 rfl) rfl
theorem q1535 : (Jvm.Cond.methodLink "LosersBooksModel" (388 : Nat) ({ cls := "LosersBooksModel", name := "draw", desc := "(I)I" } : Jvm.MethodName)) ∈ lw_all := lw_g (lw_at lw_m6 217 rfl) rfl
theorem q1536 : (Jvm.Cond.privateMethod ({ cls := "LosersBooksModel", name := "draw", desc := "(I)I" } : Jvm.MethodName)) ∈ lw_tbl := lw_at lw_m6 218 rfl
theorem q1537 : (Jvm.Cond.instanceMethod ({ cls := "LosersBooksModel", name := "draw", desc := "(I)I" } : Jvm.MethodName)) ∈ lw_all := lw_g (lw_at lw_m6 219 rfl) rfl
theorem q1538 : (Jvm.Cond.code ({ cls := "LosersBooksModel", name := "draw", desc := "(I)I" } : Jvm.MethodName) prog_14_method_66_code (2 : Nat) (Option.some Jvm.ClassFile.FieldType.int)) ∈ lw_all := lw_g (lw_at lw_m6 220 rfl) rfl
theorem q1539 : (Jvm.Cond.constantLong "LosersBooksModel" (382 : Nat) (6364136223846793005 : Int64)) ∈ lw_all := lw_g (lw_at lw_m6 221 rfl) rfl
theorem q1540 : (Jvm.Cond.constantLong "LosersBooksModel" (384 : Nat) (1442695040888963407 : Int64)) ∈ lw_all := lw_g (lw_at lw_m6 222 rfl) rfl
theorem q1542 : (Jvm.Cond.instanceMethod ({ cls := "LosersBooksModel", name := "undo", desc := "()I" } : Jvm.MethodName)) ∈ lw_all := lw_g (lw_at lw_m6 224 rfl) rfl
theorem q1543 : (Jvm.Cond.selects "LosersBooksModel" ({ cls := "LosersBooksModel", name := "undo", desc := "()I" } : Jvm.MethodName) ({ cls := "LosersBooksModel", name := "undo", desc := "()I" } : Jvm.MethodName)) ∈ lw_all := lw_g (lw_at lw_m6 225 rfl) rfl
theorem q1544 : (Jvm.Cond.code ({ cls := "LosersBooksModel", name := "undo", desc := "()I" } : Jvm.MethodName) prog_14_method_68_code (2 : Nat) (Option.some Jvm.ClassFile.FieldType.int)) ∈ lw_all := lw_g (lw_at lw_m6 226 rfl) rfl
theorem q1546 : (Jvm.Cond.instanceMethod ({ cls := "LosersBooksModel", name := "log", desc := "(II)I" } : Jvm.MethodName)) ∈ lw_all := lw_g (lw_at lw_m6 228 rfl) rfl
theorem q1547 : (Jvm.Cond.selects "LosersBooksModel" ({ cls := "LosersBooksModel", name := "log", desc := "(II)I" } : Jvm.MethodName) ({ cls := "LosersBooksModel", name := "log", desc := "(II)I" } : Jvm.MethodName)) ∈ lw_all := lw_g (lw_at lw_m6 229 rfl) rfl
theorem q1548 : (Jvm.Cond.code ({ cls := "LosersBooksModel", name := "log", desc := "(II)I" } : Jvm.MethodName) prog_14_method_69_code (3 : Nat) (Option.some Jvm.ClassFile.FieldType.int)) ∈ lw_all := lw_g (lw_at lw_m6 230 rfl) rfl
theorem q1549 : (Jvm.Cond.constant "LosersBooksModel" (391 : Nat) (-1000000 : Int32)) ∈ lw_all := lw_g (lw_at lw_m6 231 rfl) rfl
theorem q1551 : (Jvm.Cond.instanceMethod ({ cls := "LosersBooksModel", name := "step", desc := "(III)I" } : Jvm.MethodName)) ∈ lw_all := lw_g (lw_at lw_m6 233 rfl) rfl
theorem q1552 : (Jvm.Cond.selects "LosersBooksModel" ({ cls := "LosersBooksModel", name := "step", desc := "(III)I" } : Jvm.MethodName) ({ cls := "LosersBooksModel", name := "step", desc := "(III)I" } : Jvm.MethodName)) ∈ lw_all := lw_g (lw_at lw_m6 234 rfl) rfl
theorem q1553 : (Jvm.Cond.code ({ cls := "LosersBooksModel", name := "step", desc := "(III)I" } : Jvm.MethodName) prog_14_method_71_code (4 : Nat) (Option.some Jvm.ClassFile.FieldType.int)) ∈ lw_all := lw_g (lw_at lw_m6 235 rfl) rfl
theorem q1554 : (Jvm.Cond.methodLink "LosersBooksModel" (392 : Nat) ({ cls := "LosersBooksModel", name := "isPlan", desc := "(I)Z" } : Jvm.MethodName)) ∈ lw_all := lw_g (lw_at lw_m6 236 rfl) rfl
theorem q1555 : (Jvm.Cond.privateMethod ({ cls := "LosersBooksModel", name := "isPlan", desc := "(I)Z" } : Jvm.MethodName)) ∈ lw_tbl := lw_at lw_m6 237 rfl
theorem q1556 : (Jvm.Cond.instanceMethod ({ cls := "LosersBooksModel", name := "isPlan", desc := "(I)Z" } : Jvm.MethodName)) ∈ lw_all := lw_g (lw_at lw_m6 238 rfl) rfl
theorem q1557 : (Jvm.Cond.code ({ cls := "LosersBooksModel", name := "isPlan", desc := "(I)Z" } : Jvm.MethodName) prog_14_method_70_code (2 : Nat) (Option.some Jvm.ClassFile.FieldType.boolean)) ∈ lw_all := lw_g (lw_at lw_m6 239 rfl) rfl
theorem q1559 : (Jvm.Cond.instanceMethod ({ cls := "LosersBooksModel", name := "run", desc := "(II)I" } : Jvm.MethodName)) ∈ lw_all := lw_g (lw_at lw_m7 1 rfl) rfl
theorem q1560 : (Jvm.Cond.selects "LosersBooksModel" ({ cls := "LosersBooksModel", name := "run", desc := "(II)I" } : Jvm.MethodName) ({ cls := "LosersBooksModel", name := "run", desc := "(II)I" } : Jvm.MethodName)) ∈ lw_all := lw_g (lw_at lw_m7 2 rfl) rfl
theorem q1561 : (Jvm.Cond.code ({ cls := "LosersBooksModel", name := "run", desc := "(II)I" } : Jvm.MethodName) prog_14_method_74_code (5 : Nat) (Option.some Jvm.ClassFile.FieldType.int)) ∈ lw_all := lw_g (lw_at lw_m7 3 rfl) rfl
theorem q1562 : (Jvm.Cond.methodLink "LosersBooksModel" (395 : Nat) ({ cls := "LosersBooksModel", name := "copy", desc := "([I[I)V" } : Jvm.MethodName)) ∈ lw_all := lw_g (lw_at lw_m7 4 rfl) rfl
theorem q1563 : (Jvm.Cond.static ({ cls := "LosersBooksModel", name := "copy", desc := "([I[I)V" } : Jvm.MethodName)) ∈ lw_all := lw_g (lw_at lw_m7 5 rfl) rfl
theorem q1564 : (Jvm.Cond.code ({ cls := "LosersBooksModel", name := "copy", desc := "([I[I)V" } : Jvm.MethodName) prog_14_method_40_code (3 : Nat) (Option.none : Option Jvm.ClassFile.FieldType)) ∈ lw_all := lw_g (lw_at lw_m7 6 rfl) rfl
theorem q1565 : (Jvm.Cond.methodLink "LosersBooksModel" (399 : Nat) ({ cls := "LosersBooksModel", name := "canStep", desc := "([II)Z" } : Jvm.MethodName)) ∈ lw_all := lw_g (lw_at lw_m7 7 rfl) rfl
theorem q1566 : (Jvm.Cond.privateMethod ({ cls := "LosersBooksModel", name := "canStep", desc := "([II)Z" } : Jvm.MethodName)) ∈ lw_tbl := lw_at lw_m7 8 rfl
theorem q1567 : (Jvm.Cond.instanceMethod ({ cls := "LosersBooksModel", name := "canStep", desc := "([II)Z" } : Jvm.MethodName)) ∈ lw_all := lw_g (lw_at lw_m7 9 rfl) rfl
theorem q1568 : (Jvm.Cond.code ({ cls := "LosersBooksModel", name := "canStep", desc := "([II)Z" } : Jvm.MethodName) prog_14_method_72_code (4 : Nat) (Option.some Jvm.ClassFile.FieldType.boolean)) ∈ lw_all := lw_g (lw_at lw_m7 10 rfl) rfl
theorem q1569 : (Jvm.Cond.methodLink "LosersBooksModel" (402 : Nat) ({ cls := "LosersBooksModel", name := "goStep", desc := "([II)I" } : Jvm.MethodName)) ∈ lw_all := lw_g (lw_at lw_m7 11 rfl) rfl
theorem q1570 : (Jvm.Cond.privateMethod ({ cls := "LosersBooksModel", name := "goStep", desc := "([II)I" } : Jvm.MethodName)) ∈ lw_tbl := lw_at lw_m7 12 rfl
theorem q1571 : (Jvm.Cond.instanceMethod ({ cls := "LosersBooksModel", name := "goStep", desc := "([II)I" } : Jvm.MethodName)) ∈ lw_all := lw_g (lw_at lw_m7 13 rfl) rfl
theorem q1572 : (Jvm.Cond.code ({ cls := "LosersBooksModel", name := "goStep", desc := "([II)I" } : Jvm.MethodName) prog_14_method_73_code (4 : Nat) (Option.some Jvm.ClassFile.FieldType.int)) ∈ lw_all := lw_g (lw_at lw_m7 14 rfl) rfl
theorem q1574 : (Jvm.Cond.instanceMethod ({ cls := "LosersBooksModel", name := "perform", desc := "(I)I" } : Jvm.MethodName)) ∈ lw_all := lw_g (lw_at lw_m7 16 rfl) rfl
theorem q1575 : (Jvm.Cond.selects "LosersBooksModel" ({ cls := "LosersBooksModel", name := "perform", desc := "(I)I" } : Jvm.MethodName) ({ cls := "LosersBooksModel", name := "perform", desc := "(I)I" } : Jvm.MethodName)) ∈ lw_all := lw_g (lw_at lw_m7 17 rfl) rfl
theorem q1576 : (Jvm.Cond.code ({ cls := "LosersBooksModel", name := "perform", desc := "(I)I" } : Jvm.MethodName) prog_14_method_75_code (4 : Nat) (Option.some Jvm.ClassFile.FieldType.int)) ∈ lw_all := lw_g (lw_at lw_m7 18 rfl) rfl
theorem q1578 : (Jvm.Cond.instanceMethod ({ cls := "LosersBooksModel", name := "force", desc := "(II)I" } : Jvm.MethodName)) ∈ lw_all := lw_g (lw_at lw_m7 20 rfl) rfl
theorem q1579 : (Jvm.Cond.selects "LosersBooksModel" ({ cls := "LosersBooksModel", name := "force", desc := "(II)I" } : Jvm.MethodName) ({ cls := "LosersBooksModel", name := "force", desc := "(II)I" } : Jvm.MethodName)) ∈ lw_all := lw_g (lw_at lw_m7 21 rfl) rfl
theorem q1580 : (Jvm.Cond.code ({ cls := "LosersBooksModel", name := "force", desc := "(II)I" } : Jvm.MethodName) prog_14_method_76_code (4 : Nat) (Option.some Jvm.ClassFile.FieldType.int)) ∈ lw_all := lw_g (lw_at lw_m7 22 rfl) rfl
theorem q1582 : (Jvm.Cond.instanceMethod ({ cls := "LosersBooksModel", name := "wins", desc := "(I)I" } : Jvm.MethodName)) ∈ lw_all := lw_g (lw_at lw_m7 24 rfl) rfl
theorem q1583 : (Jvm.Cond.selects "LosersBooksModel" ({ cls := "LosersBooksModel", name := "wins", desc := "(I)I" } : Jvm.MethodName) ({ cls := "LosersBooksModel", name := "wins", desc := "(I)I" } : Jvm.MethodName)) ∈ lw_all := lw_g (lw_at lw_m7 25 rfl) rfl
theorem q1584 : (Jvm.Cond.code ({ cls := "LosersBooksModel", name := "wins", desc := "(I)I" } : Jvm.MethodName) prog_14_method_77_code (3 : Nat) (Option.some Jvm.ClassFile.FieldType.int)) ∈ lw_all := lw_g (lw_at lw_m7 26 rfl) rfl
theorem q1586 : (Jvm.Cond.instanceMethod ({ cls := "LosersBooksModel", name := "shelf", desc := "(II)I" } : Jvm.MethodName)) ∈ lw_all := lw_g (lw_at lw_m7 28 rfl) rfl
theorem q1587 : (Jvm.Cond.selects "LosersBooksModel" ({ cls := "LosersBooksModel", name := "shelf", desc := "(II)I" } : Jvm.MethodName) ({ cls := "LosersBooksModel", name := "shelf", desc := "(II)I" } : Jvm.MethodName)) ∈ lw_all := lw_g (lw_at lw_m7 29 rfl) rfl
theorem q1588 : (Jvm.Cond.code ({ cls := "LosersBooksModel", name := "shelf", desc := "(II)I" } : Jvm.MethodName) prog_14_method_78_code (5 : Nat) (Option.some Jvm.ClassFile.FieldType.int)) ∈ lw_all := lw_g (lw_at lw_m7 30 rfl) rfl
theorem q1590 : (Jvm.Cond.instanceMethod ({ cls := "LosersBooksModel", name := "scheme", desc := "(III)I" } : Jvm.MethodName)) ∈ lw_all := lw_g (lw_at lw_m7 32 rfl) rfl
theorem q1591 : (Jvm.Cond.selects "LosersBooksModel" ({ cls := "LosersBooksModel", name := "scheme", desc := "(III)I" } : Jvm.MethodName) ({ cls := "LosersBooksModel", name := "scheme", desc := "(III)I" } : Jvm.MethodName)) ∈ lw_all := lw_g (lw_at lw_m7 33 rfl) rfl
theorem q1592 : (Jvm.Cond.code ({ cls := "LosersBooksModel", name := "scheme", desc := "(III)I" } : Jvm.MethodName) prog_14_method_79_code (9 : Nat) (Option.some Jvm.ClassFile.FieldType.int)) ∈ lw_all := lw_g (lw_at lw_m7 34 rfl) rfl
theorem q1593 : (Jvm.Cond.constantLong "LosersBooksModel" (405 : Nat) (20 : Int64)) ∈ lw_all := lw_g (lw_at lw_m7 35 rfl) rfl
theorem q1594 : (Jvm.Cond.methodLink "LosersBooksModel" (407 : Nat) ({ cls := "java/lang/Integer", name := "bitCount", desc := "(I)I" } : Jvm.MethodName)) ∈ lw_all := lw_g (lw_at lw_m7 36 rfl) rfl
theorem q1596 : (Jvm.Cond.instanceMethod ({ cls := "LosersBooksModel", name := "peace", desc := "()I" } : Jvm.MethodName)) ∈ lw_all := lw_g (lw_at lw_m7 38 rfl) rfl
theorem q1597 : (Jvm.Cond.selects "LosersBooksModel" ({ cls := "LosersBooksModel", name := "peace", desc := "()I" } : Jvm.MethodName) ({ cls := "LosersBooksModel", name := "peace", desc := "()I" } : Jvm.MethodName)) ∈ lw_all := lw_g (lw_at lw_m7 39 rfl) rfl
theorem q1598 : (Jvm.Cond.code ({ cls := "LosersBooksModel", name := "peace", desc := "()I" } : Jvm.MethodName) prog_14_method_80_code (2 : Nat) (Option.some Jvm.ClassFile.FieldType.int)) ∈ lw_all := lw_g (lw_at lw_m7 40 rfl) rfl
theorem q1600 : (Jvm.Cond.instanceMethod ({ cls := "LosersBooksModel", name := "last", desc := "(I)I" } : Jvm.MethodName)) ∈ lw_all := lw_g (lw_at lw_m7 42 rfl) rfl
theorem q1601 : (Jvm.Cond.selects "LosersBooksModel" ({ cls := "LosersBooksModel", name := "last", desc := "(I)I" } : Jvm.MethodName) ({ cls := "LosersBooksModel", name := "last", desc := "(I)I" } : Jvm.MethodName)) ∈ lw_all := lw_g (lw_at lw_m7 43 rfl) rfl
theorem q1602 : (Jvm.Cond.code ({ cls := "LosersBooksModel", name := "last", desc := "(I)I" } : Jvm.MethodName) prog_14_method_81_code (2 : Nat) (Option.some Jvm.ClassFile.FieldType.int)) ∈ lw_all := lw_g (lw_at lw_m7 44 rfl) rfl
theorem q1604 : (Jvm.Cond.instanceMethod ({ cls := "LosersBooksModel", name := "told", desc := "(III)I" } : Jvm.MethodName)) ∈ lw_all := lw_g (lw_at lw_m7 46 rfl) rfl
theorem q1605 : (Jvm.Cond.selects "LosersBooksModel" ({ cls := "LosersBooksModel", name := "told", desc := "(III)I" } : Jvm.MethodName) ({ cls := "LosersBooksModel", name := "told", desc := "(III)I" } : Jvm.MethodName)) ∈ lw_all := lw_g (lw_at lw_m7 47 rfl) rfl
theorem q1606 : (Jvm.Cond.code ({ cls := "LosersBooksModel", name := "told", desc := "(III)I" } : Jvm.MethodName) prog_14_method_82_code (4 : Nat) (Option.some Jvm.ClassFile.FieldType.int)) ∈ lw_all := lw_g (lw_at lw_m7 48 rfl) rfl
theorem q1607 : (Jvm.Cond.constantLong "LosersBooksModel" (412 : Nat) (29 : Int64)) ∈ lw_all := lw_g (lw_at lw_m7 49 rfl) rfl
theorem q1609 : (Jvm.Cond.instanceMethod ({ cls := "LosersBooksModel", name := "biases", desc := "(II)I" } : Jvm.MethodName)) ∈ lw_all := lw_g (lw_at lw_m7 51 rfl) rfl
theorem q1610 : (Jvm.Cond.selects "LosersBooksModel" ({ cls := "LosersBooksModel", name := "biases", desc := "(II)I" } : Jvm.MethodName) ({ cls := "LosersBooksModel", name := "biases", desc := "(II)I" } : Jvm.MethodName)) ∈ lw_all := lw_g (lw_at lw_m7 52 rfl) rfl
theorem q1611 : (Jvm.Cond.code ({ cls := "LosersBooksModel", name := "biases", desc := "(II)I" } : Jvm.MethodName) prog_14_method_86_code (5 : Nat) (Option.some Jvm.ClassFile.FieldType.int)) ∈ lw_all := lw_g (lw_at lw_m7 53 rfl) rfl
theorem q1612 : (Jvm.Cond.methodLink "LosersBooksModel" (414 : Nat) ({ cls := "LosersBooksModel", name := "codes", desc := "()I" } : Jvm.MethodName)) ∈ lw_all := lw_g (lw_at lw_m7 54 rfl) rfl
theorem q1613 : (Jvm.Cond.privateMethod ({ cls := "LosersBooksModel", name := "codes", desc := "()I" } : Jvm.MethodName)) ∈ lw_tbl := lw_at lw_m7 55 rfl
theorem q1614 : (Jvm.Cond.instanceMethod ({ cls := "LosersBooksModel", name := "codes", desc := "()I" } : Jvm.MethodName)) ∈ lw_all := lw_g (lw_at lw_m7 56 rfl) rfl
theorem q1615 : (Jvm.Cond.code ({ cls := "LosersBooksModel", name := "codes", desc := "()I" } : Jvm.MethodName) prog_14_method_84_code (3 : Nat) (Option.some Jvm.ClassFile.FieldType.int)) ∈ lw_all := lw_g (lw_at lw_m7 57 rfl) rfl
theorem q1616 : (Jvm.Cond.methodLink "LosersBooksModel" (417 : Nat) ({ cls := "LosersBooksModel", name := "fitsAll", desc := "(I)Z" } : Jvm.MethodName)) ∈ lw_all := lw_g (lw_at lw_m7 58 rfl) rfl
theorem q1617 : (Jvm.Cond.privateMethod ({ cls := "LosersBooksModel", name := "fitsAll", desc := "(I)Z" } : Jvm.MethodName)) ∈ lw_tbl := lw_at lw_m7 59 rfl
theorem q1618 : (Jvm.Cond.instanceMethod ({ cls := "LosersBooksModel", name := "fitsAll", desc := "(I)Z" } : Jvm.MethodName)) ∈ lw_all := lw_g (lw_at lw_m7 60 rfl) rfl
theorem q1619 : (Jvm.Cond.code ({ cls := "LosersBooksModel", name := "fitsAll", desc := "(I)Z" } : Jvm.MethodName) prog_14_method_83_code (6 : Nat) (Option.some Jvm.ClassFile.FieldType.boolean)) ∈ lw_all := lw_g (lw_at lw_m7 61 rfl) rfl
theorem q1620 : (Jvm.Cond.methodLink "LosersBooksModel" (420 : Nat) ({ cls := "LosersBooksModel", name := "pick", desc := "(II)I" } : Jvm.MethodName)) ∈ lw_all := lw_g (lw_at lw_m7 62 rfl) rfl
theorem q1621 : (Jvm.Cond.static ({ cls := "LosersBooksModel", name := "pick", desc := "(II)I" } : Jvm.MethodName)) ∈ lw_all := lw_g (lw_at lw_m7 63 rfl) rfl
theorem q1622 : (Jvm.Cond.code ({ cls := "LosersBooksModel", name := "pick", desc := "(II)I" } : Jvm.MethodName) prog_14_method_85_code (4 : Nat) (Option.some Jvm.ClassFile.FieldType.int)) ∈ lw_all := lw_g (lw_at lw_m7 64 rfl) rfl
theorem q1624 : (Jvm.Cond.instanceMethod ({ cls := "LosersBooksModel", name := "truths", desc := "(II)I" } : Jvm.MethodName)) ∈ lw_all := lw_g (lw_at lw_m7 66 rfl) rfl
theorem q1625 : (Jvm.Cond.selects "LosersBooksModel" ({ cls := "LosersBooksModel", name := "truths", desc := "(II)I" } : Jvm.MethodName) ({ cls := "LosersBooksModel", name := "truths", desc := "(II)I" } : Jvm.MethodName)) ∈ lw_all := lw_g (lw_at lw_m7 67 rfl) rfl
theorem q1626 : (Jvm.Cond.code ({ cls := "LosersBooksModel", name := "truths", desc := "(II)I" } : Jvm.MethodName) prog_14_method_87_code (5 : Nat) (Option.some Jvm.ClassFile.FieldType.int)) ∈ lw_all := lw_g (lw_at lw_m7 68 rfl) rfl
theorem q1627 : (Jvm.Cond.constant "LosersBooksModel" (423 : Nat) (2097151 : Int32)) ∈ lw_all := lw_g (lw_at lw_m7 69 rfl) rfl
theorem q1629 : (Jvm.Cond.instanceMethod ({ cls := "LosersBooksModel", name := "read", desc := "(I)I" } : Jvm.MethodName)) ∈ lw_all := lw_g (lw_at lw_m7 71 rfl) rfl
theorem q1630 : (Jvm.Cond.selects "LosersBooksModel" ({ cls := "LosersBooksModel", name := "read", desc := "(I)I" } : Jvm.MethodName) ({ cls := "LosersBooksModel", name := "read", desc := "(I)I" } : Jvm.MethodName)) ∈ lw_all := lw_g (lw_at lw_m7 72 rfl) rfl
theorem q1631 : (Jvm.Cond.code ({ cls := "LosersBooksModel", name := "read", desc := "(I)I" } : Jvm.MethodName) prog_14_method_88_code (8 : Nat) (Option.some Jvm.ClassFile.FieldType.int)) ∈ lw_all := lw_g (lw_at lw_m7 73 rfl) rfl
theorem q1633 : (Jvm.Cond.instanceMethod ({ cls := "LosersBooksModel", name := "game", desc := "(IIII)I" } : Jvm.MethodName)) ∈ lw_all := lw_g (lw_at lw_m7 75 rfl) rfl
theorem q1634 : (Jvm.Cond.selects "LosersBooksModel" ({ cls := "LosersBooksModel", name := "game", desc := "(IIII)I" } : Jvm.MethodName) ({ cls := "LosersBooksModel", name := "game", desc := "(IIII)I" } : Jvm.MethodName)) ∈ lw_all := lw_g (lw_at lw_m7 76 rfl) rfl
theorem q1635 : (Jvm.Cond.code ({ cls := "LosersBooksModel", name := "game", desc := "(IIII)I" } : Jvm.MethodName) prog_14_method_90_code (5 : Nat) (Option.some Jvm.ClassFile.FieldType.int)) ∈ lw_all := lw_g (lw_at lw_m7 77 rfl) rfl
theorem q1636 : (Jvm.Cond.methodLink "LosersBooksModel" (424 : Nat) ({ cls := "LosersBooksModel", name := "gameOf", desc := "(IIII)I" } : Jvm.MethodName)) ∈ lw_all := lw_g (lw_at lw_m7 78 rfl) rfl
theorem q1637 : (Jvm.Cond.privateMethod ({ cls := "LosersBooksModel", name := "gameOf", desc := "(IIII)I" } : Jvm.MethodName)) ∈ lw_tbl := lw_at lw_m7 79 rfl
theorem q1638 : (Jvm.Cond.instanceMethod ({ cls := "LosersBooksModel", name := "gameOf", desc := "(IIII)I" } : Jvm.MethodName)) ∈ lw_all := lw_g (lw_at lw_m7 80 rfl) rfl
theorem q1639 : (Jvm.Cond.code ({ cls := "LosersBooksModel", name := "gameOf", desc := "(IIII)I" } : Jvm.MethodName) prog_14_method_89_code (7 : Nat) (Option.some Jvm.ClassFile.FieldType.int)) ∈ lw_all := lw_g (lw_at lw_m7 81 rfl) rfl
theorem q1641 : (Jvm.Cond.instanceMethod ({ cls := "LosersBooksModel", name := "rests", desc := "(II)I" } : Jvm.MethodName)) ∈ lw_all := lw_g (lw_at lw_m7 83 rfl) rfl
theorem q1642 : (Jvm.Cond.selects "LosersBooksModel" ({ cls := "LosersBooksModel", name := "rests", desc := "(II)I" } : Jvm.MethodName) ({ cls := "LosersBooksModel", name := "rests", desc := "(II)I" } : Jvm.MethodName)) ∈ lw_all := lw_g (lw_at lw_m7 84 rfl) rfl
theorem q1643 : (Jvm.Cond.code ({ cls := "LosersBooksModel", name := "rests", desc := "(II)I" } : Jvm.MethodName) prog_14_method_91_code (6 : Nat) (Option.some Jvm.ClassFile.FieldType.int)) ∈ lw_all := lw_g (lw_at lw_m7 85 rfl) rfl
theorem q1645 : (Jvm.Cond.instanceMethod ({ cls := "LosersBooksModel", name := "odds", desc := "(III)I" } : Jvm.MethodName)) ∈ lw_all := lw_g (lw_at lw_m7 87 rfl) rfl
theorem q1646 : (Jvm.Cond.selects "LosersBooksModel" ({ cls := "LosersBooksModel", name := "odds", desc := "(III)I" } : Jvm.MethodName) ({ cls := "LosersBooksModel", name := "odds", desc := "(III)I" } : Jvm.MethodName)) ∈ lw_all := lw_g (lw_at lw_m7 88 rfl) rfl
theorem q1647 : (Jvm.Cond.code ({ cls := "LosersBooksModel", name := "odds", desc := "(III)I" } : Jvm.MethodName) prog_14_method_93_code (8 : Nat) (Option.some Jvm.ClassFile.FieldType.int)) ∈ lw_all := lw_g (lw_at lw_m7 89 rfl) rfl
theorem q1648 : (Jvm.Cond.constantLong "LosersBooksModel" (428 : Nat) (100 : Int64)) ∈ lw_all := lw_g (lw_at lw_m7 90 rfl) rfl
theorem q1649 : (Jvm.Cond.constantLong "LosersBooksModel" (430 : Nat) (1000000000 : Int64)) ∈ lw_all := lw_g (lw_at lw_m7 91 rfl) rfl
theorem q1650 : (Jvm.Cond.constant "LosersBooksModel" (432 : Nat) (1000000000 : Int32)) ∈ lw_all := lw_g (lw_at lw_m7 92 rfl) rfl
theorem q1651 : (Jvm.Cond.methodLink "LosersBooksModel" (433 : Nat) ({ cls := "LosersBooksModel", name := "lostBy", desc := "(IIII)I" } : Jvm.MethodName)) ∈ lw_all := lw_g (lw_at lw_m7 93 rfl) rfl
theorem q1652 : (Jvm.Cond.privateMethod ({ cls := "LosersBooksModel", name := "lostBy", desc := "(IIII)I" } : Jvm.MethodName)) ∈ lw_tbl := lw_at lw_m7 94 rfl
theorem q1653 : (Jvm.Cond.instanceMethod ({ cls := "LosersBooksModel", name := "lostBy", desc := "(IIII)I" } : Jvm.MethodName)) ∈ lw_all := lw_g (lw_at lw_m7 95 rfl) rfl
theorem q1654 : (Jvm.Cond.code ({ cls := "LosersBooksModel", name := "lostBy", desc := "(IIII)I" } : Jvm.MethodName) prog_14_method_92_code (5 : Nat) (Option.some Jvm.ClassFile.FieldType.int)) ∈ lw_all := lw_g (lw_at lw_m7 96 rfl) rfl
theorem q1656 : (Jvm.Cond.instanceMethod ({ cls := "LosersBooksModel", name := "shares", desc := "(II)I" } : Jvm.MethodName)) ∈ lw_all := lw_g (lw_at lw_m7 98 rfl) rfl
theorem q1657 : (Jvm.Cond.selects "LosersBooksModel" ({ cls := "LosersBooksModel", name := "shares", desc := "(II)I" } : Jvm.MethodName) ({ cls := "LosersBooksModel", name := "shares", desc := "(II)I" } : Jvm.MethodName)) ∈ lw_all := lw_g (lw_at lw_m7 99 rfl) rfl
theorem q1658 : (Jvm.Cond.code ({ cls := "LosersBooksModel", name := "shares", desc := "(II)I" } : Jvm.MethodName) prog_14_method_94_code (3 : Nat) (Option.some Jvm.ClassFile.FieldType.int)) ∈ lw_all := lw_g (lw_at lw_m7 100 rfl) rfl
theorem q1659 : (Jvm.Cond.constantLong "LosersBooksModel" (436 : Nat) (999 : Int64)) ∈ lw_all := lw_g (lw_at lw_m7 101 rfl) rfl
theorem q1661 : (Jvm.Cond.instanceMethod ({ cls := "LosersBooksModel", name := "all", desc := "(I)I" } : Jvm.MethodName)) ∈ lw_all := lw_g (lw_at lw_m7 103 rfl) rfl
theorem q1662 : (Jvm.Cond.selects "LosersBooksModel" ({ cls := "LosersBooksModel", name := "all", desc := "(I)I" } : Jvm.MethodName) ({ cls := "LosersBooksModel", name := "all", desc := "(I)I" } : Jvm.MethodName)) ∈ lw_all := lw_g (lw_at lw_m7 104 rfl) rfl
theorem q1663 : (Jvm.Cond.code ({ cls := "LosersBooksModel", name := "all", desc := "(I)I" } : Jvm.MethodName) prog_14_method_101_code (4 : Nat) (Option.some Jvm.ClassFile.FieldType.int)) ∈ lw_all := lw_g (lw_at lw_m7 105 rfl) rfl
theorem q1664 : (Jvm.Cond.methodLink "LosersBooksModel" (441 : Nat) ({ cls := "LosersBooksModel", name := "greatest", desc := "(I)I" } : Jvm.MethodName)) ∈ lw_all := lw_g (lw_at lw_m7 106 rfl) rfl
theorem q1665 : (Jvm.Cond.privateMethod ({ cls := "LosersBooksModel", name := "greatest", desc := "(I)I" } : Jvm.MethodName)) ∈ lw_tbl := lw_at lw_m7 107 rfl
theorem q1666 : (Jvm.Cond.instanceMethod ({ cls := "LosersBooksModel", name := "greatest", desc := "(I)I" } : Jvm.MethodName)) ∈ lw_all := lw_g (lw_at lw_m7 108 rfl) rfl
theorem q1667 : (Jvm.Cond.code ({ cls := "LosersBooksModel", name := "greatest", desc := "(I)I" } : Jvm.MethodName) prog_14_method_96_code (4 : Nat) (Option.some Jvm.ClassFile.FieldType.int)) ∈ lw_all := lw_g (lw_at lw_m7 109 rfl) rfl
theorem q1668 : (Jvm.Cond.methodLink "LosersBooksModel" (438 : Nat) ({ cls := "LosersBooksModel", name := "valueOf", desc := "(II)I" } : Jvm.MethodName)) ∈ lw_all := lw_g (lw_at lw_m7 110 rfl) rfl
theorem q1669 : (Jvm.Cond.privateMethod ({ cls := "LosersBooksModel", name := "valueOf", desc := "(II)I" } : Jvm.MethodName)) ∈ lw_tbl := lw_at lw_m7 111 rfl
theorem q1670 : (Jvm.Cond.instanceMethod ({ cls := "LosersBooksModel", name := "valueOf", desc := "(II)I" } : Jvm.MethodName)) ∈ lw_all := lw_g (lw_at lw_m7 112 rfl) rfl
theorem q1671 : (Jvm.Cond.code ({ cls := "LosersBooksModel", name := "valueOf", desc := "(II)I" } : Jvm.MethodName) prog_14_method_95_code (3 : Nat) (Option.some Jvm.ClassFile.FieldType.int)) ∈ lw_all := lw_g (lw_at lw_m7 113 rfl) rfl
theorem q1672 : (Jvm.Cond.methodLink "LosersBooksModel" (444 : Nat) ({ cls := "LosersBooksModel", name := "writers", desc := "(Z)I" } : Jvm.MethodName)) ∈ lw_all := lw_g (lw_at lw_m7 114 rfl) rfl
theorem q1673 : (Jvm.Cond.privateMethod ({ cls := "LosersBooksModel", name := "writers", desc := "(Z)I" } : Jvm.MethodName)) ∈ lw_tbl := lw_at lw_m7 115 rfl
theorem q1674 : (Jvm.Cond.instanceMethod ({ cls := "LosersBooksModel", name := "writers", desc := "(Z)I" } : Jvm.MethodName)) ∈ lw_all := lw_g (lw_at lw_m7 116 rfl) rfl
theorem q1675 : (Jvm.Cond.code ({ cls := "LosersBooksModel", name := "writers", desc := "(Z)I" } : Jvm.MethodName) prog_14_method_98_code (6 : Nat) (Option.some Jvm.ClassFile.FieldType.int)) ∈ lw_all := lw_g (lw_at lw_m7 117 rfl) rfl
theorem q1676 : (Jvm.Cond.methodLink "LosersBooksModel" (448 : Nat) ({ cls := "LosersBooksModel", name := "bloodiest", desc := "()I" } : Jvm.MethodName)) ∈ lw_all := lw_g (lw_at lw_m7 118 rfl) rfl
theorem q1677 : (Jvm.Cond.privateMethod ({ cls := "LosersBooksModel", name := "bloodiest", desc := "()I" } : Jvm.MethodName)) ∈ lw_tbl := lw_at lw_m7 119 rfl
theorem q1678 : (Jvm.Cond.instanceMethod ({ cls := "LosersBooksModel", name := "bloodiest", desc := "()I" } : Jvm.MethodName)) ∈ lw_all := lw_g (lw_at lw_m7 120 rfl) rfl
theorem q1679 : (Jvm.Cond.code ({ cls := "LosersBooksModel", name := "bloodiest", desc := "()I" } : Jvm.MethodName) prog_14_method_97_code (3 : Nat) (Option.some Jvm.ClassFile.FieldType.int)) ∈ lw_all := lw_g (lw_at lw_m7 121 rfl) rfl
theorem q1680 : (Jvm.Cond.methodLink "LosersBooksModel" (451 : Nat) ({ cls := "LosersBooksModel", name := "lies", desc := "()I" } : Jvm.MethodName)) ∈ lw_all := lw_g (lw_at lw_m7 122 rfl) rfl
theorem q1681 : (Jvm.Cond.privateMethod ({ cls := "LosersBooksModel", name := "lies", desc := "()I" } : Jvm.MethodName)) ∈ lw_tbl := lw_at lw_m7 123 rfl
theorem q1682 : (Jvm.Cond.instanceMethod ({ cls := "LosersBooksModel", name := "lies", desc := "()I" } : Jvm.MethodName)) ∈ lw_all := lw_g (lw_at lw_m7 124 rfl) rfl
theorem q1683 : (Jvm.Cond.code ({ cls := "LosersBooksModel", name := "lies", desc := "()I" } : Jvm.MethodName) prog_14_method_99_code (3 : Nat) (Option.some Jvm.ClassFile.FieldType.int)) ∈ lw_all := lw_g (lw_at lw_m7 125 rfl) rfl
theorem q1684 : (Jvm.Cond.methodLink "LosersBooksModel" (454 : Nat) ({ cls := "LosersBooksModel", name := "told0", desc := "(Z)I" } : Jvm.MethodName)) ∈ lw_all := lw_g (lw_at lw_m7 126 rfl) rfl
theorem q1685 : (Jvm.Cond.privateMethod ({ cls := "LosersBooksModel", name := "told0", desc := "(Z)I" } : Jvm.MethodName)) ∈ lw_tbl := lw_at lw_m7 127 rfl
theorem q1686 : (Jvm.Cond.instanceMethod ({ cls := "LosersBooksModel", name := "told0", desc := "(Z)I" } : Jvm.MethodName)) ∈ lw_all := lw_g (lw_at lw_m7 128 rfl) rfl
theorem q1687 : (Jvm.Cond.code ({ cls := "LosersBooksModel", name := "told0", desc := "(Z)I" } : Jvm.MethodName) prog_14_method_100_code (7 : Nat) (Option.some Jvm.ClassFile.FieldType.int)) ∈ lw_all := lw_g (lw_at lw_m7 129 rfl) rfl
theorem q1689 : (Jvm.Cond.instanceMethod ({ cls := "LosersBooksModel", name := "page", desc := "(II)I" } : Jvm.MethodName)) ∈ lw_all := lw_g (lw_at lw_m7 131 rfl) rfl
theorem q1690 : (Jvm.Cond.selects "LosersBooksModel" ({ cls := "LosersBooksModel", name := "page", desc := "(II)I" } : Jvm.MethodName) ({ cls := "LosersBooksModel", name := "page", desc := "(II)I" } : Jvm.MethodName)) ∈ lw_all := lw_g (lw_at lw_m7 132 rfl) rfl
theorem q1691 : (Jvm.Cond.code ({ cls := "LosersBooksModel", name := "page", desc := "(II)I" } : Jvm.MethodName) prog_14_method_102_code (3 : Nat) (Option.some Jvm.ClassFile.FieldType.int)) ∈ lw_all := lw_g (lw_at lw_m7 133 rfl) rfl
theorem q1693 : (Jvm.Cond.instanceMethod ({ cls := "LosersBooksModel", name := "wars", desc := "(II)I" } : Jvm.MethodName)) ∈ lw_all := lw_g (lw_at lw_m7 135 rfl) rfl
theorem q1694 : (Jvm.Cond.selects "LosersBooksModel" ({ cls := "LosersBooksModel", name := "wars", desc := "(II)I" } : Jvm.MethodName) ({ cls := "LosersBooksModel", name := "wars", desc := "(II)I" } : Jvm.MethodName)) ∈ lw_all := lw_g (lw_at lw_m7 136 rfl) rfl
theorem q1695 : (Jvm.Cond.code ({ cls := "LosersBooksModel", name := "wars", desc := "(II)I" } : Jvm.MethodName) prog_14_method_103_code (7 : Nat) (Option.some Jvm.ClassFile.FieldType.int)) ∈ lw_all := lw_g (lw_at lw_m7 137 rfl) rfl
theorem q1697 : (Jvm.Cond.instanceMethod ({ cls := "LosersBooksModel", name := "image", desc := "()I" } : Jvm.MethodName)) ∈ lw_all := lw_g (lw_at lw_m7 139 rfl) rfl
theorem q1698 : (Jvm.Cond.selects "LosersBooksModel" ({ cls := "LosersBooksModel", name := "image", desc := "()I" } : Jvm.MethodName) ({ cls := "LosersBooksModel", name := "image", desc := "()I" } : Jvm.MethodName)) ∈ lw_all := lw_g (lw_at lw_m7 140 rfl) rfl
theorem q1699 : (Jvm.Cond.code ({ cls := "LosersBooksModel", name := "image", desc := "()I" } : Jvm.MethodName) prog_14_method_104_code (2 : Nat) (Option.some Jvm.ClassFile.FieldType.int)) ∈ lw_all := lw_g (lw_at lw_m7 141 rfl) rfl
theorem q1701 : (Jvm.Cond.instanceMethod ({ cls := "LosersBooksModel", name := "back", desc := "()I" } : Jvm.MethodName)) ∈ lw_all := lw_g (lw_at lw_m7 143 rfl) rfl
theorem q1702 : (Jvm.Cond.selects "LosersBooksModel" ({ cls := "LosersBooksModel", name := "back", desc := "()I" } : Jvm.MethodName) ({ cls := "LosersBooksModel", name := "back", desc := "()I" } : Jvm.MethodName)) ∈ lw_all := lw_g (lw_at lw_m7 144 rfl) rfl
theorem q1703 : (Jvm.Cond.code ({ cls := "LosersBooksModel", name := "back", desc := "()I" } : Jvm.MethodName) prog_14_method_105_code (2 : Nat) (Option.some Jvm.ClassFile.FieldType.int)) ∈ lw_all := lw_g (lw_at lw_m7 145 rfl) rfl
theorem q1705 : (Jvm.Cond.instanceMethod ({ cls := "LosersBooksModel", name := "count", desc := "(I)I" } : Jvm.MethodName)) ∈ lw_all := lw_g (lw_at lw_m7 147 rfl) rfl
theorem q1706 : (Jvm.Cond.selects "LosersBooksModel" ({ cls := "LosersBooksModel", name := "count", desc := "(I)I" } : Jvm.MethodName) ({ cls := "LosersBooksModel", name := "count", desc := "(I)I" } : Jvm.MethodName)) ∈ lw_all := lw_g (lw_at lw_m7 148 rfl) rfl
theorem q1707 : (Jvm.Cond.code ({ cls := "LosersBooksModel", name := "count", desc := "(I)I" } : Jvm.MethodName) prog_14_method_106_code (2 : Nat) (Option.some Jvm.ClassFile.FieldType.int)) ∈ lw_all := lw_g (lw_at lw_m7 149 rfl) rfl
theorem q1712 : (Jvm.Cond.castable "LosersBooksModel" "java/lang/Object") ∈ lw_tbl := lw_at lw_m7 154 rfl
theorem in_X3 : ∀ w ∈ wsX30, w ∈ lw_all := lw_in wsX30 [1169, 1171, 1173, 1175, 1177, 1179, 1181, 1183, 1185, 1187, 1189, 1191, 1193, 1195, 1197, 1199, 1201, 1203, 1205, 1207, 1209, 1211, 1213, 1215, 1217, 1219, 1221, 1223, 1225, 1227, 1229, 1231, 1233, 1235, 1237, 1239, 1241, 1243, 1245, 1247, 1249, 1251, 1253, 1255, 1257, 1259, 1261, 1263] (by decide +kernel) (by decide +kernel)
