/-! ConkerYardModel -/
set_option maxRecDepth 100000
def RX4 : String := "ConkerYardModel"
def TX4 : u_T := fun k => match k with
  | 0 => ("ConkerYardModel", "tape", "[B", true)
  | 1 => ("ConkerYardModel", "taped", "I", false)
  | 2 => ("ConkerYardModel", "rules", "I", false)
  | 3 => ("ConkerYardModel", "sign", "[I", true)
  | 4 => ("ConkerYardModel", "length", "[I", true)
  | 5 => ("ConkerYardModel", "clause", "[I", true)
  | 6 => ("ConkerYardModel", "clauses", "[I", true)
  | 7 => ("ConkerYardModel", "read", "[I", true)
  | 8 => ("ConkerYardModel", "next", "I", false)
  | 9 => ("ConkerYardModel", "wrong", "I", false)
  | 10 => ("ConkerYardModel", "number", "I", false)
  | 11 => ("ConkerYardModel", "text", "I", false)
  | 12 => ("ConkerYardModel", "made", "I", false)
  | 13 => ("ConkerYardModel", "deep", "I", false)
  | 14 => ("ConkerYardModel", "lines", "I", false)
  | 15 => ("ConkerYardModel", "open", "[I", true)
  | 16 => ("ConkerYardModel", "opened", "I", false)
  | 17 => ("ConkerYardModel", "stack", "[J", true)
  | 18 => ("ConkerYardModel", "top", "I", false)
  | 19 => ("ConkerYardModel", "word", "[J", true)
  | 20 => ("ConkerYardModel", "said", "[I", true)
  | 21 => ("ConkerYardModel", "force", "I", false)
  | 22 => ("ConkerYardModel", "x", "I", false)
  | 23 => ("ConkerYardModel", "struckMany", "I", false)
  | 24 => ("ConkerYardModel", "cracksOne", "I", false)
  | 25 => ("ConkerYardModel", "cracksOther", "I", false)
  | 26 => ("ConkerYardModel", "first", "I", false)
  | 27 => ("ConkerYardModel", "second", "I", false)
  | 28 => ("ConkerYardModel", "wasSaid", "[I", true)
  | 29 => ("ConkerYardModel", "undone", "I", false)
  | 30 => ("ConkerYardModel", "victims", "[I", true)
  | 31 => ("ConkerYardModel", "field", "[I", true)
  | 32 => ("ConkerYardModel", "rung", "[I", true)
  | 33 => ("ConkerYardModel", "rungBest", "[I", true)
  | 34 => ("ConkerYardModel", "kept", "[I", true)
  | 35 => ("ConkerYardModel", "hasBy", "[I", true)
  | 36 => ("ConkerYardModel", "isFit", "[Z", true)
  | 37 => ("ConkerYardModel", "wholeThen", "[I", true)
  | 38 => ("ConkerYardModel", "drawX", "J", false)
  | 39 => ("ConkerYardModel", "images", "[I", true)
  | 40 => ("ConkerYardModel", "imageForce", "[I", true)
  | 41 => ("ConkerYardModel", "imageX", "[I", true)
  | _ => ("ConkerYardModel", "isMade", "[Z", true)
def tyX4 : Nat → FieldType := fun k => match k with
  | 0 => .array .byte
  | 1 => .int
  | 2 => .int
  | 3 => .array .int
  | 4 => .array .int
  | 5 => .array .int
  | 6 => .array .int
  | 7 => .array .int
  | 8 => .int
  | 9 => .int
  | 10 => .int
  | 11 => .int
  | 12 => .int
  | 13 => .int
  | 14 => .int
  | 15 => .array .int
  | 16 => .int
  | 17 => .array .long
  | 18 => .int
  | 19 => .array .long
  | 20 => .array .int
  | 21 => .int
  | 22 => .int
  | 23 => .int
  | 24 => .int
  | 25 => .int
  | 26 => .int
  | 27 => .int
  | 28 => .array .int
  | 29 => .int
  | 30 => .array .int
  | 31 => .array .int
  | 32 => .array .int
  | 33 => .array .int
  | 34 => .array .int
  | 35 => .array .int
  | 36 => .array .boolean
  | 37 => .array .int
  | 38 => .long
  | 39 => .array .int
  | 40 => .array .int
  | 41 => .array .int
  | _ => .array .boolean
abbrev wsX40 : List Cond := u_ws RX4 TX4 43
set_option maxRecDepth 100000 in
theorem nmX4 : ∀ a, a < 43 → ∀ b, b < 43 → a ≠ b → (TX4 a).2.1 ≠ (TX4 b).2.1 := by decide +kernel
set_option maxRecDepth 100000 in
theorem tyX4_ok : ∀ k, k < 43 → parseFieldDescriptor (TX4 k).2.2.1 = some (tyX4 k) := by decide +kernel
abbrev cX4_init : ByteArray := prog_19_method_1_code
def yX4_init : MethodName := ⟨RX4, "<init>", "()V"⟩
def dkwX4_init_8 : List UInt8 := [181, 0, 80, 42, 7, 188, 4, 181, 0, 83, 177]
abbrev dktX4_init_8 : List UInt8 := dkwX4_init_8 ++ []
def dkwX4_init_7 : List UInt8 := [181, 0, 71, 42, 17, 1, 200, 188, 10, 181, 0, 74, 42, 7, 188, 10, 181, 0, 77, 42, 7, 188, 10]
abbrev dktX4_init_7 : List UInt8 := dkwX4_init_7 ++ dktX4_init_8
def dkwX4_init_6 : List UInt8 := [181, 0, 61, 42, 16, 32, 188, 10, 181, 0, 64, 42, 16, 7, 188, 4, 181, 0, 67, 42, 16, 7, 188, 10]
abbrev dktX4_init_6 : List UInt8 := dkwX4_init_6 ++ dktX4_init_7
def dkwX4_init_5 : List UInt8 := [181, 0, 52, 42, 16, 9, 188, 10, 181, 0, 55, 42, 16, 8, 188, 10, 181, 0, 58, 42, 16, 41, 188, 10]
abbrev dktX4_init_5 : List UInt8 := dkwX4_init_5 ++ dktX4_init_6
def dkwX4_init_4 : List UInt8 := [42, 17, 3, 52, 188, 10, 181, 0, 46, 42, 16, 8, 188, 10, 181, 0, 49, 42, 16, 8, 188, 10]
abbrev dktX4_init_4 : List UInt8 := dkwX4_init_4 ++ dktX4_init_5
def dkwX4_init_3 : List UInt8 := [181, 0, 32, 42, 16, 13, 188, 11, 181, 0, 36, 42, 16, 114, 188, 10, 181, 0, 39, 42, 2, 181, 0, 42]
abbrev dktX4_init_3 : List UInt8 := dkwX4_init_3 ++ dktX4_init_4
def dkwX4_init_2 : List UInt8 := [42, 16, 83, 188, 10, 181, 0, 26, 42, 17, 1, 144, 188, 10, 181, 0, 29, 42, 16, 64, 188, 11]
abbrev dktX4_init_2 : List UInt8 := dkwX4_init_2 ++ dktX4_init_3
def dkwX4_init_1 : List UInt8 := [16, 7, 188, 10, 181, 0, 17, 42, 17, 1, 32, 188, 10, 181, 0, 20, 42, 16, 6, 188, 10, 181, 0, 23]
abbrev dktX4_init_1 : List UInt8 := dkwX4_init_1 ++ dktX4_init_2
def dkwX4_init_0 : List UInt8 := [42, 183, 0, 1, 42, 17, 1, 144, 188, 8, 181, 0, 7, 42, 17, 9, 96, 188, 10, 181, 0, 13, 42]
abbrev dktX4_init_0 : List UInt8 := dkwX4_init_0 ++ dktX4_init_1
theorem dksX4_init_0 : cX4_init.data.toList.drop 0 = dktX4_init_0 := by decide +kernel
theorem dksX4_init_1 : cX4_init.data.toList.drop 23 = dktX4_init_1 := dk_seg dksX4_init_0 23 rfl rfl
theorem dksX4_init_2 : cX4_init.data.toList.drop 47 = dktX4_init_2 := dk_seg dksX4_init_1 24 rfl rfl
theorem dksX4_init_3 : cX4_init.data.toList.drop 69 = dktX4_init_3 := dk_seg dksX4_init_2 22 rfl rfl
theorem dksX4_init_4 : cX4_init.data.toList.drop 93 = dktX4_init_4 := dk_seg dksX4_init_3 24 rfl rfl
theorem dksX4_init_5 : cX4_init.data.toList.drop 115 = dktX4_init_5 := dk_seg dksX4_init_4 22 rfl rfl
theorem dksX4_init_6 : cX4_init.data.toList.drop 139 = dktX4_init_6 := dk_seg dksX4_init_5 24 rfl rfl
theorem dksX4_init_7 : cX4_init.data.toList.drop 163 = dktX4_init_7 := dk_seg dksX4_init_6 24 rfl rfl
theorem dksX4_init_8 : cX4_init.data.toList.drop 186 = dktX4_init_8 := dk_seg dksX4_init_7 23 rfl rfl
theorem dX4_init_0 : decode cX4_init 0 = .ok (.aload_n 0, 1) := dk_42 (dk_at dksX4_init_0 0 rfl rfl)
theorem dX4_init_1 : decode cX4_init 1 = .ok (.invokespecial 1, 3) := dk_183 0 1 (dk_at dksX4_init_0 1 rfl rfl)
theorem dX4_init_4 : decode cX4_init 4 = .ok (.aload_n 0, 1) := dk_42 (dk_at dksX4_init_0 4 rfl rfl)
theorem dX4_init_5 : decode cX4_init 5 = .ok (.sipush 400, 3) := dk_17 1 144 (dk_at dksX4_init_0 5 rfl rfl)
theorem dX4_init_8 : decode cX4_init 8 = .ok (.newarray .byte, 2) := dk_188_8 (dk_at dksX4_init_0 8 rfl rfl)
theorem dX4_init_10 : decode cX4_init 10 = .ok (.putfield 7, 3) := dk_181 0 7 (dk_at dksX4_init_0 10 rfl rfl)
theorem dX4_init_13 : decode cX4_init 13 = .ok (.aload_n 0, 1) := dk_42 (dk_at dksX4_init_0 13 rfl rfl)
theorem dX4_init_14 : decode cX4_init 14 = .ok (.sipush 2400, 3) := dk_17 9 96 (dk_at dksX4_init_0 14 rfl rfl)
theorem dX4_init_17 : decode cX4_init 17 = .ok (.newarray .int, 2) := dk_188_10 (dk_at dksX4_init_0 17 rfl rfl)
theorem dX4_init_19 : decode cX4_init 19 = .ok (.putfield 13, 3) := dk_181 0 13 (dk_at dksX4_init_0 19 rfl rfl)
theorem dX4_init_22 : decode cX4_init 22 = .ok (.aload_n 0, 1) := dk_42 (dk_at dksX4_init_0 22 rfl rfl)
theorem dX4_init_23 : decode cX4_init 23 = .ok (.bipush 7, 2) := dk_16 7 (dk_at dksX4_init_1 0 rfl rfl)
theorem dX4_init_25 : decode cX4_init 25 = .ok (.newarray .int, 2) := dk_188_10 (dk_at dksX4_init_1 2 rfl rfl)
theorem dX4_init_27 : decode cX4_init 27 = .ok (.putfield 17, 3) := dk_181 0 17 (dk_at dksX4_init_1 4 rfl rfl)
theorem dX4_init_30 : decode cX4_init 30 = .ok (.aload_n 0, 1) := dk_42 (dk_at dksX4_init_1 7 rfl rfl)
theorem dX4_init_31 : decode cX4_init 31 = .ok (.sipush 288, 3) := dk_17 1 32 (dk_at dksX4_init_1 8 rfl rfl)
theorem dX4_init_34 : decode cX4_init 34 = .ok (.newarray .int, 2) := dk_188_10 (dk_at dksX4_init_1 11 rfl rfl)
theorem dX4_init_36 : decode cX4_init 36 = .ok (.putfield 20, 3) := dk_181 0 20 (dk_at dksX4_init_1 13 rfl rfl)
theorem dX4_init_39 : decode cX4_init 39 = .ok (.aload_n 0, 1) := dk_42 (dk_at dksX4_init_1 16 rfl rfl)
theorem dX4_init_40 : decode cX4_init 40 = .ok (.bipush 6, 2) := dk_16 6 (dk_at dksX4_init_1 17 rfl rfl)
theorem dX4_init_42 : decode cX4_init 42 = .ok (.newarray .int, 2) := dk_188_10 (dk_at dksX4_init_1 19 rfl rfl)
theorem dX4_init_44 : decode cX4_init 44 = .ok (.putfield 23, 3) := dk_181 0 23 (dk_at dksX4_init_1 21 rfl rfl)
theorem dX4_init_47 : decode cX4_init 47 = .ok (.aload_n 0, 1) := dk_42 (dk_at dksX4_init_2 0 rfl rfl)
theorem dX4_init_48 : decode cX4_init 48 = .ok (.bipush 83, 2) := dk_16 83 (dk_at dksX4_init_2 1 rfl rfl)
theorem dX4_init_50 : decode cX4_init 50 = .ok (.newarray .int, 2) := dk_188_10 (dk_at dksX4_init_2 3 rfl rfl)
theorem dX4_init_52 : decode cX4_init 52 = .ok (.putfield 26, 3) := dk_181 0 26 (dk_at dksX4_init_2 5 rfl rfl)
theorem dX4_init_55 : decode cX4_init 55 = .ok (.aload_n 0, 1) := dk_42 (dk_at dksX4_init_2 8 rfl rfl)
theorem dX4_init_56 : decode cX4_init 56 = .ok (.sipush 400, 3) := dk_17 1 144 (dk_at dksX4_init_2 9 rfl rfl)
theorem dX4_init_59 : decode cX4_init 59 = .ok (.newarray .int, 2) := dk_188_10 (dk_at dksX4_init_2 12 rfl rfl)
theorem dX4_init_61 : decode cX4_init 61 = .ok (.putfield 29, 3) := dk_181 0 29 (dk_at dksX4_init_2 14 rfl rfl)
theorem dX4_init_64 : decode cX4_init 64 = .ok (.aload_n 0, 1) := dk_42 (dk_at dksX4_init_2 17 rfl rfl)
theorem dX4_init_65 : decode cX4_init 65 = .ok (.bipush 64, 2) := dk_16 64 (dk_at dksX4_init_2 18 rfl rfl)
theorem dX4_init_67 : decode cX4_init 67 = .ok (.newarray .long, 2) := dk_188_11 (dk_at dksX4_init_2 20 rfl rfl)
theorem dX4_init_69 : decode cX4_init 69 = .ok (.putfield 32, 3) := dk_181 0 32 (dk_at dksX4_init_3 0 rfl rfl)
theorem dX4_init_72 : decode cX4_init 72 = .ok (.aload_n 0, 1) := dk_42 (dk_at dksX4_init_3 3 rfl rfl)
theorem dX4_init_73 : decode cX4_init 73 = .ok (.bipush 13, 2) := dk_16 13 (dk_at dksX4_init_3 4 rfl rfl)
theorem dX4_init_75 : decode cX4_init 75 = .ok (.newarray .long, 2) := dk_188_11 (dk_at dksX4_init_3 6 rfl rfl)
theorem dX4_init_77 : decode cX4_init 77 = .ok (.putfield 36, 3) := dk_181 0 36 (dk_at dksX4_init_3 8 rfl rfl)
theorem dX4_init_80 : decode cX4_init 80 = .ok (.aload_n 0, 1) := dk_42 (dk_at dksX4_init_3 11 rfl rfl)
theorem dX4_init_81 : decode cX4_init 81 = .ok (.bipush 114, 2) := dk_16 114 (dk_at dksX4_init_3 12 rfl rfl)
theorem dX4_init_83 : decode cX4_init 83 = .ok (.newarray .int, 2) := dk_188_10 (dk_at dksX4_init_3 14 rfl rfl)
theorem dX4_init_85 : decode cX4_init 85 = .ok (.putfield 39, 3) := dk_181 0 39 (dk_at dksX4_init_3 16 rfl rfl)
theorem dX4_init_88 : decode cX4_init 88 = .ok (.aload_n 0, 1) := dk_42 (dk_at dksX4_init_3 19 rfl rfl)
theorem dX4_init_89 : decode cX4_init 89 = .ok (.iconst (-1), 1) := dk_2 (dk_at dksX4_init_3 20 rfl rfl)
theorem dX4_init_90 : decode cX4_init 90 = .ok (.putfield 42, 3) := dk_181 0 42 (dk_at dksX4_init_3 21 rfl rfl)
theorem dX4_init_93 : decode cX4_init 93 = .ok (.aload_n 0, 1) := dk_42 (dk_at dksX4_init_4 0 rfl rfl)
theorem dX4_init_94 : decode cX4_init 94 = .ok (.sipush 820, 3) := dk_17 3 52 (dk_at dksX4_init_4 1 rfl rfl)
theorem dX4_init_97 : decode cX4_init 97 = .ok (.newarray .int, 2) := dk_188_10 (dk_at dksX4_init_4 4 rfl rfl)
theorem dX4_init_99 : decode cX4_init 99 = .ok (.putfield 46, 3) := dk_181 0 46 (dk_at dksX4_init_4 6 rfl rfl)
theorem dX4_init_102 : decode cX4_init 102 = .ok (.aload_n 0, 1) := dk_42 (dk_at dksX4_init_4 9 rfl rfl)
theorem dX4_init_103 : decode cX4_init 103 = .ok (.bipush 8, 2) := dk_16 8 (dk_at dksX4_init_4 10 rfl rfl)
theorem dX4_init_105 : decode cX4_init 105 = .ok (.newarray .int, 2) := dk_188_10 (dk_at dksX4_init_4 12 rfl rfl)
theorem dX4_init_107 : decode cX4_init 107 = .ok (.putfield 49, 3) := dk_181 0 49 (dk_at dksX4_init_4 14 rfl rfl)
theorem dX4_init_110 : decode cX4_init 110 = .ok (.aload_n 0, 1) := dk_42 (dk_at dksX4_init_4 17 rfl rfl)
theorem dX4_init_111 : decode cX4_init 111 = .ok (.bipush 8, 2) := dk_16 8 (dk_at dksX4_init_4 18 rfl rfl)
theorem dX4_init_113 : decode cX4_init 113 = .ok (.newarray .int, 2) := dk_188_10 (dk_at dksX4_init_4 20 rfl rfl)
theorem dX4_init_115 : decode cX4_init 115 = .ok (.putfield 52, 3) := dk_181 0 52 (dk_at dksX4_init_5 0 rfl rfl)
theorem dX4_init_118 : decode cX4_init 118 = .ok (.aload_n 0, 1) := dk_42 (dk_at dksX4_init_5 3 rfl rfl)
theorem dX4_init_119 : decode cX4_init 119 = .ok (.bipush 9, 2) := dk_16 9 (dk_at dksX4_init_5 4 rfl rfl)
theorem dX4_init_121 : decode cX4_init 121 = .ok (.newarray .int, 2) := dk_188_10 (dk_at dksX4_init_5 6 rfl rfl)
theorem dX4_init_123 : decode cX4_init 123 = .ok (.putfield 55, 3) := dk_181 0 55 (dk_at dksX4_init_5 8 rfl rfl)
theorem dX4_init_126 : decode cX4_init 126 = .ok (.aload_n 0, 1) := dk_42 (dk_at dksX4_init_5 11 rfl rfl)
theorem dX4_init_127 : decode cX4_init 127 = .ok (.bipush 8, 2) := dk_16 8 (dk_at dksX4_init_5 12 rfl rfl)
theorem dX4_init_129 : decode cX4_init 129 = .ok (.newarray .int, 2) := dk_188_10 (dk_at dksX4_init_5 14 rfl rfl)
theorem dX4_init_131 : decode cX4_init 131 = .ok (.putfield 58, 3) := dk_181 0 58 (dk_at dksX4_init_5 16 rfl rfl)
theorem dX4_init_134 : decode cX4_init 134 = .ok (.aload_n 0, 1) := dk_42 (dk_at dksX4_init_5 19 rfl rfl)
theorem dX4_init_135 : decode cX4_init 135 = .ok (.bipush 41, 2) := dk_16 41 (dk_at dksX4_init_5 20 rfl rfl)
theorem dX4_init_137 : decode cX4_init 137 = .ok (.newarray .int, 2) := dk_188_10 (dk_at dksX4_init_5 22 rfl rfl)
theorem dX4_init_139 : decode cX4_init 139 = .ok (.putfield 61, 3) := dk_181 0 61 (dk_at dksX4_init_6 0 rfl rfl)
theorem dX4_init_142 : decode cX4_init 142 = .ok (.aload_n 0, 1) := dk_42 (dk_at dksX4_init_6 3 rfl rfl)
theorem dX4_init_143 : decode cX4_init 143 = .ok (.bipush 32, 2) := dk_16 32 (dk_at dksX4_init_6 4 rfl rfl)
theorem dX4_init_145 : decode cX4_init 145 = .ok (.newarray .int, 2) := dk_188_10 (dk_at dksX4_init_6 6 rfl rfl)
theorem dX4_init_147 : decode cX4_init 147 = .ok (.putfield 64, 3) := dk_181 0 64 (dk_at dksX4_init_6 8 rfl rfl)
theorem dX4_init_150 : decode cX4_init 150 = .ok (.aload_n 0, 1) := dk_42 (dk_at dksX4_init_6 11 rfl rfl)
theorem dX4_init_151 : decode cX4_init 151 = .ok (.bipush 7, 2) := dk_16 7 (dk_at dksX4_init_6 12 rfl rfl)
theorem dX4_init_153 : decode cX4_init 153 = .ok (.newarray .boolean, 2) := dk_188_4 (dk_at dksX4_init_6 14 rfl rfl)
theorem dX4_init_155 : decode cX4_init 155 = .ok (.putfield 67, 3) := dk_181 0 67 (dk_at dksX4_init_6 16 rfl rfl)
theorem dX4_init_158 : decode cX4_init 158 = .ok (.aload_n 0, 1) := dk_42 (dk_at dksX4_init_6 19 rfl rfl)
theorem dX4_init_159 : decode cX4_init 159 = .ok (.bipush 7, 2) := dk_16 7 (dk_at dksX4_init_6 20 rfl rfl)
theorem dX4_init_161 : decode cX4_init 161 = .ok (.newarray .int, 2) := dk_188_10 (dk_at dksX4_init_6 22 rfl rfl)
theorem dX4_init_163 : decode cX4_init 163 = .ok (.putfield 71, 3) := dk_181 0 71 (dk_at dksX4_init_7 0 rfl rfl)
theorem dX4_init_166 : decode cX4_init 166 = .ok (.aload_n 0, 1) := dk_42 (dk_at dksX4_init_7 3 rfl rfl)
theorem dX4_init_167 : decode cX4_init 167 = .ok (.sipush 456, 3) := dk_17 1 200 (dk_at dksX4_init_7 4 rfl rfl)
theorem dX4_init_170 : decode cX4_init 170 = .ok (.newarray .int, 2) := dk_188_10 (dk_at dksX4_init_7 7 rfl rfl)
theorem dX4_init_172 : decode cX4_init 172 = .ok (.putfield 74, 3) := dk_181 0 74 (dk_at dksX4_init_7 9 rfl rfl)
theorem dX4_init_175 : decode cX4_init 175 = .ok (.aload_n 0, 1) := dk_42 (dk_at dksX4_init_7 12 rfl rfl)
theorem dX4_init_176 : decode cX4_init 176 = .ok (.iconst 4, 1) := dk_7 (dk_at dksX4_init_7 13 rfl rfl)
theorem dX4_init_177 : decode cX4_init 177 = .ok (.newarray .int, 2) := dk_188_10 (dk_at dksX4_init_7 14 rfl rfl)
theorem dX4_init_179 : decode cX4_init 179 = .ok (.putfield 77, 3) := dk_181 0 77 (dk_at dksX4_init_7 16 rfl rfl)
theorem dX4_init_182 : decode cX4_init 182 = .ok (.aload_n 0, 1) := dk_42 (dk_at dksX4_init_7 19 rfl rfl)
theorem dX4_init_183 : decode cX4_init 183 = .ok (.iconst 4, 1) := dk_7 (dk_at dksX4_init_7 20 rfl rfl)
theorem dX4_init_184 : decode cX4_init 184 = .ok (.newarray .int, 2) := dk_188_10 (dk_at dksX4_init_7 21 rfl rfl)
theorem dX4_init_186 : decode cX4_init 186 = .ok (.putfield 80, 3) := dk_181 0 80 (dk_at dksX4_init_8 0 rfl rfl)
theorem dX4_init_189 : decode cX4_init 189 = .ok (.aload_n 0, 1) := dk_42 (dk_at dksX4_init_8 3 rfl rfl)
theorem dX4_init_190 : decode cX4_init 190 = .ok (.iconst 4, 1) := dk_7 (dk_at dksX4_init_8 4 rfl rfl)
theorem dX4_init_191 : decode cX4_init 191 = .ok (.newarray .boolean, 2) := dk_188_4 (dk_at dksX4_init_8 5 rfl rfl)
theorem dX4_init_193 : decode cX4_init 193 = .ok (.putfield 83, 3) := dk_181 0 83 (dk_at dksX4_init_8 7 rfl rfl)
theorem dX4_init_196 : decode cX4_init 196 = .ok (.return_, 1) := dk_177 (dk_at dksX4_init_8 10 rfl rfl)
abbrev cX4_feed : ByteArray := prog_19_method_6_code
def yX4_feed : MethodName := ⟨RX4, "feed", "(IIIII)I"⟩
def dkwX4_feed_2 : List UInt8 := [172]
abbrev dktX4_feed_2 : List UInt8 := dkwX4_feed_2 ++ []
def dkwX4_feed_1 : List UInt8 := [182, 0, 89, 42, 29, 182, 0, 89, 42, 21, 4, 182, 0, 89, 42, 21, 5, 182, 0, 89, 42, 180, 0, 86]
abbrev dktX4_feed_1 : List UInt8 := dkwX4_feed_1 ++ dktX4_feed_2
def dkwX4_feed_0 : List UInt8 := [42, 180, 0, 86, 16, 20, 96, 17, 1, 144, 164, 0, 5, 2, 172, 42, 27, 182, 0, 89, 42, 28]
abbrev dktX4_feed_0 : List UInt8 := dkwX4_feed_0 ++ dktX4_feed_1
theorem dksX4_feed_0 : cX4_feed.data.toList.drop 0 = dktX4_feed_0 := by decide +kernel
theorem dksX4_feed_1 : cX4_feed.data.toList.drop 22 = dktX4_feed_1 := dk_seg dksX4_feed_0 22 rfl rfl
theorem dksX4_feed_2 : cX4_feed.data.toList.drop 46 = dktX4_feed_2 := dk_seg dksX4_feed_1 24 rfl rfl
theorem dX4_feed_0 : decode cX4_feed 0 = .ok (.aload_n 0, 1) := dk_42 (dk_at dksX4_feed_0 0 rfl rfl)
theorem dX4_feed_1 : decode cX4_feed 1 = .ok (.getfield 86, 3) := dk_180 0 86 (dk_at dksX4_feed_0 1 rfl rfl)
theorem dX4_feed_4 : decode cX4_feed 4 = .ok (.bipush 20, 2) := dk_16 20 (dk_at dksX4_feed_0 4 rfl rfl)
theorem dX4_feed_6 : decode cX4_feed 6 = .ok (.iadd, 1) := dk_96 (dk_at dksX4_feed_0 6 rfl rfl)
theorem dX4_feed_7 : decode cX4_feed 7 = .ok (.sipush 400, 3) := dk_17 1 144 (dk_at dksX4_feed_0 7 rfl rfl)
theorem dX4_feed_10 : decode cX4_feed 10 = .ok (.if_icmp .le 5, 3) := dk_164 0 5 (dk_at dksX4_feed_0 10 rfl rfl)
theorem dX4_feed_13 : decode cX4_feed 13 = .ok (.iconst (-1), 1) := dk_2 (dk_at dksX4_feed_0 13 rfl rfl)
theorem dX4_feed_14 : decode cX4_feed 14 = .ok (.ireturn, 1) := dk_172 (dk_at dksX4_feed_0 14 rfl rfl)
theorem dX4_feed_15 : decode cX4_feed 15 = .ok (.aload_n 0, 1) := dk_42 (dk_at dksX4_feed_0 15 rfl rfl)
theorem dX4_feed_16 : decode cX4_feed 16 = .ok (.iload_n 1, 1) := dk_27 (dk_at dksX4_feed_0 16 rfl rfl)
theorem dX4_feed_17 : decode cX4_feed 17 = .ok (.invokevirtual 89, 3) := dk_182 0 89 (dk_at dksX4_feed_0 17 rfl rfl)
theorem dX4_feed_20 : decode cX4_feed 20 = .ok (.aload_n 0, 1) := dk_42 (dk_at dksX4_feed_0 20 rfl rfl)
theorem dX4_feed_21 : decode cX4_feed 21 = .ok (.iload_n 2, 1) := dk_28 (dk_at dksX4_feed_0 21 rfl rfl)
theorem dX4_feed_22 : decode cX4_feed 22 = .ok (.invokevirtual 89, 3) := dk_182 0 89 (dk_at dksX4_feed_1 0 rfl rfl)
theorem dX4_feed_25 : decode cX4_feed 25 = .ok (.aload_n 0, 1) := dk_42 (dk_at dksX4_feed_1 3 rfl rfl)
theorem dX4_feed_26 : decode cX4_feed 26 = .ok (.iload_n 3, 1) := dk_29 (dk_at dksX4_feed_1 4 rfl rfl)
theorem dX4_feed_27 : decode cX4_feed 27 = .ok (.invokevirtual 89, 3) := dk_182 0 89 (dk_at dksX4_feed_1 5 rfl rfl)
theorem dX4_feed_30 : decode cX4_feed 30 = .ok (.aload_n 0, 1) := dk_42 (dk_at dksX4_feed_1 8 rfl rfl)
theorem dX4_feed_31 : decode cX4_feed 31 = .ok (.iload 4, 2) := dk_21 4 (dk_at dksX4_feed_1 9 rfl rfl)
theorem dX4_feed_33 : decode cX4_feed 33 = .ok (.invokevirtual 89, 3) := dk_182 0 89 (dk_at dksX4_feed_1 11 rfl rfl)
theorem dX4_feed_36 : decode cX4_feed 36 = .ok (.aload_n 0, 1) := dk_42 (dk_at dksX4_feed_1 14 rfl rfl)
theorem dX4_feed_37 : decode cX4_feed 37 = .ok (.iload 5, 2) := dk_21 5 (dk_at dksX4_feed_1 15 rfl rfl)
theorem dX4_feed_39 : decode cX4_feed 39 = .ok (.invokevirtual 89, 3) := dk_182 0 89 (dk_at dksX4_feed_1 17 rfl rfl)
theorem dX4_feed_42 : decode cX4_feed 42 = .ok (.aload_n 0, 1) := dk_42 (dk_at dksX4_feed_1 20 rfl rfl)
theorem dX4_feed_43 : decode cX4_feed 43 = .ok (.getfield 86, 3) := dk_180 0 86 (dk_at dksX4_feed_1 21 rfl rfl)
theorem dX4_feed_46 : decode cX4_feed 46 = .ok (.ireturn, 1) := dk_172 (dk_at dksX4_feed_2 0 rfl rfl)
abbrev cX4_four : ByteArray := prog_19_method_5_code
def yX4_four : MethodName := ⟨RX4, "four", "(I)V"⟩
def dkwX4_four_1 : List UInt8 := [180, 0, 86, 4, 96, 181, 0, 86, 132, 2, 248, 167, 255, 226, 177]
abbrev dktX4_four_1 : List UInt8 := dkwX4_four_1 ++ []
def dkwX4_four_0 : List UInt8 := [16, 24, 61, 28, 155, 0, 32, 42, 180, 0, 7, 42, 180, 0, 86, 27, 28, 122, 145, 84, 42, 89]
abbrev dktX4_four_0 : List UInt8 := dkwX4_four_0 ++ dktX4_four_1
theorem dksX4_four_0 : cX4_four.data.toList.drop 0 = dktX4_four_0 := by decide +kernel
theorem dksX4_four_1 : cX4_four.data.toList.drop 22 = dktX4_four_1 := dk_seg dksX4_four_0 22 rfl rfl
theorem dX4_four_0 : decode cX4_four 0 = .ok (.bipush 24, 2) := dk_16 24 (dk_at dksX4_four_0 0 rfl rfl)
theorem dX4_four_2 : decode cX4_four 2 = .ok (.istore_n 2, 1) := dk_61 (dk_at dksX4_four_0 2 rfl rfl)
theorem dX4_four_3 : decode cX4_four 3 = .ok (.iload_n 2, 1) := dk_28 (dk_at dksX4_four_0 3 rfl rfl)
theorem dX4_four_4 : decode cX4_four 4 = .ok (.ifCond .lt 32, 3) := dk_155 0 32 (dk_at dksX4_four_0 4 rfl rfl)
theorem dX4_four_7 : decode cX4_four 7 = .ok (.aload_n 0, 1) := dk_42 (dk_at dksX4_four_0 7 rfl rfl)
theorem dX4_four_8 : decode cX4_four 8 = .ok (.getfield 7, 3) := dk_180 0 7 (dk_at dksX4_four_0 8 rfl rfl)
theorem dX4_four_11 : decode cX4_four 11 = .ok (.aload_n 0, 1) := dk_42 (dk_at dksX4_four_0 11 rfl rfl)
theorem dX4_four_12 : decode cX4_four 12 = .ok (.getfield 86, 3) := dk_180 0 86 (dk_at dksX4_four_0 12 rfl rfl)
theorem dX4_four_15 : decode cX4_four 15 = .ok (.iload_n 1, 1) := dk_27 (dk_at dksX4_four_0 15 rfl rfl)
theorem dX4_four_16 : decode cX4_four 16 = .ok (.iload_n 2, 1) := dk_28 (dk_at dksX4_four_0 16 rfl rfl)
theorem dX4_four_17 : decode cX4_four 17 = .ok (.ishr, 1) := dk_122 (dk_at dksX4_four_0 17 rfl rfl)
theorem dX4_four_18 : decode cX4_four 18 = .ok (.i2b, 1) := dk_145 (dk_at dksX4_four_0 18 rfl rfl)
theorem dX4_four_19 : decode cX4_four 19 = .ok (.bastore, 1) := dk_84 (dk_at dksX4_four_0 19 rfl rfl)
theorem dX4_four_20 : decode cX4_four 20 = .ok (.aload_n 0, 1) := dk_42 (dk_at dksX4_four_0 20 rfl rfl)
theorem dX4_four_21 : decode cX4_four 21 = .ok (.dup, 1) := dk_89 (dk_at dksX4_four_0 21 rfl rfl)
theorem dX4_four_22 : decode cX4_four 22 = .ok (.getfield 86, 3) := dk_180 0 86 (dk_at dksX4_four_1 0 rfl rfl)
theorem dX4_four_25 : decode cX4_four 25 = .ok (.iconst 1, 1) := dk_4 (dk_at dksX4_four_1 3 rfl rfl)
theorem dX4_four_26 : decode cX4_four 26 = .ok (.iadd, 1) := dk_96 (dk_at dksX4_four_1 4 rfl rfl)
theorem dX4_four_27 : decode cX4_four 27 = .ok (.putfield 86, 3) := dk_181 0 86 (dk_at dksX4_four_1 5 rfl rfl)
theorem dX4_four_30 : decode cX4_four 30 = .ok (.iinc 2 (-8), 3) := dk_132 2 248 (dk_at dksX4_four_1 8 rfl rfl)
theorem dX4_four_33 : decode cX4_four 33 = .ok (.goto (-30), 3) := dk_167 255 226 (dk_at dksX4_four_1 11 rfl rfl)
theorem dX4_four_36 : decode cX4_four 36 = .ok (.return_, 1) := dk_177 (dk_at dksX4_four_1 14 rfl rfl)
abbrev cX4_end : ByteArray := prog_19_method_7_code
def yX4_end : MethodName := ⟨RX4, "end", "(I)I"⟩
def dkwX4_end_0 : List UInt8 := [27, 155, 0, 11, 27, 42, 180, 0, 86, 164, 0, 5, 2, 172, 42, 27, 181, 0, 86, 27, 172]
abbrev dktX4_end_0 : List UInt8 := dkwX4_end_0 ++ []
theorem dksX4_end_0 : cX4_end.data.toList.drop 0 = dktX4_end_0 := by decide +kernel
theorem dX4_end_0 : decode cX4_end 0 = .ok (.iload_n 1, 1) := dk_27 (dk_at dksX4_end_0 0 rfl rfl)
theorem dX4_end_1 : decode cX4_end 1 = .ok (.ifCond .lt 11, 3) := dk_155 0 11 (dk_at dksX4_end_0 1 rfl rfl)
theorem dX4_end_4 : decode cX4_end 4 = .ok (.iload_n 1, 1) := dk_27 (dk_at dksX4_end_0 4 rfl rfl)
theorem dX4_end_5 : decode cX4_end 5 = .ok (.aload_n 0, 1) := dk_42 (dk_at dksX4_end_0 5 rfl rfl)
theorem dX4_end_6 : decode cX4_end 6 = .ok (.getfield 86, 3) := dk_180 0 86 (dk_at dksX4_end_0 6 rfl rfl)
theorem dX4_end_9 : decode cX4_end 9 = .ok (.if_icmp .le 5, 3) := dk_164 0 5 (dk_at dksX4_end_0 9 rfl rfl)
theorem dX4_end_12 : decode cX4_end 12 = .ok (.iconst (-1), 1) := dk_2 (dk_at dksX4_end_0 12 rfl rfl)
theorem dX4_end_13 : decode cX4_end 13 = .ok (.ireturn, 1) := dk_172 (dk_at dksX4_end_0 13 rfl rfl)
theorem dX4_end_14 : decode cX4_end 14 = .ok (.aload_n 0, 1) := dk_42 (dk_at dksX4_end_0 14 rfl rfl)
theorem dX4_end_15 : decode cX4_end 15 = .ok (.iload_n 1, 1) := dk_27 (dk_at dksX4_end_0 15 rfl rfl)
theorem dX4_end_16 : decode cX4_end 16 = .ok (.putfield 86, 3) := dk_181 0 86 (dk_at dksX4_end_0 16 rfl rfl)
theorem dX4_end_19 : decode cX4_end 19 = .ok (.iload_n 1, 1) := dk_27 (dk_at dksX4_end_0 19 rfl rfl)
theorem dX4_end_20 : decode cX4_end 20 = .ok (.ireturn, 1) := dk_172 (dk_at dksX4_end_0 20 rfl rfl)
abbrev cX4_rule : ByteArray := prog_19_method_39_code
def yX4_rule : MethodName := ⟨RX4, "rule", "()I"⟩
def dkwX4_rule_2 : List UInt8 := [180, 1, 6, 4, 96, 181, 1, 6, 42, 180, 1, 6, 4, 100, 172]
abbrev dktX4_rule_2 : List UInt8 := dkwX4_rule_2 ++ []
def dkwX4_rule_1 : List UInt8 := [180, 0, 154, 3, 79, 42, 182, 1, 9, 154, 0, 11, 16, 254, 42, 180, 0, 93, 100, 172, 42, 89]
abbrev dktX4_rule_1 : List UInt8 := dkwX4_rule_1 ++ dktX4_rule_2
def dkwX4_rule_0 : List UInt8 := [42, 180, 1, 6, 16, 6, 160, 0, 5, 2, 172, 42, 42, 180, 1, 6, 181, 0, 154, 42, 180, 0, 23, 42]
abbrev dktX4_rule_0 : List UInt8 := dkwX4_rule_0 ++ dktX4_rule_1
theorem dksX4_rule_0 : cX4_rule.data.toList.drop 0 = dktX4_rule_0 := by decide +kernel
theorem dksX4_rule_1 : cX4_rule.data.toList.drop 24 = dktX4_rule_1 := dk_seg dksX4_rule_0 24 rfl rfl
theorem dksX4_rule_2 : cX4_rule.data.toList.drop 46 = dktX4_rule_2 := dk_seg dksX4_rule_1 22 rfl rfl
theorem dX4_rule_0 : decode cX4_rule 0 = .ok (.aload_n 0, 1) := dk_42 (dk_at dksX4_rule_0 0 rfl rfl)
theorem dX4_rule_1 : decode cX4_rule 1 = .ok (.getfield 262, 3) := dk_180 1 6 (dk_at dksX4_rule_0 1 rfl rfl)
theorem dX4_rule_4 : decode cX4_rule 4 = .ok (.bipush 6, 2) := dk_16 6 (dk_at dksX4_rule_0 4 rfl rfl)
theorem dX4_rule_6 : decode cX4_rule 6 = .ok (.if_icmp .ne 5, 3) := dk_160 0 5 (dk_at dksX4_rule_0 6 rfl rfl)
theorem dX4_rule_9 : decode cX4_rule 9 = .ok (.iconst (-1), 1) := dk_2 (dk_at dksX4_rule_0 9 rfl rfl)
theorem dX4_rule_10 : decode cX4_rule 10 = .ok (.ireturn, 1) := dk_172 (dk_at dksX4_rule_0 10 rfl rfl)
theorem dX4_rule_11 : decode cX4_rule 11 = .ok (.aload_n 0, 1) := dk_42 (dk_at dksX4_rule_0 11 rfl rfl)
theorem dX4_rule_12 : decode cX4_rule 12 = .ok (.aload_n 0, 1) := dk_42 (dk_at dksX4_rule_0 12 rfl rfl)
theorem dX4_rule_13 : decode cX4_rule 13 = .ok (.getfield 262, 3) := dk_180 1 6 (dk_at dksX4_rule_0 13 rfl rfl)
theorem dX4_rule_16 : decode cX4_rule 16 = .ok (.putfield 154, 3) := dk_181 0 154 (dk_at dksX4_rule_0 16 rfl rfl)
theorem dX4_rule_19 : decode cX4_rule 19 = .ok (.aload_n 0, 1) := dk_42 (dk_at dksX4_rule_0 19 rfl rfl)
theorem dX4_rule_20 : decode cX4_rule 20 = .ok (.getfield 23, 3) := dk_180 0 23 (dk_at dksX4_rule_0 20 rfl rfl)
theorem dX4_rule_23 : decode cX4_rule 23 = .ok (.aload_n 0, 1) := dk_42 (dk_at dksX4_rule_0 23 rfl rfl)
theorem dX4_rule_24 : decode cX4_rule 24 = .ok (.getfield 154, 3) := dk_180 0 154 (dk_at dksX4_rule_1 0 rfl rfl)
theorem dX4_rule_27 : decode cX4_rule 27 = .ok (.iconst 0, 1) := dk_3 (dk_at dksX4_rule_1 3 rfl rfl)
theorem dX4_rule_28 : decode cX4_rule 28 = .ok (.iastore, 1) := dk_79 (dk_at dksX4_rule_1 4 rfl rfl)
theorem dX4_rule_29 : decode cX4_rule 29 = .ok (.aload_n 0, 1) := dk_42 (dk_at dksX4_rule_1 5 rfl rfl)
theorem dX4_rule_30 : decode cX4_rule 30 = .ok (.invokevirtual 265, 3) := dk_182 1 9 (dk_at dksX4_rule_1 6 rfl rfl)
theorem dX4_rule_33 : decode cX4_rule 33 = .ok (.ifCond .ne 11, 3) := dk_154 0 11 (dk_at dksX4_rule_1 9 rfl rfl)
theorem dX4_rule_36 : decode cX4_rule 36 = .ok (.bipush (-2), 2) := dk_16 254 (dk_at dksX4_rule_1 12 rfl rfl)
theorem dX4_rule_38 : decode cX4_rule 38 = .ok (.aload_n 0, 1) := dk_42 (dk_at dksX4_rule_1 14 rfl rfl)
theorem dX4_rule_39 : decode cX4_rule 39 = .ok (.getfield 93, 3) := dk_180 0 93 (dk_at dksX4_rule_1 15 rfl rfl)
theorem dX4_rule_42 : decode cX4_rule 42 = .ok (.isub, 1) := dk_100 (dk_at dksX4_rule_1 18 rfl rfl)
theorem dX4_rule_43 : decode cX4_rule 43 = .ok (.ireturn, 1) := dk_172 (dk_at dksX4_rule_1 19 rfl rfl)
theorem dX4_rule_44 : decode cX4_rule 44 = .ok (.aload_n 0, 1) := dk_42 (dk_at dksX4_rule_1 20 rfl rfl)
theorem dX4_rule_45 : decode cX4_rule 45 = .ok (.dup, 1) := dk_89 (dk_at dksX4_rule_1 21 rfl rfl)
theorem dX4_rule_46 : decode cX4_rule 46 = .ok (.getfield 262, 3) := dk_180 1 6 (dk_at dksX4_rule_2 0 rfl rfl)
theorem dX4_rule_49 : decode cX4_rule 49 = .ok (.iconst 1, 1) := dk_4 (dk_at dksX4_rule_2 3 rfl rfl)
theorem dX4_rule_50 : decode cX4_rule 50 = .ok (.iadd, 1) := dk_96 (dk_at dksX4_rule_2 4 rfl rfl)
theorem dX4_rule_51 : decode cX4_rule 51 = .ok (.putfield 262, 3) := dk_181 1 6 (dk_at dksX4_rule_2 5 rfl rfl)
theorem dX4_rule_54 : decode cX4_rule 54 = .ok (.aload_n 0, 1) := dk_42 (dk_at dksX4_rule_2 8 rfl rfl)
theorem dX4_rule_55 : decode cX4_rule 55 = .ok (.getfield 262, 3) := dk_180 1 6 (dk_at dksX4_rule_2 9 rfl rfl)
theorem dX4_rule_58 : decode cX4_rule 58 = .ok (.iconst 1, 1) := dk_4 (dk_at dksX4_rule_2 12 rfl rfl)
theorem dX4_rule_59 : decode cX4_rule 59 = .ok (.isub, 1) := dk_100 (dk_at dksX4_rule_2 13 rfl rfl)
theorem dX4_rule_60 : decode cX4_rule 60 = .ok (.ireturn, 1) := dk_172 (dk_at dksX4_rule_2 14 rfl rfl)
abbrev cX4_readsAll : ByteArray := prog_19_method_38_code
def yX4_readsAll : MethodName := ⟨RX4, "readsAll", "()Z"⟩
def dkwX4_readsAll_4 : List UInt8 := [181, 0, 86, 42, 180, 0, 93, 154, 0, 7, 4, 167, 0, 4, 3, 172]
abbrev dktX4_readsAll_4 : List UInt8 := dkwX4_readsAll_4 ++ []
def dkwX4_readsAll_3 : List UInt8 := [153, 0, 21, 42, 182, 0, 99, 2, 159, 0, 13, 42, 3, 42, 180, 0, 96, 182, 0, 117, 87, 42, 3]
abbrev dktX4_readsAll_3 : List UInt8 := dkwX4_readsAll_3 ++ dktX4_readsAll_4
def dkwX4_readsAll_2 : List UInt8 := [160, 0, 21, 42, 89, 180, 0, 96, 4, 96, 181, 0, 96, 42, 182, 1, 3, 60, 167, 255, 228, 27]
abbrev dktX4_readsAll_2 : List UInt8 := dkwX4_readsAll_2 ++ dktX4_readsAll_3
def dkwX4_readsAll_1 : List UInt8 := [181, 0, 93, 42, 3, 181, 0, 157, 42, 182, 1, 3, 60, 27, 153, 0, 30, 42, 182, 0, 99, 16, 59]
abbrev dktX4_readsAll_1 : List UInt8 := dkwX4_readsAll_1 ++ dktX4_readsAll_2
def dkwX4_readsAll_0 : List UInt8 := [42, 180, 0, 17, 42, 180, 0, 154, 3, 79, 42, 3, 181, 0, 250, 42, 3, 181, 0, 96, 42, 3]
abbrev dktX4_readsAll_0 : List UInt8 := dkwX4_readsAll_0 ++ dktX4_readsAll_1
theorem dksX4_readsAll_0 : cX4_readsAll.data.toList.drop 0 = dktX4_readsAll_0 := by decide +kernel
theorem dksX4_readsAll_1 : cX4_readsAll.data.toList.drop 22 = dktX4_readsAll_1 := dk_seg dksX4_readsAll_0 22 rfl rfl
theorem dksX4_readsAll_2 : cX4_readsAll.data.toList.drop 45 = dktX4_readsAll_2 := dk_seg dksX4_readsAll_1 23 rfl rfl
theorem dksX4_readsAll_3 : cX4_readsAll.data.toList.drop 67 = dktX4_readsAll_3 := dk_seg dksX4_readsAll_2 22 rfl rfl
theorem dksX4_readsAll_4 : cX4_readsAll.data.toList.drop 90 = dktX4_readsAll_4 := dk_seg dksX4_readsAll_3 23 rfl rfl
theorem dX4_readsAll_0 : decode cX4_readsAll 0 = .ok (.aload_n 0, 1) := dk_42 (dk_at dksX4_readsAll_0 0 rfl rfl)
theorem dX4_readsAll_1 : decode cX4_readsAll 1 = .ok (.getfield 17, 3) := dk_180 0 17 (dk_at dksX4_readsAll_0 1 rfl rfl)
theorem dX4_readsAll_4 : decode cX4_readsAll 4 = .ok (.aload_n 0, 1) := dk_42 (dk_at dksX4_readsAll_0 4 rfl rfl)
theorem dX4_readsAll_5 : decode cX4_readsAll 5 = .ok (.getfield 154, 3) := dk_180 0 154 (dk_at dksX4_readsAll_0 5 rfl rfl)
theorem dX4_readsAll_8 : decode cX4_readsAll 8 = .ok (.iconst 0, 1) := dk_3 (dk_at dksX4_readsAll_0 8 rfl rfl)
theorem dX4_readsAll_9 : decode cX4_readsAll 9 = .ok (.iastore, 1) := dk_79 (dk_at dksX4_readsAll_0 9 rfl rfl)
theorem dX4_readsAll_10 : decode cX4_readsAll 10 = .ok (.aload_n 0, 1) := dk_42 (dk_at dksX4_readsAll_0 10 rfl rfl)
theorem dX4_readsAll_11 : decode cX4_readsAll 11 = .ok (.iconst 0, 1) := dk_3 (dk_at dksX4_readsAll_0 11 rfl rfl)
theorem dX4_readsAll_12 : decode cX4_readsAll 12 = .ok (.putfield 250, 3) := dk_181 0 250 (dk_at dksX4_readsAll_0 12 rfl rfl)
theorem dX4_readsAll_15 : decode cX4_readsAll 15 = .ok (.aload_n 0, 1) := dk_42 (dk_at dksX4_readsAll_0 15 rfl rfl)
theorem dX4_readsAll_16 : decode cX4_readsAll 16 = .ok (.iconst 0, 1) := dk_3 (dk_at dksX4_readsAll_0 16 rfl rfl)
theorem dX4_readsAll_17 : decode cX4_readsAll 17 = .ok (.putfield 96, 3) := dk_181 0 96 (dk_at dksX4_readsAll_0 17 rfl rfl)
theorem dX4_readsAll_20 : decode cX4_readsAll 20 = .ok (.aload_n 0, 1) := dk_42 (dk_at dksX4_readsAll_0 20 rfl rfl)
theorem dX4_readsAll_21 : decode cX4_readsAll 21 = .ok (.iconst 0, 1) := dk_3 (dk_at dksX4_readsAll_0 21 rfl rfl)
theorem dX4_readsAll_22 : decode cX4_readsAll 22 = .ok (.putfield 93, 3) := dk_181 0 93 (dk_at dksX4_readsAll_1 0 rfl rfl)
theorem dX4_readsAll_25 : decode cX4_readsAll 25 = .ok (.aload_n 0, 1) := dk_42 (dk_at dksX4_readsAll_1 3 rfl rfl)
theorem dX4_readsAll_26 : decode cX4_readsAll 26 = .ok (.iconst 0, 1) := dk_3 (dk_at dksX4_readsAll_1 4 rfl rfl)
theorem dX4_readsAll_27 : decode cX4_readsAll 27 = .ok (.putfield 157, 3) := dk_181 0 157 (dk_at dksX4_readsAll_1 5 rfl rfl)
theorem dX4_readsAll_30 : decode cX4_readsAll 30 = .ok (.aload_n 0, 1) := dk_42 (dk_at dksX4_readsAll_1 8 rfl rfl)
theorem dX4_readsAll_31 : decode cX4_readsAll 31 = .ok (.invokevirtual 259, 3) := dk_182 1 3 (dk_at dksX4_readsAll_1 9 rfl rfl)
theorem dX4_readsAll_34 : decode cX4_readsAll 34 = .ok (.istore_n 1, 1) := dk_60 (dk_at dksX4_readsAll_1 12 rfl rfl)
theorem dX4_readsAll_35 : decode cX4_readsAll 35 = .ok (.iload_n 1, 1) := dk_27 (dk_at dksX4_readsAll_1 13 rfl rfl)
theorem dX4_readsAll_36 : decode cX4_readsAll 36 = .ok (.ifCond .eq 30, 3) := dk_153 0 30 (dk_at dksX4_readsAll_1 14 rfl rfl)
theorem dX4_readsAll_39 : decode cX4_readsAll 39 = .ok (.aload_n 0, 1) := dk_42 (dk_at dksX4_readsAll_1 17 rfl rfl)
theorem dX4_readsAll_40 : decode cX4_readsAll 40 = .ok (.invokevirtual 99, 3) := dk_182 0 99 (dk_at dksX4_readsAll_1 18 rfl rfl)
theorem dX4_readsAll_43 : decode cX4_readsAll 43 = .ok (.bipush 59, 2) := dk_16 59 (dk_at dksX4_readsAll_1 21 rfl rfl)
theorem dX4_readsAll_45 : decode cX4_readsAll 45 = .ok (.if_icmp .ne 21, 3) := dk_160 0 21 (dk_at dksX4_readsAll_2 0 rfl rfl)
theorem dX4_readsAll_48 : decode cX4_readsAll 48 = .ok (.aload_n 0, 1) := dk_42 (dk_at dksX4_readsAll_2 3 rfl rfl)
theorem dX4_readsAll_49 : decode cX4_readsAll 49 = .ok (.dup, 1) := dk_89 (dk_at dksX4_readsAll_2 4 rfl rfl)
theorem dX4_readsAll_50 : decode cX4_readsAll 50 = .ok (.getfield 96, 3) := dk_180 0 96 (dk_at dksX4_readsAll_2 5 rfl rfl)
theorem dX4_readsAll_53 : decode cX4_readsAll 53 = .ok (.iconst 1, 1) := dk_4 (dk_at dksX4_readsAll_2 8 rfl rfl)
theorem dX4_readsAll_54 : decode cX4_readsAll 54 = .ok (.iadd, 1) := dk_96 (dk_at dksX4_readsAll_2 9 rfl rfl)
theorem dX4_readsAll_55 : decode cX4_readsAll 55 = .ok (.putfield 96, 3) := dk_181 0 96 (dk_at dksX4_readsAll_2 10 rfl rfl)
theorem dX4_readsAll_58 : decode cX4_readsAll 58 = .ok (.aload_n 0, 1) := dk_42 (dk_at dksX4_readsAll_2 13 rfl rfl)
theorem dX4_readsAll_59 : decode cX4_readsAll 59 = .ok (.invokevirtual 259, 3) := dk_182 1 3 (dk_at dksX4_readsAll_2 14 rfl rfl)
theorem dX4_readsAll_62 : decode cX4_readsAll 62 = .ok (.istore_n 1, 1) := dk_60 (dk_at dksX4_readsAll_2 17 rfl rfl)
theorem dX4_readsAll_63 : decode cX4_readsAll 63 = .ok (.goto (-28), 3) := dk_167 255 228 (dk_at dksX4_readsAll_2 18 rfl rfl)
theorem dX4_readsAll_66 : decode cX4_readsAll 66 = .ok (.iload_n 1, 1) := dk_27 (dk_at dksX4_readsAll_2 21 rfl rfl)
theorem dX4_readsAll_67 : decode cX4_readsAll 67 = .ok (.ifCond .eq 21, 3) := dk_153 0 21 (dk_at dksX4_readsAll_3 0 rfl rfl)
theorem dX4_readsAll_70 : decode cX4_readsAll 70 = .ok (.aload_n 0, 1) := dk_42 (dk_at dksX4_readsAll_3 3 rfl rfl)
theorem dX4_readsAll_71 : decode cX4_readsAll 71 = .ok (.invokevirtual 99, 3) := dk_182 0 99 (dk_at dksX4_readsAll_3 4 rfl rfl)
theorem dX4_readsAll_74 : decode cX4_readsAll 74 = .ok (.iconst (-1), 1) := dk_2 (dk_at dksX4_readsAll_3 7 rfl rfl)
theorem dX4_readsAll_75 : decode cX4_readsAll 75 = .ok (.if_icmp .eq 13, 3) := dk_159 0 13 (dk_at dksX4_readsAll_3 8 rfl rfl)
theorem dX4_readsAll_78 : decode cX4_readsAll 78 = .ok (.aload_n 0, 1) := dk_42 (dk_at dksX4_readsAll_3 11 rfl rfl)
theorem dX4_readsAll_79 : decode cX4_readsAll 79 = .ok (.iconst 0, 1) := dk_3 (dk_at dksX4_readsAll_3 12 rfl rfl)
theorem dX4_readsAll_80 : decode cX4_readsAll 80 = .ok (.aload_n 0, 1) := dk_42 (dk_at dksX4_readsAll_3 13 rfl rfl)
theorem dX4_readsAll_81 : decode cX4_readsAll 81 = .ok (.getfield 96, 3) := dk_180 0 96 (dk_at dksX4_readsAll_3 14 rfl rfl)
theorem dX4_readsAll_84 : decode cX4_readsAll 84 = .ok (.invokevirtual 117, 3) := dk_182 0 117 (dk_at dksX4_readsAll_3 17 rfl rfl)
theorem dX4_readsAll_87 : decode cX4_readsAll 87 = .ok (.pop, 1) := dk_87 (dk_at dksX4_readsAll_3 20 rfl rfl)
theorem dX4_readsAll_88 : decode cX4_readsAll 88 = .ok (.aload_n 0, 1) := dk_42 (dk_at dksX4_readsAll_3 21 rfl rfl)
theorem dX4_readsAll_89 : decode cX4_readsAll 89 = .ok (.iconst 0, 1) := dk_3 (dk_at dksX4_readsAll_3 22 rfl rfl)
theorem dX4_readsAll_90 : decode cX4_readsAll 90 = .ok (.putfield 86, 3) := dk_181 0 86 (dk_at dksX4_readsAll_4 0 rfl rfl)
theorem dX4_readsAll_93 : decode cX4_readsAll 93 = .ok (.aload_n 0, 1) := dk_42 (dk_at dksX4_readsAll_4 3 rfl rfl)
theorem dX4_readsAll_94 : decode cX4_readsAll 94 = .ok (.getfield 93, 3) := dk_180 0 93 (dk_at dksX4_readsAll_4 4 rfl rfl)
theorem dX4_readsAll_97 : decode cX4_readsAll 97 = .ok (.ifCond .ne 7, 3) := dk_154 0 7 (dk_at dksX4_readsAll_4 7 rfl rfl)
theorem dX4_readsAll_100 : decode cX4_readsAll 100 = .ok (.iconst 1, 1) := dk_4 (dk_at dksX4_readsAll_4 10 rfl rfl)
theorem dX4_readsAll_101 : decode cX4_readsAll 101 = .ok (.goto 4, 3) := dk_167 0 4 (dk_at dksX4_readsAll_4 11 rfl rfl)
theorem dX4_readsAll_104 : decode cX4_readsAll 104 = .ok (.iconst 0, 1) := dk_3 (dk_at dksX4_readsAll_4 14 rfl rfl)
theorem dX4_readsAll_105 : decode cX4_readsAll 105 = .ok (.ireturn, 1) := dk_172 (dk_at dksX4_readsAll_4 15 rfl rfl)
abbrev cX4_clauseHere : ByteArray := prog_19_method_37_code
def yX4_clauseHere : MethodName := ⟨RX4, "clauseHere", "()Z"⟩
def dkwX4_clauseHere_4 : List UInt8 := [153, 0, 11, 42, 27, 182, 0, 253, 167, 0, 7, 42, 182, 1, 0, 172]
abbrev dktX4_clauseHere_4 : List UInt8 := dkwX4_clauseHere_4 ++ []
def dkwX4_clauseHere_3 : List UInt8 := [16, 12, 160, 0, 10, 42, 7, 27, 182, 0, 117, 172, 42, 89, 180, 0, 250, 4, 96, 181, 0, 250, 28]
abbrev dktX4_clauseHere_3 : List UInt8 := dkwX4_clauseHere_3 ++ dktX4_clauseHere_4
def dkwX4_clauseHere_2 : List UInt8 := [154, 0, 10, 42, 3, 27, 182, 0, 117, 172, 42, 180, 0, 250, 28, 153, 0, 8, 16, 40, 167, 0, 5]
abbrev dktX4_clauseHere_2 : List UInt8 := dkwX4_clauseHere_2 ++ dktX4_clauseHere_3
def dkwX4_clauseHere_1 : List UInt8 := [61, 28, 153, 0, 13, 42, 182, 0, 245, 154, 0, 23, 167, 0, 13, 42, 20, 0, 248, 182, 0, 107]
abbrev dktX4_clauseHere_1 : List UInt8 := dkwX4_clauseHere_1 ++ dktX4_clauseHere_2
def dkwX4_clauseHere_0 : List UInt8 := [42, 182, 0, 99, 87, 42, 180, 0, 96, 60, 42, 180, 0, 154, 16, 6, 160, 0, 7, 4, 167, 0, 4, 3]
abbrev dktX4_clauseHere_0 : List UInt8 := dkwX4_clauseHere_0 ++ dktX4_clauseHere_1
theorem dksX4_clauseHere_0 : cX4_clauseHere.data.toList.drop 0 = dktX4_clauseHere_0 := by decide +kernel
theorem dksX4_clauseHere_1 : cX4_clauseHere.data.toList.drop 24 = dktX4_clauseHere_1 := dk_seg dksX4_clauseHere_0 24 rfl rfl
theorem dksX4_clauseHere_2 : cX4_clauseHere.data.toList.drop 46 = dktX4_clauseHere_2 := dk_seg dksX4_clauseHere_1 22 rfl rfl
theorem dksX4_clauseHere_3 : cX4_clauseHere.data.toList.drop 69 = dktX4_clauseHere_3 := dk_seg dksX4_clauseHere_2 23 rfl rfl
theorem dksX4_clauseHere_4 : cX4_clauseHere.data.toList.drop 92 = dktX4_clauseHere_4 := dk_seg dksX4_clauseHere_3 23 rfl rfl
theorem dX4_clauseHere_0 : decode cX4_clauseHere 0 = .ok (.aload_n 0, 1) := dk_42 (dk_at dksX4_clauseHere_0 0 rfl rfl)
theorem dX4_clauseHere_1 : decode cX4_clauseHere 1 = .ok (.invokevirtual 99, 3) := dk_182 0 99 (dk_at dksX4_clauseHere_0 1 rfl rfl)
theorem dX4_clauseHere_4 : decode cX4_clauseHere 4 = .ok (.pop, 1) := dk_87 (dk_at dksX4_clauseHere_0 4 rfl rfl)
theorem dX4_clauseHere_5 : decode cX4_clauseHere 5 = .ok (.aload_n 0, 1) := dk_42 (dk_at dksX4_clauseHere_0 5 rfl rfl)
theorem dX4_clauseHere_6 : decode cX4_clauseHere 6 = .ok (.getfield 96, 3) := dk_180 0 96 (dk_at dksX4_clauseHere_0 6 rfl rfl)
theorem dX4_clauseHere_9 : decode cX4_clauseHere 9 = .ok (.istore_n 1, 1) := dk_60 (dk_at dksX4_clauseHere_0 9 rfl rfl)
theorem dX4_clauseHere_10 : decode cX4_clauseHere 10 = .ok (.aload_n 0, 1) := dk_42 (dk_at dksX4_clauseHere_0 10 rfl rfl)
theorem dX4_clauseHere_11 : decode cX4_clauseHere 11 = .ok (.getfield 154, 3) := dk_180 0 154 (dk_at dksX4_clauseHere_0 11 rfl rfl)
theorem dX4_clauseHere_14 : decode cX4_clauseHere 14 = .ok (.bipush 6, 2) := dk_16 6 (dk_at dksX4_clauseHere_0 14 rfl rfl)
theorem dX4_clauseHere_16 : decode cX4_clauseHere 16 = .ok (.if_icmp .ne 7, 3) := dk_160 0 7 (dk_at dksX4_clauseHere_0 16 rfl rfl)
theorem dX4_clauseHere_19 : decode cX4_clauseHere 19 = .ok (.iconst 1, 1) := dk_4 (dk_at dksX4_clauseHere_0 19 rfl rfl)
theorem dX4_clauseHere_20 : decode cX4_clauseHere 20 = .ok (.goto 4, 3) := dk_167 0 4 (dk_at dksX4_clauseHere_0 20 rfl rfl)
theorem dX4_clauseHere_23 : decode cX4_clauseHere 23 = .ok (.iconst 0, 1) := dk_3 (dk_at dksX4_clauseHere_0 23 rfl rfl)
theorem dX4_clauseHere_24 : decode cX4_clauseHere 24 = .ok (.istore_n 2, 1) := dk_61 (dk_at dksX4_clauseHere_1 0 rfl rfl)
theorem dX4_clauseHere_25 : decode cX4_clauseHere 25 = .ok (.iload_n 2, 1) := dk_28 (dk_at dksX4_clauseHere_1 1 rfl rfl)
theorem dX4_clauseHere_26 : decode cX4_clauseHere 26 = .ok (.ifCond .eq 13, 3) := dk_153 0 13 (dk_at dksX4_clauseHere_1 2 rfl rfl)
theorem dX4_clauseHere_29 : decode cX4_clauseHere 29 = .ok (.aload_n 0, 1) := dk_42 (dk_at dksX4_clauseHere_1 5 rfl rfl)
theorem dX4_clauseHere_30 : decode cX4_clauseHere 30 = .ok (.invokevirtual 245, 3) := dk_182 0 245 (dk_at dksX4_clauseHere_1 6 rfl rfl)
theorem dX4_clauseHere_33 : decode cX4_clauseHere 33 = .ok (.ifCond .ne 23, 3) := dk_154 0 23 (dk_at dksX4_clauseHere_1 9 rfl rfl)
theorem dX4_clauseHere_36 : decode cX4_clauseHere 36 = .ok (.goto 13, 3) := dk_167 0 13 (dk_at dksX4_clauseHere_1 12 rfl rfl)
theorem dX4_clauseHere_39 : decode cX4_clauseHere 39 = .ok (.aload_n 0, 1) := dk_42 (dk_at dksX4_clauseHere_1 15 rfl rfl)
theorem dX4_clauseHere_40 : decode cX4_clauseHere 40 = .ok (.ldc2_w 248, 3) := dk_20 0 248 (dk_at dksX4_clauseHere_1 16 rfl rfl)
theorem dX4_clauseHere_43 : decode cX4_clauseHere 43 = .ok (.invokevirtual 107, 3) := dk_182 0 107 (dk_at dksX4_clauseHere_1 19 rfl rfl)
theorem dX4_clauseHere_46 : decode cX4_clauseHere 46 = .ok (.ifCond .ne 10, 3) := dk_154 0 10 (dk_at dksX4_clauseHere_2 0 rfl rfl)
theorem dX4_clauseHere_49 : decode cX4_clauseHere 49 = .ok (.aload_n 0, 1) := dk_42 (dk_at dksX4_clauseHere_2 3 rfl rfl)
theorem dX4_clauseHere_50 : decode cX4_clauseHere 50 = .ok (.iconst 0, 1) := dk_3 (dk_at dksX4_clauseHere_2 4 rfl rfl)
theorem dX4_clauseHere_51 : decode cX4_clauseHere 51 = .ok (.iload_n 1, 1) := dk_27 (dk_at dksX4_clauseHere_2 5 rfl rfl)
theorem dX4_clauseHere_52 : decode cX4_clauseHere 52 = .ok (.invokevirtual 117, 3) := dk_182 0 117 (dk_at dksX4_clauseHere_2 6 rfl rfl)
theorem dX4_clauseHere_55 : decode cX4_clauseHere 55 = .ok (.ireturn, 1) := dk_172 (dk_at dksX4_clauseHere_2 9 rfl rfl)
theorem dX4_clauseHere_56 : decode cX4_clauseHere 56 = .ok (.aload_n 0, 1) := dk_42 (dk_at dksX4_clauseHere_2 10 rfl rfl)
theorem dX4_clauseHere_57 : decode cX4_clauseHere 57 = .ok (.getfield 250, 3) := dk_180 0 250 (dk_at dksX4_clauseHere_2 11 rfl rfl)
theorem dX4_clauseHere_60 : decode cX4_clauseHere 60 = .ok (.iload_n 2, 1) := dk_28 (dk_at dksX4_clauseHere_2 14 rfl rfl)
theorem dX4_clauseHere_61 : decode cX4_clauseHere 61 = .ok (.ifCond .eq 8, 3) := dk_153 0 8 (dk_at dksX4_clauseHere_2 15 rfl rfl)
theorem dX4_clauseHere_64 : decode cX4_clauseHere 64 = .ok (.bipush 40, 2) := dk_16 40 (dk_at dksX4_clauseHere_2 18 rfl rfl)
theorem dX4_clauseHere_66 : decode cX4_clauseHere 66 = .ok (.goto 5, 3) := dk_167 0 5 (dk_at dksX4_clauseHere_2 20 rfl rfl)
theorem dX4_clauseHere_69 : decode cX4_clauseHere 69 = .ok (.bipush 12, 2) := dk_16 12 (dk_at dksX4_clauseHere_3 0 rfl rfl)
theorem dX4_clauseHere_71 : decode cX4_clauseHere 71 = .ok (.if_icmp .ne 10, 3) := dk_160 0 10 (dk_at dksX4_clauseHere_3 2 rfl rfl)
theorem dX4_clauseHere_74 : decode cX4_clauseHere 74 = .ok (.aload_n 0, 1) := dk_42 (dk_at dksX4_clauseHere_3 5 rfl rfl)
theorem dX4_clauseHere_75 : decode cX4_clauseHere 75 = .ok (.iconst 4, 1) := dk_7 (dk_at dksX4_clauseHere_3 6 rfl rfl)
theorem dX4_clauseHere_76 : decode cX4_clauseHere 76 = .ok (.iload_n 1, 1) := dk_27 (dk_at dksX4_clauseHere_3 7 rfl rfl)
theorem dX4_clauseHere_77 : decode cX4_clauseHere 77 = .ok (.invokevirtual 117, 3) := dk_182 0 117 (dk_at dksX4_clauseHere_3 8 rfl rfl)
theorem dX4_clauseHere_80 : decode cX4_clauseHere 80 = .ok (.ireturn, 1) := dk_172 (dk_at dksX4_clauseHere_3 11 rfl rfl)
theorem dX4_clauseHere_81 : decode cX4_clauseHere 81 = .ok (.aload_n 0, 1) := dk_42 (dk_at dksX4_clauseHere_3 12 rfl rfl)
theorem dX4_clauseHere_82 : decode cX4_clauseHere 82 = .ok (.dup, 1) := dk_89 (dk_at dksX4_clauseHere_3 13 rfl rfl)
theorem dX4_clauseHere_83 : decode cX4_clauseHere 83 = .ok (.getfield 250, 3) := dk_180 0 250 (dk_at dksX4_clauseHere_3 14 rfl rfl)
theorem dX4_clauseHere_86 : decode cX4_clauseHere 86 = .ok (.iconst 1, 1) := dk_4 (dk_at dksX4_clauseHere_3 17 rfl rfl)
theorem dX4_clauseHere_87 : decode cX4_clauseHere 87 = .ok (.iadd, 1) := dk_96 (dk_at dksX4_clauseHere_3 18 rfl rfl)
theorem dX4_clauseHere_88 : decode cX4_clauseHere 88 = .ok (.putfield 250, 3) := dk_181 0 250 (dk_at dksX4_clauseHere_3 19 rfl rfl)
theorem dX4_clauseHere_91 : decode cX4_clauseHere 91 = .ok (.iload_n 2, 1) := dk_28 (dk_at dksX4_clauseHere_3 22 rfl rfl)
theorem dX4_clauseHere_92 : decode cX4_clauseHere 92 = .ok (.ifCond .eq 11, 3) := dk_153 0 11 (dk_at dksX4_clauseHere_4 0 rfl rfl)
theorem dX4_clauseHere_95 : decode cX4_clauseHere 95 = .ok (.aload_n 0, 1) := dk_42 (dk_at dksX4_clauseHere_4 3 rfl rfl)
theorem dX4_clauseHere_96 : decode cX4_clauseHere 96 = .ok (.iload_n 1, 1) := dk_27 (dk_at dksX4_clauseHere_4 4 rfl rfl)
theorem dX4_clauseHere_97 : decode cX4_clauseHere 97 = .ok (.invokevirtual 253, 3) := dk_182 0 253 (dk_at dksX4_clauseHere_4 5 rfl rfl)
theorem dX4_clauseHere_100 : decode cX4_clauseHere 100 = .ok (.goto 7, 3) := dk_167 0 7 (dk_at dksX4_clauseHere_4 8 rfl rfl)
theorem dX4_clauseHere_103 : decode cX4_clauseHere 103 = .ok (.aload_n 0, 1) := dk_42 (dk_at dksX4_clauseHere_4 11 rfl rfl)
theorem dX4_clauseHere_104 : decode cX4_clauseHere 104 = .ok (.invokevirtual 256, 3) := dk_182 1 0 (dk_at dksX4_clauseHere_4 12 rfl rfl)
theorem dX4_clauseHere_107 : decode cX4_clauseHere 107 = .ok (.ireturn, 1) := dk_172 (dk_at dksX4_clauseHere_4 15 rfl rfl)
abbrev cX4_see : ByteArray := prog_19_method_9_code
def yX4_see : MethodName := ⟨RX4, "see", "()I"⟩
def dkwX4_see_2 : List UInt8 := [162, 0, 19, 42, 180, 0, 7, 42, 180, 0, 96, 51, 17, 0, 255, 126, 167, 0, 4, 2, 172]
abbrev dktX4_see_2 : List UInt8 := dkwX4_see_2 ++ []
def dkwX4_see_1 : List UInt8 := [160, 0, 16, 42, 89, 180, 0, 96, 4, 96, 181, 0, 96, 167, 255, 221, 42, 180, 0, 96, 42, 180, 0, 86]
abbrev dktX4_see_1 : List UInt8 := dkwX4_see_1 ++ dktX4_see_2
def dkwX4_see_0 : List UInt8 := [42, 180, 0, 96, 42, 180, 0, 86, 162, 0, 30, 42, 180, 0, 7, 42, 180, 0, 96, 51, 16, 32]
abbrev dktX4_see_0 : List UInt8 := dkwX4_see_0 ++ dktX4_see_1
theorem dksX4_see_0 : cX4_see.data.toList.drop 0 = dktX4_see_0 := by decide +kernel
theorem dksX4_see_1 : cX4_see.data.toList.drop 22 = dktX4_see_1 := dk_seg dksX4_see_0 22 rfl rfl
theorem dksX4_see_2 : cX4_see.data.toList.drop 46 = dktX4_see_2 := dk_seg dksX4_see_1 24 rfl rfl
theorem dX4_see_0 : decode cX4_see 0 = .ok (.aload_n 0, 1) := dk_42 (dk_at dksX4_see_0 0 rfl rfl)
theorem dX4_see_1 : decode cX4_see 1 = .ok (.getfield 96, 3) := dk_180 0 96 (dk_at dksX4_see_0 1 rfl rfl)
theorem dX4_see_4 : decode cX4_see 4 = .ok (.aload_n 0, 1) := dk_42 (dk_at dksX4_see_0 4 rfl rfl)
theorem dX4_see_5 : decode cX4_see 5 = .ok (.getfield 86, 3) := dk_180 0 86 (dk_at dksX4_see_0 5 rfl rfl)
theorem dX4_see_8 : decode cX4_see 8 = .ok (.if_icmp .ge 30, 3) := dk_162 0 30 (dk_at dksX4_see_0 8 rfl rfl)
theorem dX4_see_11 : decode cX4_see 11 = .ok (.aload_n 0, 1) := dk_42 (dk_at dksX4_see_0 11 rfl rfl)
theorem dX4_see_12 : decode cX4_see 12 = .ok (.getfield 7, 3) := dk_180 0 7 (dk_at dksX4_see_0 12 rfl rfl)
theorem dX4_see_15 : decode cX4_see 15 = .ok (.aload_n 0, 1) := dk_42 (dk_at dksX4_see_0 15 rfl rfl)
theorem dX4_see_16 : decode cX4_see 16 = .ok (.getfield 96, 3) := dk_180 0 96 (dk_at dksX4_see_0 16 rfl rfl)
theorem dX4_see_19 : decode cX4_see 19 = .ok (.baload, 1) := dk_51 (dk_at dksX4_see_0 19 rfl rfl)
theorem dX4_see_20 : decode cX4_see 20 = .ok (.bipush 32, 2) := dk_16 32 (dk_at dksX4_see_0 20 rfl rfl)
theorem dX4_see_22 : decode cX4_see 22 = .ok (.if_icmp .ne 16, 3) := dk_160 0 16 (dk_at dksX4_see_1 0 rfl rfl)
theorem dX4_see_25 : decode cX4_see 25 = .ok (.aload_n 0, 1) := dk_42 (dk_at dksX4_see_1 3 rfl rfl)
theorem dX4_see_26 : decode cX4_see 26 = .ok (.dup, 1) := dk_89 (dk_at dksX4_see_1 4 rfl rfl)
theorem dX4_see_27 : decode cX4_see 27 = .ok (.getfield 96, 3) := dk_180 0 96 (dk_at dksX4_see_1 5 rfl rfl)
theorem dX4_see_30 : decode cX4_see 30 = .ok (.iconst 1, 1) := dk_4 (dk_at dksX4_see_1 8 rfl rfl)
theorem dX4_see_31 : decode cX4_see 31 = .ok (.iadd, 1) := dk_96 (dk_at dksX4_see_1 9 rfl rfl)
theorem dX4_see_32 : decode cX4_see 32 = .ok (.putfield 96, 3) := dk_181 0 96 (dk_at dksX4_see_1 10 rfl rfl)
theorem dX4_see_35 : decode cX4_see 35 = .ok (.goto (-35), 3) := dk_167 255 221 (dk_at dksX4_see_1 13 rfl rfl)
theorem dX4_see_38 : decode cX4_see 38 = .ok (.aload_n 0, 1) := dk_42 (dk_at dksX4_see_1 16 rfl rfl)
theorem dX4_see_39 : decode cX4_see 39 = .ok (.getfield 96, 3) := dk_180 0 96 (dk_at dksX4_see_1 17 rfl rfl)
theorem dX4_see_42 : decode cX4_see 42 = .ok (.aload_n 0, 1) := dk_42 (dk_at dksX4_see_1 20 rfl rfl)
theorem dX4_see_43 : decode cX4_see 43 = .ok (.getfield 86, 3) := dk_180 0 86 (dk_at dksX4_see_1 21 rfl rfl)
theorem dX4_see_46 : decode cX4_see 46 = .ok (.if_icmp .ge 19, 3) := dk_162 0 19 (dk_at dksX4_see_2 0 rfl rfl)
theorem dX4_see_49 : decode cX4_see 49 = .ok (.aload_n 0, 1) := dk_42 (dk_at dksX4_see_2 3 rfl rfl)
theorem dX4_see_50 : decode cX4_see 50 = .ok (.getfield 7, 3) := dk_180 0 7 (dk_at dksX4_see_2 4 rfl rfl)
theorem dX4_see_53 : decode cX4_see 53 = .ok (.aload_n 0, 1) := dk_42 (dk_at dksX4_see_2 7 rfl rfl)
theorem dX4_see_54 : decode cX4_see 54 = .ok (.getfield 96, 3) := dk_180 0 96 (dk_at dksX4_see_2 8 rfl rfl)
theorem dX4_see_57 : decode cX4_see 57 = .ok (.baload, 1) := dk_51 (dk_at dksX4_see_2 11 rfl rfl)
theorem dX4_see_58 : decode cX4_see 58 = .ok (.sipush 255, 3) := dk_17 0 255 (dk_at dksX4_see_2 12 rfl rfl)
theorem dX4_see_61 : decode cX4_see 61 = .ok (.iand, 1) := dk_126 (dk_at dksX4_see_2 15 rfl rfl)
theorem dX4_see_62 : decode cX4_see 62 = .ok (.goto 4, 3) := dk_167 0 4 (dk_at dksX4_see_2 16 rfl rfl)
theorem dX4_see_65 : decode cX4_see 65 = .ok (.iconst (-1), 1) := dk_2 (dk_at dksX4_see_2 19 rfl rfl)
theorem dX4_see_66 : decode cX4_see 66 = .ok (.ireturn, 1) := dk_172 (dk_at dksX4_see_2 20 rfl rfl)
abbrev cX4_isYardWord : ByteArray := prog_19_method_36_code
def yX4_isYardWord : MethodName := ⟨RX4, "isYardWord", "()Z"⟩
def dkwX4_isYardWord_1 : List UInt8 := [182, 0, 107, 153, 0, 7, 4, 167, 0, 4, 3, 172]
abbrev dktX4_isYardWord_1 : List UInt8 := dkwX4_isYardWord_1 ++ []
def dkwX4_isYardWord_0 : List UInt8 := [42, 20, 0, 230, 182, 0, 107, 154, 0, 23, 42, 20, 0, 235, 182, 0, 107, 154, 0, 13, 42, 20, 0, 243]
abbrev dktX4_isYardWord_0 : List UInt8 := dkwX4_isYardWord_0 ++ dktX4_isYardWord_1
theorem dksX4_isYardWord_0 : cX4_isYardWord.data.toList.drop 0 = dktX4_isYardWord_0 := by decide +kernel
theorem dksX4_isYardWord_1 : cX4_isYardWord.data.toList.drop 24 = dktX4_isYardWord_1 := dk_seg dksX4_isYardWord_0 24 rfl rfl
theorem dX4_isYardWord_0 : decode cX4_isYardWord 0 = .ok (.aload_n 0, 1) := dk_42 (dk_at dksX4_isYardWord_0 0 rfl rfl)
theorem dX4_isYardWord_1 : decode cX4_isYardWord 1 = .ok (.ldc2_w 230, 3) := dk_20 0 230 (dk_at dksX4_isYardWord_0 1 rfl rfl)
theorem dX4_isYardWord_4 : decode cX4_isYardWord 4 = .ok (.invokevirtual 107, 3) := dk_182 0 107 (dk_at dksX4_isYardWord_0 4 rfl rfl)
theorem dX4_isYardWord_7 : decode cX4_isYardWord 7 = .ok (.ifCond .ne 23, 3) := dk_154 0 23 (dk_at dksX4_isYardWord_0 7 rfl rfl)
theorem dX4_isYardWord_10 : decode cX4_isYardWord 10 = .ok (.aload_n 0, 1) := dk_42 (dk_at dksX4_isYardWord_0 10 rfl rfl)
theorem dX4_isYardWord_11 : decode cX4_isYardWord 11 = .ok (.ldc2_w 235, 3) := dk_20 0 235 (dk_at dksX4_isYardWord_0 11 rfl rfl)
theorem dX4_isYardWord_14 : decode cX4_isYardWord 14 = .ok (.invokevirtual 107, 3) := dk_182 0 107 (dk_at dksX4_isYardWord_0 14 rfl rfl)
theorem dX4_isYardWord_17 : decode cX4_isYardWord 17 = .ok (.ifCond .ne 13, 3) := dk_154 0 13 (dk_at dksX4_isYardWord_0 17 rfl rfl)
theorem dX4_isYardWord_20 : decode cX4_isYardWord 20 = .ok (.aload_n 0, 1) := dk_42 (dk_at dksX4_isYardWord_0 20 rfl rfl)
theorem dX4_isYardWord_21 : decode cX4_isYardWord 21 = .ok (.ldc2_w 243, 3) := dk_20 0 243 (dk_at dksX4_isYardWord_0 21 rfl rfl)
theorem dX4_isYardWord_24 : decode cX4_isYardWord 24 = .ok (.invokevirtual 107, 3) := dk_182 0 107 (dk_at dksX4_isYardWord_1 0 rfl rfl)
theorem dX4_isYardWord_27 : decode cX4_isYardWord 27 = .ok (.ifCond .eq 7, 3) := dk_153 0 7 (dk_at dksX4_isYardWord_1 3 rfl rfl)
theorem dX4_isYardWord_30 : decode cX4_isYardWord 30 = .ok (.iconst 1, 1) := dk_4 (dk_at dksX4_isYardWord_1 6 rfl rfl)
theorem dX4_isYardWord_31 : decode cX4_isYardWord 31 = .ok (.goto 4, 3) := dk_167 0 4 (dk_at dksX4_isYardWord_1 7 rfl rfl)
theorem dX4_isYardWord_34 : decode cX4_isYardWord 34 = .ok (.iconst 0, 1) := dk_3 (dk_at dksX4_isYardWord_1 10 rfl rfl)
theorem dX4_isYardWord_35 : decode cX4_isYardWord 35 = .ok (.ireturn, 1) := dk_172 (dk_at dksX4_isYardWord_1 11 rfl rfl)
abbrev cX4_isWord : ByteArray := prog_19_method_12_code
def yX4_isWord : MethodName := ⟨RX4, "isWord", "(J)Z"⟩
def dkwX4_isWord_3 : List UInt8 := [154, 0, 7, 4, 167, 0, 4, 3, 172]
abbrev dktX4_isWord_3 : List UInt8 := dkwX4_isWord_3 ++ []
def dkwX4_isWord_2 : List UInt8 := [129, 66, 132, 5, 1, 167, 255, 213, 21, 5, 158, 0, 20, 21, 5, 16, 8, 162, 0, 13, 33, 31, 148]
abbrev dktX4_isWord_2 : List UInt8 := dkwX4_isWord_2 ++ dktX4_isWord_3
def dkwX4_isWord_1 : List UInt8 := [21, 5, 16, 8, 162, 0, 22, 33, 16, 8, 121, 42, 180, 0, 7, 42, 180, 0, 96, 21, 5, 96, 51, 133]
abbrev dktX4_isWord_1 : List UInt8 := dkwX4_isWord_1 ++ dktX4_isWord_2
def dkwX4_isWord_0 : List UInt8 := [42, 182, 0, 99, 87, 9, 66, 3, 54, 5, 42, 42, 180, 0, 96, 21, 5, 96, 182, 0, 103, 153, 0, 35]
abbrev dktX4_isWord_0 : List UInt8 := dkwX4_isWord_0 ++ dktX4_isWord_1
theorem dksX4_isWord_0 : cX4_isWord.data.toList.drop 0 = dktX4_isWord_0 := by decide +kernel
theorem dksX4_isWord_1 : cX4_isWord.data.toList.drop 24 = dktX4_isWord_1 := dk_seg dksX4_isWord_0 24 rfl rfl
theorem dksX4_isWord_2 : cX4_isWord.data.toList.drop 48 = dktX4_isWord_2 := dk_seg dksX4_isWord_1 24 rfl rfl
theorem dksX4_isWord_3 : cX4_isWord.data.toList.drop 71 = dktX4_isWord_3 := dk_seg dksX4_isWord_2 23 rfl rfl
theorem dX4_isWord_0 : decode cX4_isWord 0 = .ok (.aload_n 0, 1) := dk_42 (dk_at dksX4_isWord_0 0 rfl rfl)
theorem dX4_isWord_1 : decode cX4_isWord 1 = .ok (.invokevirtual 99, 3) := dk_182 0 99 (dk_at dksX4_isWord_0 1 rfl rfl)
theorem dX4_isWord_4 : decode cX4_isWord 4 = .ok (.pop, 1) := dk_87 (dk_at dksX4_isWord_0 4 rfl rfl)
theorem dX4_isWord_5 : decode cX4_isWord 5 = .ok (.lconst 0, 1) := dk_9 (dk_at dksX4_isWord_0 5 rfl rfl)
theorem dX4_isWord_6 : decode cX4_isWord 6 = .ok (.lstore_n 3, 1) := dk_66 (dk_at dksX4_isWord_0 6 rfl rfl)
theorem dX4_isWord_7 : decode cX4_isWord 7 = .ok (.iconst 0, 1) := dk_3 (dk_at dksX4_isWord_0 7 rfl rfl)
theorem dX4_isWord_8 : decode cX4_isWord 8 = .ok (.istore 5, 2) := dk_54 5 (dk_at dksX4_isWord_0 8 rfl rfl)
theorem dX4_isWord_10 : decode cX4_isWord 10 = .ok (.aload_n 0, 1) := dk_42 (dk_at dksX4_isWord_0 10 rfl rfl)
theorem dX4_isWord_11 : decode cX4_isWord 11 = .ok (.aload_n 0, 1) := dk_42 (dk_at dksX4_isWord_0 11 rfl rfl)
theorem dX4_isWord_12 : decode cX4_isWord 12 = .ok (.getfield 96, 3) := dk_180 0 96 (dk_at dksX4_isWord_0 12 rfl rfl)
theorem dX4_isWord_15 : decode cX4_isWord 15 = .ok (.iload 5, 2) := dk_21 5 (dk_at dksX4_isWord_0 15 rfl rfl)
theorem dX4_isWord_17 : decode cX4_isWord 17 = .ok (.iadd, 1) := dk_96 (dk_at dksX4_isWord_0 17 rfl rfl)
theorem dX4_isWord_18 : decode cX4_isWord 18 = .ok (.invokevirtual 103, 3) := dk_182 0 103 (dk_at dksX4_isWord_0 18 rfl rfl)
theorem dX4_isWord_21 : decode cX4_isWord 21 = .ok (.ifCond .eq 35, 3) := dk_153 0 35 (dk_at dksX4_isWord_0 21 rfl rfl)
theorem dX4_isWord_24 : decode cX4_isWord 24 = .ok (.iload 5, 2) := dk_21 5 (dk_at dksX4_isWord_1 0 rfl rfl)
theorem dX4_isWord_26 : decode cX4_isWord 26 = .ok (.bipush 8, 2) := dk_16 8 (dk_at dksX4_isWord_1 2 rfl rfl)
theorem dX4_isWord_28 : decode cX4_isWord 28 = .ok (.if_icmp .ge 22, 3) := dk_162 0 22 (dk_at dksX4_isWord_1 4 rfl rfl)
theorem dX4_isWord_31 : decode cX4_isWord 31 = .ok (.lload_n 3, 1) := dk_33 (dk_at dksX4_isWord_1 7 rfl rfl)
theorem dX4_isWord_32 : decode cX4_isWord 32 = .ok (.bipush 8, 2) := dk_16 8 (dk_at dksX4_isWord_1 8 rfl rfl)
theorem dX4_isWord_34 : decode cX4_isWord 34 = .ok (.lshl, 1) := dk_121 (dk_at dksX4_isWord_1 10 rfl rfl)
theorem dX4_isWord_35 : decode cX4_isWord 35 = .ok (.aload_n 0, 1) := dk_42 (dk_at dksX4_isWord_1 11 rfl rfl)
theorem dX4_isWord_36 : decode cX4_isWord 36 = .ok (.getfield 7, 3) := dk_180 0 7 (dk_at dksX4_isWord_1 12 rfl rfl)
theorem dX4_isWord_39 : decode cX4_isWord 39 = .ok (.aload_n 0, 1) := dk_42 (dk_at dksX4_isWord_1 15 rfl rfl)
theorem dX4_isWord_40 : decode cX4_isWord 40 = .ok (.getfield 96, 3) := dk_180 0 96 (dk_at dksX4_isWord_1 16 rfl rfl)
theorem dX4_isWord_43 : decode cX4_isWord 43 = .ok (.iload 5, 2) := dk_21 5 (dk_at dksX4_isWord_1 19 rfl rfl)
theorem dX4_isWord_45 : decode cX4_isWord 45 = .ok (.iadd, 1) := dk_96 (dk_at dksX4_isWord_1 21 rfl rfl)
theorem dX4_isWord_46 : decode cX4_isWord 46 = .ok (.baload, 1) := dk_51 (dk_at dksX4_isWord_1 22 rfl rfl)
theorem dX4_isWord_47 : decode cX4_isWord 47 = .ok (.i2l, 1) := dk_133 (dk_at dksX4_isWord_1 23 rfl rfl)
theorem dX4_isWord_48 : decode cX4_isWord 48 = .ok (.lor, 1) := dk_129 (dk_at dksX4_isWord_2 0 rfl rfl)
theorem dX4_isWord_49 : decode cX4_isWord 49 = .ok (.lstore_n 3, 1) := dk_66 (dk_at dksX4_isWord_2 1 rfl rfl)
theorem dX4_isWord_50 : decode cX4_isWord 50 = .ok (.iinc 5 1, 3) := dk_132 5 1 (dk_at dksX4_isWord_2 2 rfl rfl)
theorem dX4_isWord_53 : decode cX4_isWord 53 = .ok (.goto (-43), 3) := dk_167 255 213 (dk_at dksX4_isWord_2 5 rfl rfl)
theorem dX4_isWord_56 : decode cX4_isWord 56 = .ok (.iload 5, 2) := dk_21 5 (dk_at dksX4_isWord_2 8 rfl rfl)
theorem dX4_isWord_58 : decode cX4_isWord 58 = .ok (.ifCond .le 20, 3) := dk_158 0 20 (dk_at dksX4_isWord_2 10 rfl rfl)
theorem dX4_isWord_61 : decode cX4_isWord 61 = .ok (.iload 5, 2) := dk_21 5 (dk_at dksX4_isWord_2 13 rfl rfl)
theorem dX4_isWord_63 : decode cX4_isWord 63 = .ok (.bipush 8, 2) := dk_16 8 (dk_at dksX4_isWord_2 15 rfl rfl)
theorem dX4_isWord_65 : decode cX4_isWord 65 = .ok (.if_icmp .ge 13, 3) := dk_162 0 13 (dk_at dksX4_isWord_2 17 rfl rfl)
theorem dX4_isWord_68 : decode cX4_isWord 68 = .ok (.lload_n 3, 1) := dk_33 (dk_at dksX4_isWord_2 20 rfl rfl)
theorem dX4_isWord_69 : decode cX4_isWord 69 = .ok (.lload_n 1, 1) := dk_31 (dk_at dksX4_isWord_2 21 rfl rfl)
theorem dX4_isWord_70 : decode cX4_isWord 70 = .ok (.lcmp, 1) := dk_148 (dk_at dksX4_isWord_2 22 rfl rfl)
theorem dX4_isWord_71 : decode cX4_isWord 71 = .ok (.ifCond .ne 7, 3) := dk_154 0 7 (dk_at dksX4_isWord_3 0 rfl rfl)
theorem dX4_isWord_74 : decode cX4_isWord 74 = .ok (.iconst 1, 1) := dk_4 (dk_at dksX4_isWord_3 3 rfl rfl)
theorem dX4_isWord_75 : decode cX4_isWord 75 = .ok (.goto 4, 3) := dk_167 0 4 (dk_at dksX4_isWord_3 4 rfl rfl)
theorem dX4_isWord_78 : decode cX4_isWord 78 = .ok (.iconst 0, 1) := dk_3 (dk_at dksX4_isWord_3 7 rfl rfl)
theorem dX4_isWord_79 : decode cX4_isWord 79 = .ok (.ireturn, 1) := dk_172 (dk_at dksX4_isWord_3 8 rfl rfl)
abbrev cX4_isLetter : ByteArray := prog_19_method_11_code
def yX4_isLetter : MethodName := ⟨RX4, "isLetter", "(I)Z"⟩
def dkwX4_isLetter_1 : List UInt8 := [51, 16, 122, 163, 0, 7, 4, 167, 0, 4, 3, 172]
abbrev dktX4_isLetter_1 : List UInt8 := dkwX4_isLetter_1 ++ []
def dkwX4_isLetter_0 : List UInt8 := [27, 42, 180, 0, 86, 162, 0, 29, 42, 180, 0, 7, 27, 51, 16, 97, 161, 0, 18, 42, 180, 0, 7, 27]
abbrev dktX4_isLetter_0 : List UInt8 := dkwX4_isLetter_0 ++ dktX4_isLetter_1
theorem dksX4_isLetter_0 : cX4_isLetter.data.toList.drop 0 = dktX4_isLetter_0 := by decide +kernel
theorem dksX4_isLetter_1 : cX4_isLetter.data.toList.drop 24 = dktX4_isLetter_1 := dk_seg dksX4_isLetter_0 24 rfl rfl
theorem dX4_isLetter_0 : decode cX4_isLetter 0 = .ok (.iload_n 1, 1) := dk_27 (dk_at dksX4_isLetter_0 0 rfl rfl)
theorem dX4_isLetter_1 : decode cX4_isLetter 1 = .ok (.aload_n 0, 1) := dk_42 (dk_at dksX4_isLetter_0 1 rfl rfl)
theorem dX4_isLetter_2 : decode cX4_isLetter 2 = .ok (.getfield 86, 3) := dk_180 0 86 (dk_at dksX4_isLetter_0 2 rfl rfl)
theorem dX4_isLetter_5 : decode cX4_isLetter 5 = .ok (.if_icmp .ge 29, 3) := dk_162 0 29 (dk_at dksX4_isLetter_0 5 rfl rfl)
theorem dX4_isLetter_8 : decode cX4_isLetter 8 = .ok (.aload_n 0, 1) := dk_42 (dk_at dksX4_isLetter_0 8 rfl rfl)
theorem dX4_isLetter_9 : decode cX4_isLetter 9 = .ok (.getfield 7, 3) := dk_180 0 7 (dk_at dksX4_isLetter_0 9 rfl rfl)
theorem dX4_isLetter_12 : decode cX4_isLetter 12 = .ok (.iload_n 1, 1) := dk_27 (dk_at dksX4_isLetter_0 12 rfl rfl)
theorem dX4_isLetter_13 : decode cX4_isLetter 13 = .ok (.baload, 1) := dk_51 (dk_at dksX4_isLetter_0 13 rfl rfl)
theorem dX4_isLetter_14 : decode cX4_isLetter 14 = .ok (.bipush 97, 2) := dk_16 97 (dk_at dksX4_isLetter_0 14 rfl rfl)
theorem dX4_isLetter_16 : decode cX4_isLetter 16 = .ok (.if_icmp .lt 18, 3) := dk_161 0 18 (dk_at dksX4_isLetter_0 16 rfl rfl)
theorem dX4_isLetter_19 : decode cX4_isLetter 19 = .ok (.aload_n 0, 1) := dk_42 (dk_at dksX4_isLetter_0 19 rfl rfl)
theorem dX4_isLetter_20 : decode cX4_isLetter 20 = .ok (.getfield 7, 3) := dk_180 0 7 (dk_at dksX4_isLetter_0 20 rfl rfl)
theorem dX4_isLetter_23 : decode cX4_isLetter 23 = .ok (.iload_n 1, 1) := dk_27 (dk_at dksX4_isLetter_0 23 rfl rfl)
theorem dX4_isLetter_24 : decode cX4_isLetter 24 = .ok (.baload, 1) := dk_51 (dk_at dksX4_isLetter_1 0 rfl rfl)
theorem dX4_isLetter_25 : decode cX4_isLetter 25 = .ok (.bipush 122, 2) := dk_16 122 (dk_at dksX4_isLetter_1 1 rfl rfl)
theorem dX4_isLetter_27 : decode cX4_isLetter 27 = .ok (.if_icmp .gt 7, 3) := dk_163 0 7 (dk_at dksX4_isLetter_1 3 rfl rfl)
theorem dX4_isLetter_30 : decode cX4_isLetter 30 = .ok (.iconst 1, 1) := dk_4 (dk_at dksX4_isLetter_1 6 rfl rfl)
theorem dX4_isLetter_31 : decode cX4_isLetter 31 = .ok (.goto 4, 3) := dk_167 0 4 (dk_at dksX4_isLetter_1 7 rfl rfl)
theorem dX4_isLetter_34 : decode cX4_isLetter 34 = .ok (.iconst 0, 1) := dk_3 (dk_at dksX4_isLetter_1 10 rfl rfl)
theorem dX4_isLetter_35 : decode cX4_isLetter 35 = .ok (.ireturn, 1) := dk_172 (dk_at dksX4_isLetter_1 11 rfl rfl)
abbrev cX4_fails : ByteArray := prog_19_method_8_code
def yX4_fails : MethodName := ⟨RX4, "fails", "(II)Z"⟩
def dkwX4_fails_0 : List UInt8 := [42, 180, 0, 93, 154, 0, 15, 42, 4, 16, 8, 28, 104, 96, 27, 96, 181, 0, 93, 3, 172]
abbrev dktX4_fails_0 : List UInt8 := dkwX4_fails_0 ++ []
theorem dksX4_fails_0 : cX4_fails.data.toList.drop 0 = dktX4_fails_0 := by decide +kernel
theorem dX4_fails_0 : decode cX4_fails 0 = .ok (.aload_n 0, 1) := dk_42 (dk_at dksX4_fails_0 0 rfl rfl)
theorem dX4_fails_1 : decode cX4_fails 1 = .ok (.getfield 93, 3) := dk_180 0 93 (dk_at dksX4_fails_0 1 rfl rfl)
theorem dX4_fails_4 : decode cX4_fails 4 = .ok (.ifCond .ne 15, 3) := dk_154 0 15 (dk_at dksX4_fails_0 4 rfl rfl)
theorem dX4_fails_7 : decode cX4_fails 7 = .ok (.aload_n 0, 1) := dk_42 (dk_at dksX4_fails_0 7 rfl rfl)
theorem dX4_fails_8 : decode cX4_fails 8 = .ok (.iconst 1, 1) := dk_4 (dk_at dksX4_fails_0 8 rfl rfl)
theorem dX4_fails_9 : decode cX4_fails 9 = .ok (.bipush 8, 2) := dk_16 8 (dk_at dksX4_fails_0 9 rfl rfl)
theorem dX4_fails_11 : decode cX4_fails 11 = .ok (.iload_n 2, 1) := dk_28 (dk_at dksX4_fails_0 11 rfl rfl)
theorem dX4_fails_12 : decode cX4_fails 12 = .ok (.imul, 1) := dk_104 (dk_at dksX4_fails_0 12 rfl rfl)
theorem dX4_fails_13 : decode cX4_fails 13 = .ok (.iadd, 1) := dk_96 (dk_at dksX4_fails_0 13 rfl rfl)
theorem dX4_fails_14 : decode cX4_fails 14 = .ok (.iload_n 1, 1) := dk_27 (dk_at dksX4_fails_0 14 rfl rfl)
theorem dX4_fails_15 : decode cX4_fails 15 = .ok (.iadd, 1) := dk_96 (dk_at dksX4_fails_0 15 rfl rfl)
theorem dX4_fails_16 : decode cX4_fails 16 = .ok (.putfield 93, 3) := dk_181 0 93 (dk_at dksX4_fails_0 16 rfl rfl)
theorem dX4_fails_19 : decode cX4_fails 19 = .ok (.iconst 0, 1) := dk_3 (dk_at dksX4_fails_0 19 rfl rfl)
theorem dX4_fails_20 : decode cX4_fails 20 = .ok (.ireturn, 1) := dk_172 (dk_at dksX4_fails_0 20 rfl rfl)
abbrev cX4_yardLineHere : ByteArray := prog_19_method_35_code
def yX4_yardLineHere : MethodName := ⟨RX4, "yardLineHere", "(I)Z"⟩
def dkwX4_yardLineHere_2 : List UInt8 := [182, 0, 237, 167, 0, 7, 42, 182, 0, 240, 172]
abbrev dktX4_yardLineHere_2 : List UInt8 := dkwX4_yardLineHere_2 ++ []
def dkwX4_yardLineHere_1 : List UInt8 := [154, 0, 10, 42, 7, 27, 182, 0, 117, 172, 42, 20, 0, 235, 182, 0, 107, 153, 0, 11, 42, 27]
abbrev dktX4_yardLineHere_1 : List UInt8 := dkwX4_yardLineHere_1 ++ dktX4_yardLineHere_2
def dkwX4_yardLineHere_0 : List UInt8 := [42, 20, 0, 230, 182, 0, 107, 153, 0, 9, 42, 27, 182, 0, 232, 172, 42, 180, 0, 26, 3, 46]
abbrev dktX4_yardLineHere_0 : List UInt8 := dkwX4_yardLineHere_0 ++ dktX4_yardLineHere_1
theorem dksX4_yardLineHere_0 : cX4_yardLineHere.data.toList.drop 0 = dktX4_yardLineHere_0 := by decide +kernel
theorem dksX4_yardLineHere_1 : cX4_yardLineHere.data.toList.drop 22 = dktX4_yardLineHere_1 := dk_seg dksX4_yardLineHere_0 22 rfl rfl
theorem dksX4_yardLineHere_2 : cX4_yardLineHere.data.toList.drop 44 = dktX4_yardLineHere_2 := dk_seg dksX4_yardLineHere_1 22 rfl rfl
theorem dX4_yardLineHere_0 : decode cX4_yardLineHere 0 = .ok (.aload_n 0, 1) := dk_42 (dk_at dksX4_yardLineHere_0 0 rfl rfl)
theorem dX4_yardLineHere_1 : decode cX4_yardLineHere 1 = .ok (.ldc2_w 230, 3) := dk_20 0 230 (dk_at dksX4_yardLineHere_0 1 rfl rfl)
theorem dX4_yardLineHere_4 : decode cX4_yardLineHere 4 = .ok (.invokevirtual 107, 3) := dk_182 0 107 (dk_at dksX4_yardLineHere_0 4 rfl rfl)
theorem dX4_yardLineHere_7 : decode cX4_yardLineHere 7 = .ok (.ifCond .eq 9, 3) := dk_153 0 9 (dk_at dksX4_yardLineHere_0 7 rfl rfl)
theorem dX4_yardLineHere_10 : decode cX4_yardLineHere 10 = .ok (.aload_n 0, 1) := dk_42 (dk_at dksX4_yardLineHere_0 10 rfl rfl)
theorem dX4_yardLineHere_11 : decode cX4_yardLineHere 11 = .ok (.iload_n 1, 1) := dk_27 (dk_at dksX4_yardLineHere_0 11 rfl rfl)
theorem dX4_yardLineHere_12 : decode cX4_yardLineHere 12 = .ok (.invokevirtual 232, 3) := dk_182 0 232 (dk_at dksX4_yardLineHere_0 12 rfl rfl)
theorem dX4_yardLineHere_15 : decode cX4_yardLineHere 15 = .ok (.ireturn, 1) := dk_172 (dk_at dksX4_yardLineHere_0 15 rfl rfl)
theorem dX4_yardLineHere_16 : decode cX4_yardLineHere 16 = .ok (.aload_n 0, 1) := dk_42 (dk_at dksX4_yardLineHere_0 16 rfl rfl)
theorem dX4_yardLineHere_17 : decode cX4_yardLineHere 17 = .ok (.getfield 26, 3) := dk_180 0 26 (dk_at dksX4_yardLineHere_0 17 rfl rfl)
theorem dX4_yardLineHere_20 : decode cX4_yardLineHere 20 = .ok (.iconst 0, 1) := dk_3 (dk_at dksX4_yardLineHere_0 20 rfl rfl)
theorem dX4_yardLineHere_21 : decode cX4_yardLineHere 21 = .ok (.iaload, 1) := dk_46 (dk_at dksX4_yardLineHere_0 21 rfl rfl)
theorem dX4_yardLineHere_22 : decode cX4_yardLineHere 22 = .ok (.ifCond .ne 10, 3) := dk_154 0 10 (dk_at dksX4_yardLineHere_1 0 rfl rfl)
theorem dX4_yardLineHere_25 : decode cX4_yardLineHere 25 = .ok (.aload_n 0, 1) := dk_42 (dk_at dksX4_yardLineHere_1 3 rfl rfl)
theorem dX4_yardLineHere_26 : decode cX4_yardLineHere 26 = .ok (.iconst 4, 1) := dk_7 (dk_at dksX4_yardLineHere_1 4 rfl rfl)
theorem dX4_yardLineHere_27 : decode cX4_yardLineHere 27 = .ok (.iload_n 1, 1) := dk_27 (dk_at dksX4_yardLineHere_1 5 rfl rfl)
theorem dX4_yardLineHere_28 : decode cX4_yardLineHere 28 = .ok (.invokevirtual 117, 3) := dk_182 0 117 (dk_at dksX4_yardLineHere_1 6 rfl rfl)
theorem dX4_yardLineHere_31 : decode cX4_yardLineHere 31 = .ok (.ireturn, 1) := dk_172 (dk_at dksX4_yardLineHere_1 9 rfl rfl)
theorem dX4_yardLineHere_32 : decode cX4_yardLineHere 32 = .ok (.aload_n 0, 1) := dk_42 (dk_at dksX4_yardLineHere_1 10 rfl rfl)
theorem dX4_yardLineHere_33 : decode cX4_yardLineHere 33 = .ok (.ldc2_w 235, 3) := dk_20 0 235 (dk_at dksX4_yardLineHere_1 11 rfl rfl)
theorem dX4_yardLineHere_36 : decode cX4_yardLineHere 36 = .ok (.invokevirtual 107, 3) := dk_182 0 107 (dk_at dksX4_yardLineHere_1 14 rfl rfl)
theorem dX4_yardLineHere_39 : decode cX4_yardLineHere 39 = .ok (.ifCond .eq 11, 3) := dk_153 0 11 (dk_at dksX4_yardLineHere_1 17 rfl rfl)
theorem dX4_yardLineHere_42 : decode cX4_yardLineHere 42 = .ok (.aload_n 0, 1) := dk_42 (dk_at dksX4_yardLineHere_1 20 rfl rfl)
theorem dX4_yardLineHere_43 : decode cX4_yardLineHere 43 = .ok (.iload_n 1, 1) := dk_27 (dk_at dksX4_yardLineHere_1 21 rfl rfl)
theorem dX4_yardLineHere_44 : decode cX4_yardLineHere 44 = .ok (.invokevirtual 237, 3) := dk_182 0 237 (dk_at dksX4_yardLineHere_2 0 rfl rfl)
theorem dX4_yardLineHere_47 : decode cX4_yardLineHere 47 = .ok (.goto 7, 3) := dk_167 0 7 (dk_at dksX4_yardLineHere_2 3 rfl rfl)
theorem dX4_yardLineHere_50 : decode cX4_yardLineHere 50 = .ok (.aload_n 0, 1) := dk_42 (dk_at dksX4_yardLineHere_2 6 rfl rfl)
theorem dX4_yardLineHere_51 : decode cX4_yardLineHere 51 = .ok (.invokevirtual 240, 3) := dk_182 0 240 (dk_at dksX4_yardLineHere_2 7 rfl rfl)
theorem dX4_yardLineHere_54 : decode cX4_yardLineHere 54 = .ok (.ireturn, 1) := dk_172 (dk_at dksX4_yardLineHere_2 10 rfl rfl)
abbrev cX4_isYardHere : ByteArray := prog_19_method_32_code
def yX4_isYardHere : MethodName := ⟨RX4, "isYardHere", "(I)Z"⟩
def dkwX4_isYardHere_1 : List UInt8 := [16, 9, 182, 0, 226, 154, 0, 5, 3, 172, 42, 180, 0, 26, 3, 4, 79, 4, 172]
abbrev dktX4_isYardHere_1 : List UInt8 := dkwX4_isYardHere_1 ++ []
def dkwX4_isYardHere_0 : List UInt8 := [42, 180, 0, 26, 3, 46, 158, 0, 10, 42, 7, 27, 182, 0, 117, 172, 42, 182, 0, 111, 42, 4, 4]
abbrev dktX4_isYardHere_0 : List UInt8 := dkwX4_isYardHere_0 ++ dktX4_isYardHere_1
theorem dksX4_isYardHere_0 : cX4_isYardHere.data.toList.drop 0 = dktX4_isYardHere_0 := by decide +kernel
theorem dksX4_isYardHere_1 : cX4_isYardHere.data.toList.drop 23 = dktX4_isYardHere_1 := dk_seg dksX4_isYardHere_0 23 rfl rfl
theorem dX4_isYardHere_0 : decode cX4_isYardHere 0 = .ok (.aload_n 0, 1) := dk_42 (dk_at dksX4_isYardHere_0 0 rfl rfl)
theorem dX4_isYardHere_1 : decode cX4_isYardHere 1 = .ok (.getfield 26, 3) := dk_180 0 26 (dk_at dksX4_isYardHere_0 1 rfl rfl)
theorem dX4_isYardHere_4 : decode cX4_isYardHere 4 = .ok (.iconst 0, 1) := dk_3 (dk_at dksX4_isYardHere_0 4 rfl rfl)
theorem dX4_isYardHere_5 : decode cX4_isYardHere 5 = .ok (.iaload, 1) := dk_46 (dk_at dksX4_isYardHere_0 5 rfl rfl)
theorem dX4_isYardHere_6 : decode cX4_isYardHere 6 = .ok (.ifCond .le 10, 3) := dk_158 0 10 (dk_at dksX4_isYardHere_0 6 rfl rfl)
theorem dX4_isYardHere_9 : decode cX4_isYardHere 9 = .ok (.aload_n 0, 1) := dk_42 (dk_at dksX4_isYardHere_0 9 rfl rfl)
theorem dX4_isYardHere_10 : decode cX4_isYardHere 10 = .ok (.iconst 4, 1) := dk_7 (dk_at dksX4_isYardHere_0 10 rfl rfl)
theorem dX4_isYardHere_11 : decode cX4_isYardHere 11 = .ok (.iload_n 1, 1) := dk_27 (dk_at dksX4_isYardHere_0 11 rfl rfl)
theorem dX4_isYardHere_12 : decode cX4_isYardHere 12 = .ok (.invokevirtual 117, 3) := dk_182 0 117 (dk_at dksX4_isYardHere_0 12 rfl rfl)
theorem dX4_isYardHere_15 : decode cX4_isYardHere 15 = .ok (.ireturn, 1) := dk_172 (dk_at dksX4_isYardHere_0 15 rfl rfl)
theorem dX4_isYardHere_16 : decode cX4_isYardHere 16 = .ok (.aload_n 0, 1) := dk_42 (dk_at dksX4_isYardHere_0 16 rfl rfl)
theorem dX4_isYardHere_17 : decode cX4_isYardHere 17 = .ok (.invokevirtual 111, 3) := dk_182 0 111 (dk_at dksX4_isYardHere_0 17 rfl rfl)
theorem dX4_isYardHere_20 : decode cX4_isYardHere 20 = .ok (.aload_n 0, 1) := dk_42 (dk_at dksX4_isYardHere_0 20 rfl rfl)
theorem dX4_isYardHere_21 : decode cX4_isYardHere 21 = .ok (.iconst 1, 1) := dk_4 (dk_at dksX4_isYardHere_0 21 rfl rfl)
theorem dX4_isYardHere_22 : decode cX4_isYardHere 22 = .ok (.iconst 1, 1) := dk_4 (dk_at dksX4_isYardHere_0 22 rfl rfl)
theorem dX4_isYardHere_23 : decode cX4_isYardHere 23 = .ok (.bipush 9, 2) := dk_16 9 (dk_at dksX4_isYardHere_1 0 rfl rfl)
theorem dX4_isYardHere_25 : decode cX4_isYardHere 25 = .ok (.invokevirtual 226, 3) := dk_182 0 226 (dk_at dksX4_isYardHere_1 2 rfl rfl)
theorem dX4_isYardHere_28 : decode cX4_isYardHere 28 = .ok (.ifCond .ne 5, 3) := dk_154 0 5 (dk_at dksX4_isYardHere_1 5 rfl rfl)
theorem dX4_isYardHere_31 : decode cX4_isYardHere 31 = .ok (.iconst 0, 1) := dk_3 (dk_at dksX4_isYardHere_1 8 rfl rfl)
theorem dX4_isYardHere_32 : decode cX4_isYardHere 32 = .ok (.ireturn, 1) := dk_172 (dk_at dksX4_isYardHere_1 9 rfl rfl)
theorem dX4_isYardHere_33 : decode cX4_isYardHere 33 = .ok (.aload_n 0, 1) := dk_42 (dk_at dksX4_isYardHere_1 10 rfl rfl)
theorem dX4_isYardHere_34 : decode cX4_isYardHere 34 = .ok (.getfield 26, 3) := dk_180 0 26 (dk_at dksX4_isYardHere_1 11 rfl rfl)
theorem dX4_isYardHere_37 : decode cX4_isYardHere 37 = .ok (.iconst 0, 1) := dk_3 (dk_at dksX4_isYardHere_1 14 rfl rfl)
theorem dX4_isYardHere_38 : decode cX4_isYardHere 38 = .ok (.iconst 1, 1) := dk_4 (dk_at dksX4_isYardHere_1 15 rfl rfl)
theorem dX4_isYardHere_39 : decode cX4_isYardHere 39 = .ok (.iastore, 1) := dk_79 (dk_at dksX4_isYardHere_1 16 rfl rfl)
theorem dX4_isYardHere_40 : decode cX4_isYardHere 40 = .ok (.iconst 1, 1) := dk_4 (dk_at dksX4_isYardHere_1 17 rfl rfl)
theorem dX4_isYardHere_41 : decode cX4_isYardHere 41 = .ok (.ireturn, 1) := dk_172 (dk_at dksX4_isYardHere_1 18 rfl rfl)
abbrev cX4_passWord : ByteArray := prog_19_method_13_code
def yX4_passWord : MethodName := ⟨RX4, "passWord", "()V"⟩
def dkwX4_passWord_1 : List UInt8 := [177]
abbrev dktX4_passWord_1 : List UInt8 := dkwX4_passWord_1 ++ []
def dkwX4_passWord_0 : List UInt8 := [42, 42, 180, 0, 96, 182, 0, 103, 153, 0, 16, 42, 89, 180, 0, 96, 4, 96, 181, 0, 96, 167, 255, 235]
abbrev dktX4_passWord_0 : List UInt8 := dkwX4_passWord_0 ++ dktX4_passWord_1
theorem dksX4_passWord_0 : cX4_passWord.data.toList.drop 0 = dktX4_passWord_0 := by decide +kernel
theorem dksX4_passWord_1 : cX4_passWord.data.toList.drop 24 = dktX4_passWord_1 := dk_seg dksX4_passWord_0 24 rfl rfl
theorem dX4_passWord_0 : decode cX4_passWord 0 = .ok (.aload_n 0, 1) := dk_42 (dk_at dksX4_passWord_0 0 rfl rfl)
theorem dX4_passWord_1 : decode cX4_passWord 1 = .ok (.aload_n 0, 1) := dk_42 (dk_at dksX4_passWord_0 1 rfl rfl)
theorem dX4_passWord_2 : decode cX4_passWord 2 = .ok (.getfield 96, 3) := dk_180 0 96 (dk_at dksX4_passWord_0 2 rfl rfl)
theorem dX4_passWord_5 : decode cX4_passWord 5 = .ok (.invokevirtual 103, 3) := dk_182 0 103 (dk_at dksX4_passWord_0 5 rfl rfl)
theorem dX4_passWord_8 : decode cX4_passWord 8 = .ok (.ifCond .eq 16, 3) := dk_153 0 16 (dk_at dksX4_passWord_0 8 rfl rfl)
theorem dX4_passWord_11 : decode cX4_passWord 11 = .ok (.aload_n 0, 1) := dk_42 (dk_at dksX4_passWord_0 11 rfl rfl)
theorem dX4_passWord_12 : decode cX4_passWord 12 = .ok (.dup, 1) := dk_89 (dk_at dksX4_passWord_0 12 rfl rfl)
theorem dX4_passWord_13 : decode cX4_passWord 13 = .ok (.getfield 96, 3) := dk_180 0 96 (dk_at dksX4_passWord_0 13 rfl rfl)
theorem dX4_passWord_16 : decode cX4_passWord 16 = .ok (.iconst 1, 1) := dk_4 (dk_at dksX4_passWord_0 16 rfl rfl)
theorem dX4_passWord_17 : decode cX4_passWord 17 = .ok (.iadd, 1) := dk_96 (dk_at dksX4_passWord_0 17 rfl rfl)
theorem dX4_passWord_18 : decode cX4_passWord 18 = .ok (.putfield 96, 3) := dk_181 0 96 (dk_at dksX4_passWord_0 18 rfl rfl)
theorem dX4_passWord_21 : decode cX4_passWord 21 = .ok (.goto (-21), 3) := dk_167 255 235 (dk_at dksX4_passWord_0 21 rfl rfl)
theorem dX4_passWord_24 : decode cX4_passWord 24 = .ok (.return_, 1) := dk_177 (dk_at dksX4_passWord_1 0 rfl rfl)
abbrev cX4_cellHere : ByteArray := prog_19_method_31_code
def yX4_cellHere : MethodName := ⟨RX4, "cellHere", "(III)Z"⟩
def dkwX4_cellHere_0 : List UInt8 := [42, 28, 29, 182, 0, 175, 154, 0, 5, 3, 172, 42, 180, 0, 26, 27, 42, 180, 0, 121, 79, 4, 172]
abbrev dktX4_cellHere_0 : List UInt8 := dkwX4_cellHere_0 ++ []
theorem dksX4_cellHere_0 : cX4_cellHere.data.toList.drop 0 = dktX4_cellHere_0 := by decide +kernel
theorem dX4_cellHere_0 : decode cX4_cellHere 0 = .ok (.aload_n 0, 1) := dk_42 (dk_at dksX4_cellHere_0 0 rfl rfl)
theorem dX4_cellHere_1 : decode cX4_cellHere 1 = .ok (.iload_n 2, 1) := dk_28 (dk_at dksX4_cellHere_0 1 rfl rfl)
theorem dX4_cellHere_2 : decode cX4_cellHere 2 = .ok (.iload_n 3, 1) := dk_29 (dk_at dksX4_cellHere_0 2 rfl rfl)
theorem dX4_cellHere_3 : decode cX4_cellHere 3 = .ok (.invokevirtual 175, 3) := dk_182 0 175 (dk_at dksX4_cellHere_0 3 rfl rfl)
theorem dX4_cellHere_6 : decode cX4_cellHere 6 = .ok (.ifCond .ne 5, 3) := dk_154 0 5 (dk_at dksX4_cellHere_0 6 rfl rfl)
theorem dX4_cellHere_9 : decode cX4_cellHere 9 = .ok (.iconst 0, 1) := dk_3 (dk_at dksX4_cellHere_0 9 rfl rfl)
theorem dX4_cellHere_10 : decode cX4_cellHere 10 = .ok (.ireturn, 1) := dk_172 (dk_at dksX4_cellHere_0 10 rfl rfl)
theorem dX4_cellHere_11 : decode cX4_cellHere 11 = .ok (.aload_n 0, 1) := dk_42 (dk_at dksX4_cellHere_0 11 rfl rfl)
theorem dX4_cellHere_12 : decode cX4_cellHere 12 = .ok (.getfield 26, 3) := dk_180 0 26 (dk_at dksX4_cellHere_0 12 rfl rfl)
theorem dX4_cellHere_15 : decode cX4_cellHere 15 = .ok (.iload_n 1, 1) := dk_27 (dk_at dksX4_cellHere_0 15 rfl rfl)
theorem dX4_cellHere_16 : decode cX4_cellHere 16 = .ok (.aload_n 0, 1) := dk_42 (dk_at dksX4_cellHere_0 16 rfl rfl)
theorem dX4_cellHere_17 : decode cX4_cellHere 17 = .ok (.getfield 121, 3) := dk_180 0 121 (dk_at dksX4_cellHere_0 17 rfl rfl)
theorem dX4_cellHere_20 : decode cX4_cellHere 20 = .ok (.iastore, 1) := dk_79 (dk_at dksX4_cellHere_0 20 rfl rfl)
theorem dX4_cellHere_21 : decode cX4_cellHere 21 = .ok (.iconst 1, 1) := dk_4 (dk_at dksX4_cellHere_0 21 rfl rfl)
theorem dX4_cellHere_22 : decode cX4_cellHere 22 = .ok (.ireturn, 1) := dk_172 (dk_at dksX4_cellHere_0 22 rfl rfl)
abbrev cX4_numberHere : ByteArray := prog_19_method_15_code
def yX4_numberHere : MethodName := ⟨RX4, "numberHere", "(II)Z"⟩
def dkwX4_numberHere_5 : List UInt8 := [4, 29, 182, 0, 117, 153, 0, 7, 4, 167, 0, 4, 3, 172]
abbrev dktX4_numberHere_5 : List UInt8 := dkwX4_numberHere_5 ++ []
def dkwX4_numberHere_4 : List UInt8 := [42, 180, 0, 96, 29, 100, 8, 163, 0, 16, 21, 4, 133, 27, 133, 28, 133, 184, 0, 124, 154, 0, 12, 42]
abbrev dktX4_numberHere_4 : List UInt8 := dkwX4_numberHere_4 ++ dktX4_numberHere_5
def dkwX4_numberHere_3 : List UInt8 := [16, 48, 100, 54, 4, 42, 89, 180, 0, 96, 4, 96, 181, 0, 96, 167, 255, 205, 42, 21, 4, 181, 0, 121]
abbrev dktX4_numberHere_3 : List UInt8 := dkwX4_numberHere_3 ++ dktX4_numberHere_4
def dkwX4_numberHere_2 : List UInt8 := [180, 0, 96, 29, 100, 8, 162, 0, 23, 16, 10, 21, 4, 104, 42, 180, 0, 7, 42, 180, 0, 96, 51, 96]
abbrev dktX4_numberHere_2 : List UInt8 := dkwX4_numberHere_2 ++ dktX4_numberHere_3
def dkwX4_numberHere_1 : List UInt8 := [182, 0, 117, 172, 42, 180, 0, 96, 62, 3, 54, 4, 42, 42, 180, 0, 96, 182, 0, 114, 153, 0, 46, 42]
abbrev dktX4_numberHere_1 : List UInt8 := dkwX4_numberHere_1 ++ dktX4_numberHere_2
def dkwX4_numberHere_0 : List UInt8 := [42, 182, 0, 99, 87, 42, 42, 180, 0, 96, 182, 0, 114, 154, 0, 13, 42, 3, 42, 180, 0, 96]
abbrev dktX4_numberHere_0 : List UInt8 := dkwX4_numberHere_0 ++ dktX4_numberHere_1
theorem dksX4_numberHere_0 : cX4_numberHere.data.toList.drop 0 = dktX4_numberHere_0 := by decide +kernel
theorem dksX4_numberHere_1 : cX4_numberHere.data.toList.drop 22 = dktX4_numberHere_1 := dk_seg dksX4_numberHere_0 22 rfl rfl
theorem dksX4_numberHere_2 : cX4_numberHere.data.toList.drop 46 = dktX4_numberHere_2 := dk_seg dksX4_numberHere_1 24 rfl rfl
theorem dksX4_numberHere_3 : cX4_numberHere.data.toList.drop 70 = dktX4_numberHere_3 := dk_seg dksX4_numberHere_2 24 rfl rfl
theorem dksX4_numberHere_4 : cX4_numberHere.data.toList.drop 94 = dktX4_numberHere_4 := dk_seg dksX4_numberHere_3 24 rfl rfl
theorem dksX4_numberHere_5 : cX4_numberHere.data.toList.drop 118 = dktX4_numberHere_5 := dk_seg dksX4_numberHere_4 24 rfl rfl
theorem dX4_numberHere_0 : decode cX4_numberHere 0 = .ok (.aload_n 0, 1) := dk_42 (dk_at dksX4_numberHere_0 0 rfl rfl)
theorem dX4_numberHere_1 : decode cX4_numberHere 1 = .ok (.invokevirtual 99, 3) := dk_182 0 99 (dk_at dksX4_numberHere_0 1 rfl rfl)
theorem dX4_numberHere_4 : decode cX4_numberHere 4 = .ok (.pop, 1) := dk_87 (dk_at dksX4_numberHere_0 4 rfl rfl)
theorem dX4_numberHere_5 : decode cX4_numberHere 5 = .ok (.aload_n 0, 1) := dk_42 (dk_at dksX4_numberHere_0 5 rfl rfl)
theorem dX4_numberHere_6 : decode cX4_numberHere 6 = .ok (.aload_n 0, 1) := dk_42 (dk_at dksX4_numberHere_0 6 rfl rfl)
theorem dX4_numberHere_7 : decode cX4_numberHere 7 = .ok (.getfield 96, 3) := dk_180 0 96 (dk_at dksX4_numberHere_0 7 rfl rfl)
theorem dX4_numberHere_10 : decode cX4_numberHere 10 = .ok (.invokevirtual 114, 3) := dk_182 0 114 (dk_at dksX4_numberHere_0 10 rfl rfl)
theorem dX4_numberHere_13 : decode cX4_numberHere 13 = .ok (.ifCond .ne 13, 3) := dk_154 0 13 (dk_at dksX4_numberHere_0 13 rfl rfl)
theorem dX4_numberHere_16 : decode cX4_numberHere 16 = .ok (.aload_n 0, 1) := dk_42 (dk_at dksX4_numberHere_0 16 rfl rfl)
theorem dX4_numberHere_17 : decode cX4_numberHere 17 = .ok (.iconst 0, 1) := dk_3 (dk_at dksX4_numberHere_0 17 rfl rfl)
theorem dX4_numberHere_18 : decode cX4_numberHere 18 = .ok (.aload_n 0, 1) := dk_42 (dk_at dksX4_numberHere_0 18 rfl rfl)
theorem dX4_numberHere_19 : decode cX4_numberHere 19 = .ok (.getfield 96, 3) := dk_180 0 96 (dk_at dksX4_numberHere_0 19 rfl rfl)
theorem dX4_numberHere_22 : decode cX4_numberHere 22 = .ok (.invokevirtual 117, 3) := dk_182 0 117 (dk_at dksX4_numberHere_1 0 rfl rfl)
theorem dX4_numberHere_25 : decode cX4_numberHere 25 = .ok (.ireturn, 1) := dk_172 (dk_at dksX4_numberHere_1 3 rfl rfl)
theorem dX4_numberHere_26 : decode cX4_numberHere 26 = .ok (.aload_n 0, 1) := dk_42 (dk_at dksX4_numberHere_1 4 rfl rfl)
theorem dX4_numberHere_27 : decode cX4_numberHere 27 = .ok (.getfield 96, 3) := dk_180 0 96 (dk_at dksX4_numberHere_1 5 rfl rfl)
theorem dX4_numberHere_30 : decode cX4_numberHere 30 = .ok (.istore_n 3, 1) := dk_62 (dk_at dksX4_numberHere_1 8 rfl rfl)
theorem dX4_numberHere_31 : decode cX4_numberHere 31 = .ok (.iconst 0, 1) := dk_3 (dk_at dksX4_numberHere_1 9 rfl rfl)
theorem dX4_numberHere_32 : decode cX4_numberHere 32 = .ok (.istore 4, 2) := dk_54 4 (dk_at dksX4_numberHere_1 10 rfl rfl)
theorem dX4_numberHere_34 : decode cX4_numberHere 34 = .ok (.aload_n 0, 1) := dk_42 (dk_at dksX4_numberHere_1 12 rfl rfl)
theorem dX4_numberHere_35 : decode cX4_numberHere 35 = .ok (.aload_n 0, 1) := dk_42 (dk_at dksX4_numberHere_1 13 rfl rfl)
theorem dX4_numberHere_36 : decode cX4_numberHere 36 = .ok (.getfield 96, 3) := dk_180 0 96 (dk_at dksX4_numberHere_1 14 rfl rfl)
theorem dX4_numberHere_39 : decode cX4_numberHere 39 = .ok (.invokevirtual 114, 3) := dk_182 0 114 (dk_at dksX4_numberHere_1 17 rfl rfl)
theorem dX4_numberHere_42 : decode cX4_numberHere 42 = .ok (.ifCond .eq 46, 3) := dk_153 0 46 (dk_at dksX4_numberHere_1 20 rfl rfl)
theorem dX4_numberHere_45 : decode cX4_numberHere 45 = .ok (.aload_n 0, 1) := dk_42 (dk_at dksX4_numberHere_1 23 rfl rfl)
theorem dX4_numberHere_46 : decode cX4_numberHere 46 = .ok (.getfield 96, 3) := dk_180 0 96 (dk_at dksX4_numberHere_2 0 rfl rfl)
theorem dX4_numberHere_49 : decode cX4_numberHere 49 = .ok (.iload_n 3, 1) := dk_29 (dk_at dksX4_numberHere_2 3 rfl rfl)
theorem dX4_numberHere_50 : decode cX4_numberHere 50 = .ok (.isub, 1) := dk_100 (dk_at dksX4_numberHere_2 4 rfl rfl)
theorem dX4_numberHere_51 : decode cX4_numberHere 51 = .ok (.iconst 5, 1) := dk_8 (dk_at dksX4_numberHere_2 5 rfl rfl)
theorem dX4_numberHere_52 : decode cX4_numberHere 52 = .ok (.if_icmp .ge 23, 3) := dk_162 0 23 (dk_at dksX4_numberHere_2 6 rfl rfl)
theorem dX4_numberHere_55 : decode cX4_numberHere 55 = .ok (.bipush 10, 2) := dk_16 10 (dk_at dksX4_numberHere_2 9 rfl rfl)
theorem dX4_numberHere_57 : decode cX4_numberHere 57 = .ok (.iload 4, 2) := dk_21 4 (dk_at dksX4_numberHere_2 11 rfl rfl)
theorem dX4_numberHere_59 : decode cX4_numberHere 59 = .ok (.imul, 1) := dk_104 (dk_at dksX4_numberHere_2 13 rfl rfl)
theorem dX4_numberHere_60 : decode cX4_numberHere 60 = .ok (.aload_n 0, 1) := dk_42 (dk_at dksX4_numberHere_2 14 rfl rfl)
theorem dX4_numberHere_61 : decode cX4_numberHere 61 = .ok (.getfield 7, 3) := dk_180 0 7 (dk_at dksX4_numberHere_2 15 rfl rfl)
theorem dX4_numberHere_64 : decode cX4_numberHere 64 = .ok (.aload_n 0, 1) := dk_42 (dk_at dksX4_numberHere_2 18 rfl rfl)
theorem dX4_numberHere_65 : decode cX4_numberHere 65 = .ok (.getfield 96, 3) := dk_180 0 96 (dk_at dksX4_numberHere_2 19 rfl rfl)
theorem dX4_numberHere_68 : decode cX4_numberHere 68 = .ok (.baload, 1) := dk_51 (dk_at dksX4_numberHere_2 22 rfl rfl)
theorem dX4_numberHere_69 : decode cX4_numberHere 69 = .ok (.iadd, 1) := dk_96 (dk_at dksX4_numberHere_2 23 rfl rfl)
theorem dX4_numberHere_70 : decode cX4_numberHere 70 = .ok (.bipush 48, 2) := dk_16 48 (dk_at dksX4_numberHere_3 0 rfl rfl)
theorem dX4_numberHere_72 : decode cX4_numberHere 72 = .ok (.isub, 1) := dk_100 (dk_at dksX4_numberHere_3 2 rfl rfl)
theorem dX4_numberHere_73 : decode cX4_numberHere 73 = .ok (.istore 4, 2) := dk_54 4 (dk_at dksX4_numberHere_3 3 rfl rfl)
theorem dX4_numberHere_75 : decode cX4_numberHere 75 = .ok (.aload_n 0, 1) := dk_42 (dk_at dksX4_numberHere_3 5 rfl rfl)
theorem dX4_numberHere_76 : decode cX4_numberHere 76 = .ok (.dup, 1) := dk_89 (dk_at dksX4_numberHere_3 6 rfl rfl)
theorem dX4_numberHere_77 : decode cX4_numberHere 77 = .ok (.getfield 96, 3) := dk_180 0 96 (dk_at dksX4_numberHere_3 7 rfl rfl)
theorem dX4_numberHere_80 : decode cX4_numberHere 80 = .ok (.iconst 1, 1) := dk_4 (dk_at dksX4_numberHere_3 10 rfl rfl)
theorem dX4_numberHere_81 : decode cX4_numberHere 81 = .ok (.iadd, 1) := dk_96 (dk_at dksX4_numberHere_3 11 rfl rfl)
theorem dX4_numberHere_82 : decode cX4_numberHere 82 = .ok (.putfield 96, 3) := dk_181 0 96 (dk_at dksX4_numberHere_3 12 rfl rfl)
theorem dX4_numberHere_85 : decode cX4_numberHere 85 = .ok (.goto (-51), 3) := dk_167 255 205 (dk_at dksX4_numberHere_3 15 rfl rfl)
theorem dX4_numberHere_88 : decode cX4_numberHere 88 = .ok (.aload_n 0, 1) := dk_42 (dk_at dksX4_numberHere_3 18 rfl rfl)
theorem dX4_numberHere_89 : decode cX4_numberHere 89 = .ok (.iload 4, 2) := dk_21 4 (dk_at dksX4_numberHere_3 19 rfl rfl)
theorem dX4_numberHere_91 : decode cX4_numberHere 91 = .ok (.putfield 121, 3) := dk_181 0 121 (dk_at dksX4_numberHere_3 21 rfl rfl)
theorem dX4_numberHere_94 : decode cX4_numberHere 94 = .ok (.aload_n 0, 1) := dk_42 (dk_at dksX4_numberHere_4 0 rfl rfl)
theorem dX4_numberHere_95 : decode cX4_numberHere 95 = .ok (.getfield 96, 3) := dk_180 0 96 (dk_at dksX4_numberHere_4 1 rfl rfl)
theorem dX4_numberHere_98 : decode cX4_numberHere 98 = .ok (.iload_n 3, 1) := dk_29 (dk_at dksX4_numberHere_4 4 rfl rfl)
theorem dX4_numberHere_99 : decode cX4_numberHere 99 = .ok (.isub, 1) := dk_100 (dk_at dksX4_numberHere_4 5 rfl rfl)
theorem dX4_numberHere_100 : decode cX4_numberHere 100 = .ok (.iconst 5, 1) := dk_8 (dk_at dksX4_numberHere_4 6 rfl rfl)
theorem dX4_numberHere_101 : decode cX4_numberHere 101 = .ok (.if_icmp .gt 16, 3) := dk_163 0 16 (dk_at dksX4_numberHere_4 7 rfl rfl)
theorem dX4_numberHere_104 : decode cX4_numberHere 104 = .ok (.iload 4, 2) := dk_21 4 (dk_at dksX4_numberHere_4 10 rfl rfl)
theorem dX4_numberHere_106 : decode cX4_numberHere 106 = .ok (.i2l, 1) := dk_133 (dk_at dksX4_numberHere_4 12 rfl rfl)
theorem dX4_numberHere_107 : decode cX4_numberHere 107 = .ok (.iload_n 1, 1) := dk_27 (dk_at dksX4_numberHere_4 13 rfl rfl)
theorem dX4_numberHere_108 : decode cX4_numberHere 108 = .ok (.i2l, 1) := dk_133 (dk_at dksX4_numberHere_4 14 rfl rfl)
theorem dX4_numberHere_109 : decode cX4_numberHere 109 = .ok (.iload_n 2, 1) := dk_28 (dk_at dksX4_numberHere_4 15 rfl rfl)
theorem dX4_numberHere_110 : decode cX4_numberHere 110 = .ok (.i2l, 1) := dk_133 (dk_at dksX4_numberHere_4 16 rfl rfl)
theorem dX4_numberHere_111 : decode cX4_numberHere 111 = .ok (.invokestatic 124, 3) := dk_184 0 124 (dk_at dksX4_numberHere_4 17 rfl rfl)
theorem dX4_numberHere_114 : decode cX4_numberHere 114 = .ok (.ifCond .ne 12, 3) := dk_154 0 12 (dk_at dksX4_numberHere_4 20 rfl rfl)
theorem dX4_numberHere_117 : decode cX4_numberHere 117 = .ok (.aload_n 0, 1) := dk_42 (dk_at dksX4_numberHere_4 23 rfl rfl)
theorem dX4_numberHere_118 : decode cX4_numberHere 118 = .ok (.iconst 1, 1) := dk_4 (dk_at dksX4_numberHere_5 0 rfl rfl)
theorem dX4_numberHere_119 : decode cX4_numberHere 119 = .ok (.iload_n 3, 1) := dk_29 (dk_at dksX4_numberHere_5 1 rfl rfl)
theorem dX4_numberHere_120 : decode cX4_numberHere 120 = .ok (.invokevirtual 117, 3) := dk_182 0 117 (dk_at dksX4_numberHere_5 2 rfl rfl)
theorem dX4_numberHere_123 : decode cX4_numberHere 123 = .ok (.ifCond .eq 7, 3) := dk_153 0 7 (dk_at dksX4_numberHere_5 5 rfl rfl)
theorem dX4_numberHere_126 : decode cX4_numberHere 126 = .ok (.iconst 1, 1) := dk_4 (dk_at dksX4_numberHere_5 8 rfl rfl)
theorem dX4_numberHere_127 : decode cX4_numberHere 127 = .ok (.goto 4, 3) := dk_167 0 4 (dk_at dksX4_numberHere_5 9 rfl rfl)
theorem dX4_numberHere_130 : decode cX4_numberHere 130 = .ok (.iconst 0, 1) := dk_3 (dk_at dksX4_numberHere_5 12 rfl rfl)
theorem dX4_numberHere_131 : decode cX4_numberHere 131 = .ok (.ireturn, 1) := dk_172 (dk_at dksX4_numberHere_5 13 rfl rfl)
abbrev cX4_isDigit : ByteArray := prog_19_method_10_code
def yX4_isDigit : MethodName := ⟨RX4, "isDigit", "(I)Z"⟩
def dkwX4_isDigit_1 : List UInt8 := [51, 16, 57, 163, 0, 7, 4, 167, 0, 4, 3, 172]
abbrev dktX4_isDigit_1 : List UInt8 := dkwX4_isDigit_1 ++ []
def dkwX4_isDigit_0 : List UInt8 := [27, 42, 180, 0, 86, 162, 0, 29, 42, 180, 0, 7, 27, 51, 16, 48, 161, 0, 18, 42, 180, 0, 7, 27]
abbrev dktX4_isDigit_0 : List UInt8 := dkwX4_isDigit_0 ++ dktX4_isDigit_1
theorem dksX4_isDigit_0 : cX4_isDigit.data.toList.drop 0 = dktX4_isDigit_0 := by decide +kernel
theorem dksX4_isDigit_1 : cX4_isDigit.data.toList.drop 24 = dktX4_isDigit_1 := dk_seg dksX4_isDigit_0 24 rfl rfl
theorem dX4_isDigit_0 : decode cX4_isDigit 0 = .ok (.iload_n 1, 1) := dk_27 (dk_at dksX4_isDigit_0 0 rfl rfl)
theorem dX4_isDigit_1 : decode cX4_isDigit 1 = .ok (.aload_n 0, 1) := dk_42 (dk_at dksX4_isDigit_0 1 rfl rfl)
theorem dX4_isDigit_2 : decode cX4_isDigit 2 = .ok (.getfield 86, 3) := dk_180 0 86 (dk_at dksX4_isDigit_0 2 rfl rfl)
theorem dX4_isDigit_5 : decode cX4_isDigit 5 = .ok (.if_icmp .ge 29, 3) := dk_162 0 29 (dk_at dksX4_isDigit_0 5 rfl rfl)
theorem dX4_isDigit_8 : decode cX4_isDigit 8 = .ok (.aload_n 0, 1) := dk_42 (dk_at dksX4_isDigit_0 8 rfl rfl)
theorem dX4_isDigit_9 : decode cX4_isDigit 9 = .ok (.getfield 7, 3) := dk_180 0 7 (dk_at dksX4_isDigit_0 9 rfl rfl)
theorem dX4_isDigit_12 : decode cX4_isDigit 12 = .ok (.iload_n 1, 1) := dk_27 (dk_at dksX4_isDigit_0 12 rfl rfl)
theorem dX4_isDigit_13 : decode cX4_isDigit 13 = .ok (.baload, 1) := dk_51 (dk_at dksX4_isDigit_0 13 rfl rfl)
theorem dX4_isDigit_14 : decode cX4_isDigit 14 = .ok (.bipush 48, 2) := dk_16 48 (dk_at dksX4_isDigit_0 14 rfl rfl)
theorem dX4_isDigit_16 : decode cX4_isDigit 16 = .ok (.if_icmp .lt 18, 3) := dk_161 0 18 (dk_at dksX4_isDigit_0 16 rfl rfl)
theorem dX4_isDigit_19 : decode cX4_isDigit 19 = .ok (.aload_n 0, 1) := dk_42 (dk_at dksX4_isDigit_0 19 rfl rfl)
theorem dX4_isDigit_20 : decode cX4_isDigit 20 = .ok (.getfield 7, 3) := dk_180 0 7 (dk_at dksX4_isDigit_0 20 rfl rfl)
theorem dX4_isDigit_23 : decode cX4_isDigit 23 = .ok (.iload_n 1, 1) := dk_27 (dk_at dksX4_isDigit_0 23 rfl rfl)
theorem dX4_isDigit_24 : decode cX4_isDigit 24 = .ok (.baload, 1) := dk_51 (dk_at dksX4_isDigit_1 0 rfl rfl)
theorem dX4_isDigit_25 : decode cX4_isDigit 25 = .ok (.bipush 57, 2) := dk_16 57 (dk_at dksX4_isDigit_1 1 rfl rfl)
theorem dX4_isDigit_27 : decode cX4_isDigit 27 = .ok (.if_icmp .gt 7, 3) := dk_163 0 7 (dk_at dksX4_isDigit_1 3 rfl rfl)
theorem dX4_isDigit_30 : decode cX4_isDigit 30 = .ok (.iconst 1, 1) := dk_4 (dk_at dksX4_isDigit_1 6 rfl rfl)
theorem dX4_isDigit_31 : decode cX4_isDigit 31 = .ok (.goto 4, 3) := dk_167 0 4 (dk_at dksX4_isDigit_1 7 rfl rfl)
theorem dX4_isDigit_34 : decode cX4_isDigit 34 = .ok (.iconst 0, 1) := dk_3 (dk_at dksX4_isDigit_1 10 rfl rfl)
theorem dX4_isDigit_35 : decode cX4_isDigit 35 = .ok (.ireturn, 1) := dk_172 (dk_at dksX4_isDigit_1 11 rfl rfl)
abbrev cX4_in : ByteArray := prog_19_method_2_code
def yX4_in : MethodName := ⟨RX4, "in", "(JJJ)Z"⟩
def dkwX4_in_0 : List UInt8 := [30, 32, 148, 155, 0, 14, 30, 22, 4, 148, 157, 0, 7, 4, 167, 0, 4, 3, 172]
abbrev dktX4_in_0 : List UInt8 := dkwX4_in_0 ++ []
theorem dksX4_in_0 : cX4_in.data.toList.drop 0 = dktX4_in_0 := by decide +kernel
theorem dX4_in_0 : decode cX4_in 0 = .ok (.lload_n 0, 1) := dk_30 (dk_at dksX4_in_0 0 rfl rfl)
theorem dX4_in_1 : decode cX4_in 1 = .ok (.lload_n 2, 1) := dk_32 (dk_at dksX4_in_0 1 rfl rfl)
theorem dX4_in_2 : decode cX4_in 2 = .ok (.lcmp, 1) := dk_148 (dk_at dksX4_in_0 2 rfl rfl)
theorem dX4_in_3 : decode cX4_in 3 = .ok (.ifCond .lt 14, 3) := dk_155 0 14 (dk_at dksX4_in_0 3 rfl rfl)
theorem dX4_in_6 : decode cX4_in 6 = .ok (.lload_n 0, 1) := dk_30 (dk_at dksX4_in_0 6 rfl rfl)
theorem dX4_in_7 : decode cX4_in 7 = .ok (.lload 4, 2) := dk_22 4 (dk_at dksX4_in_0 7 rfl rfl)
theorem dX4_in_9 : decode cX4_in 9 = .ok (.lcmp, 1) := dk_148 (dk_at dksX4_in_0 9 rfl rfl)
theorem dX4_in_10 : decode cX4_in 10 = .ok (.ifCond .gt 7, 3) := dk_157 0 7 (dk_at dksX4_in_0 10 rfl rfl)
theorem dX4_in_13 : decode cX4_in 13 = .ok (.iconst 1, 1) := dk_4 (dk_at dksX4_in_0 13 rfl rfl)
theorem dX4_in_14 : decode cX4_in 14 = .ok (.goto 4, 3) := dk_167 0 4 (dk_at dksX4_in_0 14 rfl rfl)
theorem dX4_in_17 : decode cX4_in 17 = .ok (.iconst 0, 1) := dk_3 (dk_at dksX4_in_0 17 rfl rfl)
theorem dX4_in_18 : decode cX4_in 18 = .ok (.ireturn, 1) := dk_172 (dk_at dksX4_in_0 18 rfl rfl)
abbrev cX4_isConkerHere : ByteArray := prog_19_method_33_code
def yX4_isConkerHere : MethodName := ⟨RX4, "isConkerHere", "(I)Z"⟩
def dkwX4_isConkerHere_3 : List UInt8 := [172, 42, 180, 0, 26, 5, 92, 46, 4, 96, 79, 4, 172]
abbrev dktX4_isConkerHere_3 : List UInt8 := dkwX4_isConkerHere_3 ++ []
def dkwX4_isConkerHere_2 : List UInt8 := [96, 4, 16, 20, 182, 0, 226, 153, 0, 16, 42, 28, 5, 96, 3, 16, 20, 182, 0, 226, 154, 0, 5, 3]
abbrev dktX4_isConkerHere_2 : List UInt8 := dkwX4_isConkerHere_2 ++ dktX4_isConkerHere_3
def dkwX4_isConkerHere_1 : List UInt8 := [7, 42, 180, 0, 26, 5, 46, 104, 96, 61, 42, 28, 4, 16, 30, 182, 0, 226, 153, 0, 29, 42, 28, 4]
abbrev dktX4_isConkerHere_1 : List UInt8 := dkwX4_isConkerHere_1 ++ dktX4_isConkerHere_2
def dkwX4_isConkerHere_0 : List UInt8 := [42, 180, 0, 26, 5, 46, 16, 8, 160, 0, 10, 42, 7, 27, 182, 0, 117, 172, 42, 182, 0, 111, 16, 51]
abbrev dktX4_isConkerHere_0 : List UInt8 := dkwX4_isConkerHere_0 ++ dktX4_isConkerHere_1
theorem dksX4_isConkerHere_0 : cX4_isConkerHere.data.toList.drop 0 = dktX4_isConkerHere_0 := by decide +kernel
theorem dksX4_isConkerHere_1 : cX4_isConkerHere.data.toList.drop 24 = dktX4_isConkerHere_1 := dk_seg dksX4_isConkerHere_0 24 rfl rfl
theorem dksX4_isConkerHere_2 : cX4_isConkerHere.data.toList.drop 48 = dktX4_isConkerHere_2 := dk_seg dksX4_isConkerHere_1 24 rfl rfl
theorem dksX4_isConkerHere_3 : cX4_isConkerHere.data.toList.drop 72 = dktX4_isConkerHere_3 := dk_seg dksX4_isConkerHere_2 24 rfl rfl
theorem dX4_isConkerHere_0 : decode cX4_isConkerHere 0 = .ok (.aload_n 0, 1) := dk_42 (dk_at dksX4_isConkerHere_0 0 rfl rfl)
theorem dX4_isConkerHere_1 : decode cX4_isConkerHere 1 = .ok (.getfield 26, 3) := dk_180 0 26 (dk_at dksX4_isConkerHere_0 1 rfl rfl)
theorem dX4_isConkerHere_4 : decode cX4_isConkerHere 4 = .ok (.iconst 2, 1) := dk_5 (dk_at dksX4_isConkerHere_0 4 rfl rfl)
theorem dX4_isConkerHere_5 : decode cX4_isConkerHere 5 = .ok (.iaload, 1) := dk_46 (dk_at dksX4_isConkerHere_0 5 rfl rfl)
theorem dX4_isConkerHere_6 : decode cX4_isConkerHere 6 = .ok (.bipush 8, 2) := dk_16 8 (dk_at dksX4_isConkerHere_0 6 rfl rfl)
theorem dX4_isConkerHere_8 : decode cX4_isConkerHere 8 = .ok (.if_icmp .ne 10, 3) := dk_160 0 10 (dk_at dksX4_isConkerHere_0 8 rfl rfl)
theorem dX4_isConkerHere_11 : decode cX4_isConkerHere 11 = .ok (.aload_n 0, 1) := dk_42 (dk_at dksX4_isConkerHere_0 11 rfl rfl)
theorem dX4_isConkerHere_12 : decode cX4_isConkerHere 12 = .ok (.iconst 4, 1) := dk_7 (dk_at dksX4_isConkerHere_0 12 rfl rfl)
theorem dX4_isConkerHere_13 : decode cX4_isConkerHere 13 = .ok (.iload_n 1, 1) := dk_27 (dk_at dksX4_isConkerHere_0 13 rfl rfl)
theorem dX4_isConkerHere_14 : decode cX4_isConkerHere 14 = .ok (.invokevirtual 117, 3) := dk_182 0 117 (dk_at dksX4_isConkerHere_0 14 rfl rfl)
theorem dX4_isConkerHere_17 : decode cX4_isConkerHere 17 = .ok (.ireturn, 1) := dk_172 (dk_at dksX4_isConkerHere_0 17 rfl rfl)
theorem dX4_isConkerHere_18 : decode cX4_isConkerHere 18 = .ok (.aload_n 0, 1) := dk_42 (dk_at dksX4_isConkerHere_0 18 rfl rfl)
theorem dX4_isConkerHere_19 : decode cX4_isConkerHere 19 = .ok (.invokevirtual 111, 3) := dk_182 0 111 (dk_at dksX4_isConkerHere_0 19 rfl rfl)
theorem dX4_isConkerHere_22 : decode cX4_isConkerHere 22 = .ok (.bipush 51, 2) := dk_16 51 (dk_at dksX4_isConkerHere_0 22 rfl rfl)
theorem dX4_isConkerHere_24 : decode cX4_isConkerHere 24 = .ok (.iconst 4, 1) := dk_7 (dk_at dksX4_isConkerHere_1 0 rfl rfl)
theorem dX4_isConkerHere_25 : decode cX4_isConkerHere 25 = .ok (.aload_n 0, 1) := dk_42 (dk_at dksX4_isConkerHere_1 1 rfl rfl)
theorem dX4_isConkerHere_26 : decode cX4_isConkerHere 26 = .ok (.getfield 26, 3) := dk_180 0 26 (dk_at dksX4_isConkerHere_1 2 rfl rfl)
theorem dX4_isConkerHere_29 : decode cX4_isConkerHere 29 = .ok (.iconst 2, 1) := dk_5 (dk_at dksX4_isConkerHere_1 5 rfl rfl)
theorem dX4_isConkerHere_30 : decode cX4_isConkerHere 30 = .ok (.iaload, 1) := dk_46 (dk_at dksX4_isConkerHere_1 6 rfl rfl)
theorem dX4_isConkerHere_31 : decode cX4_isConkerHere 31 = .ok (.imul, 1) := dk_104 (dk_at dksX4_isConkerHere_1 7 rfl rfl)
theorem dX4_isConkerHere_32 : decode cX4_isConkerHere 32 = .ok (.iadd, 1) := dk_96 (dk_at dksX4_isConkerHere_1 8 rfl rfl)
theorem dX4_isConkerHere_33 : decode cX4_isConkerHere 33 = .ok (.istore_n 2, 1) := dk_61 (dk_at dksX4_isConkerHere_1 9 rfl rfl)
theorem dX4_isConkerHere_34 : decode cX4_isConkerHere 34 = .ok (.aload_n 0, 1) := dk_42 (dk_at dksX4_isConkerHere_1 10 rfl rfl)
theorem dX4_isConkerHere_35 : decode cX4_isConkerHere 35 = .ok (.iload_n 2, 1) := dk_28 (dk_at dksX4_isConkerHere_1 11 rfl rfl)
theorem dX4_isConkerHere_36 : decode cX4_isConkerHere 36 = .ok (.iconst 1, 1) := dk_4 (dk_at dksX4_isConkerHere_1 12 rfl rfl)
theorem dX4_isConkerHere_37 : decode cX4_isConkerHere 37 = .ok (.bipush 30, 2) := dk_16 30 (dk_at dksX4_isConkerHere_1 13 rfl rfl)
theorem dX4_isConkerHere_39 : decode cX4_isConkerHere 39 = .ok (.invokevirtual 226, 3) := dk_182 0 226 (dk_at dksX4_isConkerHere_1 15 rfl rfl)
theorem dX4_isConkerHere_42 : decode cX4_isConkerHere 42 = .ok (.ifCond .eq 29, 3) := dk_153 0 29 (dk_at dksX4_isConkerHere_1 18 rfl rfl)
theorem dX4_isConkerHere_45 : decode cX4_isConkerHere 45 = .ok (.aload_n 0, 1) := dk_42 (dk_at dksX4_isConkerHere_1 21 rfl rfl)
theorem dX4_isConkerHere_46 : decode cX4_isConkerHere 46 = .ok (.iload_n 2, 1) := dk_28 (dk_at dksX4_isConkerHere_1 22 rfl rfl)
theorem dX4_isConkerHere_47 : decode cX4_isConkerHere 47 = .ok (.iconst 1, 1) := dk_4 (dk_at dksX4_isConkerHere_1 23 rfl rfl)
theorem dX4_isConkerHere_48 : decode cX4_isConkerHere 48 = .ok (.iadd, 1) := dk_96 (dk_at dksX4_isConkerHere_2 0 rfl rfl)
theorem dX4_isConkerHere_49 : decode cX4_isConkerHere 49 = .ok (.iconst 1, 1) := dk_4 (dk_at dksX4_isConkerHere_2 1 rfl rfl)
theorem dX4_isConkerHere_50 : decode cX4_isConkerHere 50 = .ok (.bipush 20, 2) := dk_16 20 (dk_at dksX4_isConkerHere_2 2 rfl rfl)
theorem dX4_isConkerHere_52 : decode cX4_isConkerHere 52 = .ok (.invokevirtual 226, 3) := dk_182 0 226 (dk_at dksX4_isConkerHere_2 4 rfl rfl)
theorem dX4_isConkerHere_55 : decode cX4_isConkerHere 55 = .ok (.ifCond .eq 16, 3) := dk_153 0 16 (dk_at dksX4_isConkerHere_2 7 rfl rfl)
theorem dX4_isConkerHere_58 : decode cX4_isConkerHere 58 = .ok (.aload_n 0, 1) := dk_42 (dk_at dksX4_isConkerHere_2 10 rfl rfl)
theorem dX4_isConkerHere_59 : decode cX4_isConkerHere 59 = .ok (.iload_n 2, 1) := dk_28 (dk_at dksX4_isConkerHere_2 11 rfl rfl)
theorem dX4_isConkerHere_60 : decode cX4_isConkerHere 60 = .ok (.iconst 2, 1) := dk_5 (dk_at dksX4_isConkerHere_2 12 rfl rfl)
theorem dX4_isConkerHere_61 : decode cX4_isConkerHere 61 = .ok (.iadd, 1) := dk_96 (dk_at dksX4_isConkerHere_2 13 rfl rfl)
theorem dX4_isConkerHere_62 : decode cX4_isConkerHere 62 = .ok (.iconst 0, 1) := dk_3 (dk_at dksX4_isConkerHere_2 14 rfl rfl)
theorem dX4_isConkerHere_63 : decode cX4_isConkerHere 63 = .ok (.bipush 20, 2) := dk_16 20 (dk_at dksX4_isConkerHere_2 15 rfl rfl)
theorem dX4_isConkerHere_65 : decode cX4_isConkerHere 65 = .ok (.invokevirtual 226, 3) := dk_182 0 226 (dk_at dksX4_isConkerHere_2 17 rfl rfl)
theorem dX4_isConkerHere_68 : decode cX4_isConkerHere 68 = .ok (.ifCond .ne 5, 3) := dk_154 0 5 (dk_at dksX4_isConkerHere_2 20 rfl rfl)
theorem dX4_isConkerHere_71 : decode cX4_isConkerHere 71 = .ok (.iconst 0, 1) := dk_3 (dk_at dksX4_isConkerHere_2 23 rfl rfl)
theorem dX4_isConkerHere_72 : decode cX4_isConkerHere 72 = .ok (.ireturn, 1) := dk_172 (dk_at dksX4_isConkerHere_3 0 rfl rfl)
theorem dX4_isConkerHere_73 : decode cX4_isConkerHere 73 = .ok (.aload_n 0, 1) := dk_42 (dk_at dksX4_isConkerHere_3 1 rfl rfl)
theorem dX4_isConkerHere_74 : decode cX4_isConkerHere 74 = .ok (.getfield 26, 3) := dk_180 0 26 (dk_at dksX4_isConkerHere_3 2 rfl rfl)
theorem dX4_isConkerHere_77 : decode cX4_isConkerHere 77 = .ok (.iconst 2, 1) := dk_5 (dk_at dksX4_isConkerHere_3 5 rfl rfl)
theorem dX4_isConkerHere_78 : decode cX4_isConkerHere 78 = .ok (.dup2, 1) := dk_92 (dk_at dksX4_isConkerHere_3 6 rfl rfl)
theorem dX4_isConkerHere_79 : decode cX4_isConkerHere 79 = .ok (.iaload, 1) := dk_46 (dk_at dksX4_isConkerHere_3 7 rfl rfl)
theorem dX4_isConkerHere_80 : decode cX4_isConkerHere 80 = .ok (.iconst 1, 1) := dk_4 (dk_at dksX4_isConkerHere_3 8 rfl rfl)
theorem dX4_isConkerHere_81 : decode cX4_isConkerHere 81 = .ok (.iadd, 1) := dk_96 (dk_at dksX4_isConkerHere_3 9 rfl rfl)
theorem dX4_isConkerHere_82 : decode cX4_isConkerHere 82 = .ok (.iastore, 1) := dk_79 (dk_at dksX4_isConkerHere_3 10 rfl rfl)
theorem dX4_isConkerHere_83 : decode cX4_isConkerHere 83 = .ok (.iconst 1, 1) := dk_4 (dk_at dksX4_isConkerHere_3 11 rfl rfl)
theorem dX4_isConkerHere_84 : decode cX4_isConkerHere 84 = .ok (.ireturn, 1) := dk_172 (dk_at dksX4_isConkerHere_3 12 rfl rfl)
abbrev cX4_isCrackedHere : ByteArray := prog_19_method_34_code
def yX4_isCrackedHere : MethodName := ⟨RX4, "isCrackedHere", "()Z"⟩
def dkwX4_isCrackedHere_2 : List UInt8 := [172]
abbrev dktX4_isCrackedHere_2 : List UInt8 := dkwX4_isCrackedHere_2 ++ []
def dkwX4_isCrackedHere_1 : List UInt8 := [7, 42, 180, 0, 121, 104, 96, 60, 42, 27, 6, 96, 3, 42, 180, 0, 26, 27, 46, 4, 100, 182, 0, 226]
abbrev dktX4_isCrackedHere_1 : List UInt8 := dkwX4_isCrackedHere_1 ++ dktX4_isCrackedHere_2
def dkwX4_isCrackedHere_0 : List UInt8 := [42, 182, 0, 111, 42, 3, 42, 180, 0, 26, 5, 46, 4, 100, 182, 0, 175, 154, 0, 5, 3, 172, 16, 51]
abbrev dktX4_isCrackedHere_0 : List UInt8 := dkwX4_isCrackedHere_0 ++ dktX4_isCrackedHere_1
theorem dksX4_isCrackedHere_0 : cX4_isCrackedHere.data.toList.drop 0 = dktX4_isCrackedHere_0 := by decide +kernel
theorem dksX4_isCrackedHere_1 : cX4_isCrackedHere.data.toList.drop 24 = dktX4_isCrackedHere_1 := dk_seg dksX4_isCrackedHere_0 24 rfl rfl
theorem dksX4_isCrackedHere_2 : cX4_isCrackedHere.data.toList.drop 48 = dktX4_isCrackedHere_2 := dk_seg dksX4_isCrackedHere_1 24 rfl rfl
theorem dX4_isCrackedHere_0 : decode cX4_isCrackedHere 0 = .ok (.aload_n 0, 1) := dk_42 (dk_at dksX4_isCrackedHere_0 0 rfl rfl)
theorem dX4_isCrackedHere_1 : decode cX4_isCrackedHere 1 = .ok (.invokevirtual 111, 3) := dk_182 0 111 (dk_at dksX4_isCrackedHere_0 1 rfl rfl)
theorem dX4_isCrackedHere_4 : decode cX4_isCrackedHere 4 = .ok (.aload_n 0, 1) := dk_42 (dk_at dksX4_isCrackedHere_0 4 rfl rfl)
theorem dX4_isCrackedHere_5 : decode cX4_isCrackedHere 5 = .ok (.iconst 0, 1) := dk_3 (dk_at dksX4_isCrackedHere_0 5 rfl rfl)
theorem dX4_isCrackedHere_6 : decode cX4_isCrackedHere 6 = .ok (.aload_n 0, 1) := dk_42 (dk_at dksX4_isCrackedHere_0 6 rfl rfl)
theorem dX4_isCrackedHere_7 : decode cX4_isCrackedHere 7 = .ok (.getfield 26, 3) := dk_180 0 26 (dk_at dksX4_isCrackedHere_0 7 rfl rfl)
theorem dX4_isCrackedHere_10 : decode cX4_isCrackedHere 10 = .ok (.iconst 2, 1) := dk_5 (dk_at dksX4_isCrackedHere_0 10 rfl rfl)
theorem dX4_isCrackedHere_11 : decode cX4_isCrackedHere 11 = .ok (.iaload, 1) := dk_46 (dk_at dksX4_isCrackedHere_0 11 rfl rfl)
theorem dX4_isCrackedHere_12 : decode cX4_isCrackedHere 12 = .ok (.iconst 1, 1) := dk_4 (dk_at dksX4_isCrackedHere_0 12 rfl rfl)
theorem dX4_isCrackedHere_13 : decode cX4_isCrackedHere 13 = .ok (.isub, 1) := dk_100 (dk_at dksX4_isCrackedHere_0 13 rfl rfl)
theorem dX4_isCrackedHere_14 : decode cX4_isCrackedHere 14 = .ok (.invokevirtual 175, 3) := dk_182 0 175 (dk_at dksX4_isCrackedHere_0 14 rfl rfl)
theorem dX4_isCrackedHere_17 : decode cX4_isCrackedHere 17 = .ok (.ifCond .ne 5, 3) := dk_154 0 5 (dk_at dksX4_isCrackedHere_0 17 rfl rfl)
theorem dX4_isCrackedHere_20 : decode cX4_isCrackedHere 20 = .ok (.iconst 0, 1) := dk_3 (dk_at dksX4_isCrackedHere_0 20 rfl rfl)
theorem dX4_isCrackedHere_21 : decode cX4_isCrackedHere 21 = .ok (.ireturn, 1) := dk_172 (dk_at dksX4_isCrackedHere_0 21 rfl rfl)
theorem dX4_isCrackedHere_22 : decode cX4_isCrackedHere 22 = .ok (.bipush 51, 2) := dk_16 51 (dk_at dksX4_isCrackedHere_0 22 rfl rfl)
theorem dX4_isCrackedHere_24 : decode cX4_isCrackedHere 24 = .ok (.iconst 4, 1) := dk_7 (dk_at dksX4_isCrackedHere_1 0 rfl rfl)
theorem dX4_isCrackedHere_25 : decode cX4_isCrackedHere 25 = .ok (.aload_n 0, 1) := dk_42 (dk_at dksX4_isCrackedHere_1 1 rfl rfl)
theorem dX4_isCrackedHere_26 : decode cX4_isCrackedHere 26 = .ok (.getfield 121, 3) := dk_180 0 121 (dk_at dksX4_isCrackedHere_1 2 rfl rfl)
theorem dX4_isCrackedHere_29 : decode cX4_isCrackedHere 29 = .ok (.imul, 1) := dk_104 (dk_at dksX4_isCrackedHere_1 5 rfl rfl)
theorem dX4_isCrackedHere_30 : decode cX4_isCrackedHere 30 = .ok (.iadd, 1) := dk_96 (dk_at dksX4_isCrackedHere_1 6 rfl rfl)
theorem dX4_isCrackedHere_31 : decode cX4_isCrackedHere 31 = .ok (.istore_n 1, 1) := dk_60 (dk_at dksX4_isCrackedHere_1 7 rfl rfl)
theorem dX4_isCrackedHere_32 : decode cX4_isCrackedHere 32 = .ok (.aload_n 0, 1) := dk_42 (dk_at dksX4_isCrackedHere_1 8 rfl rfl)
theorem dX4_isCrackedHere_33 : decode cX4_isCrackedHere 33 = .ok (.iload_n 1, 1) := dk_27 (dk_at dksX4_isCrackedHere_1 9 rfl rfl)
theorem dX4_isCrackedHere_34 : decode cX4_isCrackedHere 34 = .ok (.iconst 3, 1) := dk_6 (dk_at dksX4_isCrackedHere_1 10 rfl rfl)
theorem dX4_isCrackedHere_35 : decode cX4_isCrackedHere 35 = .ok (.iadd, 1) := dk_96 (dk_at dksX4_isCrackedHere_1 11 rfl rfl)
theorem dX4_isCrackedHere_36 : decode cX4_isCrackedHere 36 = .ok (.iconst 0, 1) := dk_3 (dk_at dksX4_isCrackedHere_1 12 rfl rfl)
theorem dX4_isCrackedHere_37 : decode cX4_isCrackedHere 37 = .ok (.aload_n 0, 1) := dk_42 (dk_at dksX4_isCrackedHere_1 13 rfl rfl)
theorem dX4_isCrackedHere_38 : decode cX4_isCrackedHere 38 = .ok (.getfield 26, 3) := dk_180 0 26 (dk_at dksX4_isCrackedHere_1 14 rfl rfl)
theorem dX4_isCrackedHere_41 : decode cX4_isCrackedHere 41 = .ok (.iload_n 1, 1) := dk_27 (dk_at dksX4_isCrackedHere_1 17 rfl rfl)
theorem dX4_isCrackedHere_42 : decode cX4_isCrackedHere 42 = .ok (.iaload, 1) := dk_46 (dk_at dksX4_isCrackedHere_1 18 rfl rfl)
theorem dX4_isCrackedHere_43 : decode cX4_isCrackedHere 43 = .ok (.iconst 1, 1) := dk_4 (dk_at dksX4_isCrackedHere_1 19 rfl rfl)
theorem dX4_isCrackedHere_44 : decode cX4_isCrackedHere 44 = .ok (.isub, 1) := dk_100 (dk_at dksX4_isCrackedHere_1 20 rfl rfl)
theorem dX4_isCrackedHere_45 : decode cX4_isCrackedHere 45 = .ok (.invokevirtual 226, 3) := dk_182 0 226 (dk_at dksX4_isCrackedHere_1 21 rfl rfl)
theorem dX4_isCrackedHere_48 : decode cX4_isCrackedHere 48 = .ok (.ireturn, 1) := dk_172 (dk_at dksX4_isCrackedHere_2 0 rfl rfl)
abbrev cX4_isHitHere : ByteArray := prog_19_method_30_code
def yX4_isHitHere : MethodName := ⟨RX4, "isHitHere", "()Z"⟩
def dkwX4_isHitHere_5 : List UInt8 := [180, 0, 17, 42, 180, 0, 154, 46, 79, 42, 180, 0, 23, 42, 180, 0, 154, 92, 46, 4, 96, 79, 4, 172]
abbrev dktX4_isHitHere_5 : List UInt8 := dkwX4_isHitHere_5 ++ []
def dkwX4_isHitHere_4 : List UInt8 := [180, 0, 154, 46, 79, 42, 182, 0, 223, 154, 0, 5, 3, 172, 42, 180, 0, 20, 27, 6, 96, 42]
abbrev dktX4_isHitHere_4 : List UInt8 := dkwX4_isHitHere_4 ++ dktX4_isHitHere_5
def dkwX4_isHitHere_3 : List UInt8 := [2, 79, 42, 20, 0, 218, 182, 0, 220, 153, 0, 29, 42, 180, 0, 20, 27, 5, 96, 42, 180, 0, 17, 42]
abbrev dktX4_isHitHere_3 : List UInt8 := dkwX4_isHitHere_3 ++ dktX4_isHitHere_4
def dkwX4_isHitHere_2 : List UInt8 := [42, 180, 0, 20, 27, 4, 96, 42, 180, 0, 17, 42, 180, 0, 154, 46, 79, 42, 180, 0, 20, 27, 5, 96]
abbrev dktX4_isHitHere_2 : List UInt8 := dkwX4_isHitHere_2 ++ dktX4_isHitHere_3
def dkwX4_isHitHere_1 : List UInt8 := [42, 180, 0, 20, 27, 42, 180, 0, 17, 42, 180, 0, 154, 46, 79, 42, 182, 0, 191, 154, 0, 5, 3, 172]
abbrev dktX4_isHitHere_1 : List UInt8 := dkwX4_isHitHere_1 ++ dktX4_isHitHere_2
def dkwX4_isHitHere_0 : List UInt8 := [42, 182, 0, 111, 16, 48, 42, 180, 0, 154, 104, 7, 42, 180, 0, 23, 42, 180, 0, 154, 46, 104, 96, 60]
abbrev dktX4_isHitHere_0 : List UInt8 := dkwX4_isHitHere_0 ++ dktX4_isHitHere_1
theorem dksX4_isHitHere_0 : cX4_isHitHere.data.toList.drop 0 = dktX4_isHitHere_0 := by decide +kernel
theorem dksX4_isHitHere_1 : cX4_isHitHere.data.toList.drop 24 = dktX4_isHitHere_1 := dk_seg dksX4_isHitHere_0 24 rfl rfl
theorem dksX4_isHitHere_2 : cX4_isHitHere.data.toList.drop 48 = dktX4_isHitHere_2 := dk_seg dksX4_isHitHere_1 24 rfl rfl
theorem dksX4_isHitHere_3 : cX4_isHitHere.data.toList.drop 72 = dktX4_isHitHere_3 := dk_seg dksX4_isHitHere_2 24 rfl rfl
theorem dksX4_isHitHere_4 : cX4_isHitHere.data.toList.drop 96 = dktX4_isHitHere_4 := dk_seg dksX4_isHitHere_3 24 rfl rfl
theorem dksX4_isHitHere_5 : cX4_isHitHere.data.toList.drop 118 = dktX4_isHitHere_5 := dk_seg dksX4_isHitHere_4 22 rfl rfl
theorem dX4_isHitHere_0 : decode cX4_isHitHere 0 = .ok (.aload_n 0, 1) := dk_42 (dk_at dksX4_isHitHere_0 0 rfl rfl)
theorem dX4_isHitHere_1 : decode cX4_isHitHere 1 = .ok (.invokevirtual 111, 3) := dk_182 0 111 (dk_at dksX4_isHitHere_0 1 rfl rfl)
theorem dX4_isHitHere_4 : decode cX4_isHitHere 4 = .ok (.bipush 48, 2) := dk_16 48 (dk_at dksX4_isHitHere_0 4 rfl rfl)
theorem dX4_isHitHere_6 : decode cX4_isHitHere 6 = .ok (.aload_n 0, 1) := dk_42 (dk_at dksX4_isHitHere_0 6 rfl rfl)
theorem dX4_isHitHere_7 : decode cX4_isHitHere 7 = .ok (.getfield 154, 3) := dk_180 0 154 (dk_at dksX4_isHitHere_0 7 rfl rfl)
theorem dX4_isHitHere_10 : decode cX4_isHitHere 10 = .ok (.imul, 1) := dk_104 (dk_at dksX4_isHitHere_0 10 rfl rfl)
theorem dX4_isHitHere_11 : decode cX4_isHitHere 11 = .ok (.iconst 4, 1) := dk_7 (dk_at dksX4_isHitHere_0 11 rfl rfl)
theorem dX4_isHitHere_12 : decode cX4_isHitHere 12 = .ok (.aload_n 0, 1) := dk_42 (dk_at dksX4_isHitHere_0 12 rfl rfl)
theorem dX4_isHitHere_13 : decode cX4_isHitHere 13 = .ok (.getfield 23, 3) := dk_180 0 23 (dk_at dksX4_isHitHere_0 13 rfl rfl)
theorem dX4_isHitHere_16 : decode cX4_isHitHere 16 = .ok (.aload_n 0, 1) := dk_42 (dk_at dksX4_isHitHere_0 16 rfl rfl)
theorem dX4_isHitHere_17 : decode cX4_isHitHere 17 = .ok (.getfield 154, 3) := dk_180 0 154 (dk_at dksX4_isHitHere_0 17 rfl rfl)
theorem dX4_isHitHere_20 : decode cX4_isHitHere 20 = .ok (.iaload, 1) := dk_46 (dk_at dksX4_isHitHere_0 20 rfl rfl)
theorem dX4_isHitHere_21 : decode cX4_isHitHere 21 = .ok (.imul, 1) := dk_104 (dk_at dksX4_isHitHere_0 21 rfl rfl)
theorem dX4_isHitHere_22 : decode cX4_isHitHere 22 = .ok (.iadd, 1) := dk_96 (dk_at dksX4_isHitHere_0 22 rfl rfl)
theorem dX4_isHitHere_23 : decode cX4_isHitHere 23 = .ok (.istore_n 1, 1) := dk_60 (dk_at dksX4_isHitHere_0 23 rfl rfl)
theorem dX4_isHitHere_24 : decode cX4_isHitHere 24 = .ok (.aload_n 0, 1) := dk_42 (dk_at dksX4_isHitHere_1 0 rfl rfl)
theorem dX4_isHitHere_25 : decode cX4_isHitHere 25 = .ok (.getfield 20, 3) := dk_180 0 20 (dk_at dksX4_isHitHere_1 1 rfl rfl)
theorem dX4_isHitHere_28 : decode cX4_isHitHere 28 = .ok (.iload_n 1, 1) := dk_27 (dk_at dksX4_isHitHere_1 4 rfl rfl)
theorem dX4_isHitHere_29 : decode cX4_isHitHere 29 = .ok (.aload_n 0, 1) := dk_42 (dk_at dksX4_isHitHere_1 5 rfl rfl)
theorem dX4_isHitHere_30 : decode cX4_isHitHere 30 = .ok (.getfield 17, 3) := dk_180 0 17 (dk_at dksX4_isHitHere_1 6 rfl rfl)
theorem dX4_isHitHere_33 : decode cX4_isHitHere 33 = .ok (.aload_n 0, 1) := dk_42 (dk_at dksX4_isHitHere_1 9 rfl rfl)
theorem dX4_isHitHere_34 : decode cX4_isHitHere 34 = .ok (.getfield 154, 3) := dk_180 0 154 (dk_at dksX4_isHitHere_1 10 rfl rfl)
theorem dX4_isHitHere_37 : decode cX4_isHitHere 37 = .ok (.iaload, 1) := dk_46 (dk_at dksX4_isHitHere_1 13 rfl rfl)
theorem dX4_isHitHere_38 : decode cX4_isHitHere 38 = .ok (.iastore, 1) := dk_79 (dk_at dksX4_isHitHere_1 14 rfl rfl)
theorem dX4_isHitHere_39 : decode cX4_isHitHere 39 = .ok (.aload_n 0, 1) := dk_42 (dk_at dksX4_isHitHere_1 15 rfl rfl)
theorem dX4_isHitHere_40 : decode cX4_isHitHere 40 = .ok (.invokevirtual 191, 3) := dk_182 0 191 (dk_at dksX4_isHitHere_1 16 rfl rfl)
theorem dX4_isHitHere_43 : decode cX4_isHitHere 43 = .ok (.ifCond .ne 5, 3) := dk_154 0 5 (dk_at dksX4_isHitHere_1 19 rfl rfl)
theorem dX4_isHitHere_46 : decode cX4_isHitHere 46 = .ok (.iconst 0, 1) := dk_3 (dk_at dksX4_isHitHere_1 22 rfl rfl)
theorem dX4_isHitHere_47 : decode cX4_isHitHere 47 = .ok (.ireturn, 1) := dk_172 (dk_at dksX4_isHitHere_1 23 rfl rfl)
theorem dX4_isHitHere_48 : decode cX4_isHitHere 48 = .ok (.aload_n 0, 1) := dk_42 (dk_at dksX4_isHitHere_2 0 rfl rfl)
theorem dX4_isHitHere_49 : decode cX4_isHitHere 49 = .ok (.getfield 20, 3) := dk_180 0 20 (dk_at dksX4_isHitHere_2 1 rfl rfl)
theorem dX4_isHitHere_52 : decode cX4_isHitHere 52 = .ok (.iload_n 1, 1) := dk_27 (dk_at dksX4_isHitHere_2 4 rfl rfl)
theorem dX4_isHitHere_53 : decode cX4_isHitHere 53 = .ok (.iconst 1, 1) := dk_4 (dk_at dksX4_isHitHere_2 5 rfl rfl)
theorem dX4_isHitHere_54 : decode cX4_isHitHere 54 = .ok (.iadd, 1) := dk_96 (dk_at dksX4_isHitHere_2 6 rfl rfl)
theorem dX4_isHitHere_55 : decode cX4_isHitHere 55 = .ok (.aload_n 0, 1) := dk_42 (dk_at dksX4_isHitHere_2 7 rfl rfl)
theorem dX4_isHitHere_56 : decode cX4_isHitHere 56 = .ok (.getfield 17, 3) := dk_180 0 17 (dk_at dksX4_isHitHere_2 8 rfl rfl)
theorem dX4_isHitHere_59 : decode cX4_isHitHere 59 = .ok (.aload_n 0, 1) := dk_42 (dk_at dksX4_isHitHere_2 11 rfl rfl)
theorem dX4_isHitHere_60 : decode cX4_isHitHere 60 = .ok (.getfield 154, 3) := dk_180 0 154 (dk_at dksX4_isHitHere_2 12 rfl rfl)
theorem dX4_isHitHere_63 : decode cX4_isHitHere 63 = .ok (.iaload, 1) := dk_46 (dk_at dksX4_isHitHere_2 15 rfl rfl)
theorem dX4_isHitHere_64 : decode cX4_isHitHere 64 = .ok (.iastore, 1) := dk_79 (dk_at dksX4_isHitHere_2 16 rfl rfl)
theorem dX4_isHitHere_65 : decode cX4_isHitHere 65 = .ok (.aload_n 0, 1) := dk_42 (dk_at dksX4_isHitHere_2 17 rfl rfl)
theorem dX4_isHitHere_66 : decode cX4_isHitHere 66 = .ok (.getfield 20, 3) := dk_180 0 20 (dk_at dksX4_isHitHere_2 18 rfl rfl)
theorem dX4_isHitHere_69 : decode cX4_isHitHere 69 = .ok (.iload_n 1, 1) := dk_27 (dk_at dksX4_isHitHere_2 21 rfl rfl)
theorem dX4_isHitHere_70 : decode cX4_isHitHere 70 = .ok (.iconst 2, 1) := dk_5 (dk_at dksX4_isHitHere_2 22 rfl rfl)
theorem dX4_isHitHere_71 : decode cX4_isHitHere 71 = .ok (.iadd, 1) := dk_96 (dk_at dksX4_isHitHere_2 23 rfl rfl)
theorem dX4_isHitHere_72 : decode cX4_isHitHere 72 = .ok (.iconst (-1), 1) := dk_2 (dk_at dksX4_isHitHere_3 0 rfl rfl)
theorem dX4_isHitHere_73 : decode cX4_isHitHere 73 = .ok (.iastore, 1) := dk_79 (dk_at dksX4_isHitHere_3 1 rfl rfl)
theorem dX4_isHitHere_74 : decode cX4_isHitHere 74 = .ok (.aload_n 0, 1) := dk_42 (dk_at dksX4_isHitHere_3 2 rfl rfl)
theorem dX4_isHitHere_75 : decode cX4_isHitHere 75 = .ok (.ldc2_w 218, 3) := dk_20 0 218 (dk_at dksX4_isHitHere_3 3 rfl rfl)
theorem dX4_isHitHere_78 : decode cX4_isHitHere 78 = .ok (.invokevirtual 220, 3) := dk_182 0 220 (dk_at dksX4_isHitHere_3 6 rfl rfl)
theorem dX4_isHitHere_81 : decode cX4_isHitHere 81 = .ok (.ifCond .eq 29, 3) := dk_153 0 29 (dk_at dksX4_isHitHere_3 9 rfl rfl)
theorem dX4_isHitHere_84 : decode cX4_isHitHere 84 = .ok (.aload_n 0, 1) := dk_42 (dk_at dksX4_isHitHere_3 12 rfl rfl)
theorem dX4_isHitHere_85 : decode cX4_isHitHere 85 = .ok (.getfield 20, 3) := dk_180 0 20 (dk_at dksX4_isHitHere_3 13 rfl rfl)
theorem dX4_isHitHere_88 : decode cX4_isHitHere 88 = .ok (.iload_n 1, 1) := dk_27 (dk_at dksX4_isHitHere_3 16 rfl rfl)
theorem dX4_isHitHere_89 : decode cX4_isHitHere 89 = .ok (.iconst 2, 1) := dk_5 (dk_at dksX4_isHitHere_3 17 rfl rfl)
theorem dX4_isHitHere_90 : decode cX4_isHitHere 90 = .ok (.iadd, 1) := dk_96 (dk_at dksX4_isHitHere_3 18 rfl rfl)
theorem dX4_isHitHere_91 : decode cX4_isHitHere 91 = .ok (.aload_n 0, 1) := dk_42 (dk_at dksX4_isHitHere_3 19 rfl rfl)
theorem dX4_isHitHere_92 : decode cX4_isHitHere 92 = .ok (.getfield 17, 3) := dk_180 0 17 (dk_at dksX4_isHitHere_3 20 rfl rfl)
theorem dX4_isHitHere_95 : decode cX4_isHitHere 95 = .ok (.aload_n 0, 1) := dk_42 (dk_at dksX4_isHitHere_3 23 rfl rfl)
theorem dX4_isHitHere_96 : decode cX4_isHitHere 96 = .ok (.getfield 154, 3) := dk_180 0 154 (dk_at dksX4_isHitHere_4 0 rfl rfl)
theorem dX4_isHitHere_99 : decode cX4_isHitHere 99 = .ok (.iaload, 1) := dk_46 (dk_at dksX4_isHitHere_4 3 rfl rfl)
theorem dX4_isHitHere_100 : decode cX4_isHitHere 100 = .ok (.iastore, 1) := dk_79 (dk_at dksX4_isHitHere_4 4 rfl rfl)
theorem dX4_isHitHere_101 : decode cX4_isHitHere 101 = .ok (.aload_n 0, 1) := dk_42 (dk_at dksX4_isHitHere_4 5 rfl rfl)
theorem dX4_isHitHere_102 : decode cX4_isHitHere 102 = .ok (.invokevirtual 223, 3) := dk_182 0 223 (dk_at dksX4_isHitHere_4 6 rfl rfl)
theorem dX4_isHitHere_105 : decode cX4_isHitHere 105 = .ok (.ifCond .ne 5, 3) := dk_154 0 5 (dk_at dksX4_isHitHere_4 9 rfl rfl)
theorem dX4_isHitHere_108 : decode cX4_isHitHere 108 = .ok (.iconst 0, 1) := dk_3 (dk_at dksX4_isHitHere_4 12 rfl rfl)
theorem dX4_isHitHere_109 : decode cX4_isHitHere 109 = .ok (.ireturn, 1) := dk_172 (dk_at dksX4_isHitHere_4 13 rfl rfl)
theorem dX4_isHitHere_110 : decode cX4_isHitHere 110 = .ok (.aload_n 0, 1) := dk_42 (dk_at dksX4_isHitHere_4 14 rfl rfl)
theorem dX4_isHitHere_111 : decode cX4_isHitHere 111 = .ok (.getfield 20, 3) := dk_180 0 20 (dk_at dksX4_isHitHere_4 15 rfl rfl)
theorem dX4_isHitHere_114 : decode cX4_isHitHere 114 = .ok (.iload_n 1, 1) := dk_27 (dk_at dksX4_isHitHere_4 18 rfl rfl)
theorem dX4_isHitHere_115 : decode cX4_isHitHere 115 = .ok (.iconst 3, 1) := dk_6 (dk_at dksX4_isHitHere_4 19 rfl rfl)
theorem dX4_isHitHere_116 : decode cX4_isHitHere 116 = .ok (.iadd, 1) := dk_96 (dk_at dksX4_isHitHere_4 20 rfl rfl)
theorem dX4_isHitHere_117 : decode cX4_isHitHere 117 = .ok (.aload_n 0, 1) := dk_42 (dk_at dksX4_isHitHere_4 21 rfl rfl)
theorem dX4_isHitHere_118 : decode cX4_isHitHere 118 = .ok (.getfield 17, 3) := dk_180 0 17 (dk_at dksX4_isHitHere_5 0 rfl rfl)
theorem dX4_isHitHere_121 : decode cX4_isHitHere 121 = .ok (.aload_n 0, 1) := dk_42 (dk_at dksX4_isHitHere_5 3 rfl rfl)
theorem dX4_isHitHere_122 : decode cX4_isHitHere 122 = .ok (.getfield 154, 3) := dk_180 0 154 (dk_at dksX4_isHitHere_5 4 rfl rfl)
theorem dX4_isHitHere_125 : decode cX4_isHitHere 125 = .ok (.iaload, 1) := dk_46 (dk_at dksX4_isHitHere_5 7 rfl rfl)
theorem dX4_isHitHere_126 : decode cX4_isHitHere 126 = .ok (.iastore, 1) := dk_79 (dk_at dksX4_isHitHere_5 8 rfl rfl)
theorem dX4_isHitHere_127 : decode cX4_isHitHere 127 = .ok (.aload_n 0, 1) := dk_42 (dk_at dksX4_isHitHere_5 9 rfl rfl)
theorem dX4_isHitHere_128 : decode cX4_isHitHere 128 = .ok (.getfield 23, 3) := dk_180 0 23 (dk_at dksX4_isHitHere_5 10 rfl rfl)
theorem dX4_isHitHere_131 : decode cX4_isHitHere 131 = .ok (.aload_n 0, 1) := dk_42 (dk_at dksX4_isHitHere_5 13 rfl rfl)
theorem dX4_isHitHere_132 : decode cX4_isHitHere 132 = .ok (.getfield 154, 3) := dk_180 0 154 (dk_at dksX4_isHitHere_5 14 rfl rfl)
theorem dX4_isHitHere_135 : decode cX4_isHitHere 135 = .ok (.dup2, 1) := dk_92 (dk_at dksX4_isHitHere_5 17 rfl rfl)
theorem dX4_isHitHere_136 : decode cX4_isHitHere 136 = .ok (.iaload, 1) := dk_46 (dk_at dksX4_isHitHere_5 18 rfl rfl)
theorem dX4_isHitHere_137 : decode cX4_isHitHere 137 = .ok (.iconst 1, 1) := dk_4 (dk_at dksX4_isHitHere_5 19 rfl rfl)
theorem dX4_isHitHere_138 : decode cX4_isHitHere 138 = .ok (.iadd, 1) := dk_96 (dk_at dksX4_isHitHere_5 20 rfl rfl)
theorem dX4_isHitHere_139 : decode cX4_isHitHere 139 = .ok (.iastore, 1) := dk_79 (dk_at dksX4_isHitHere_5 21 rfl rfl)
theorem dX4_isHitHere_140 : decode cX4_isHitHere 140 = .ok (.iconst 1, 1) := dk_4 (dk_at dksX4_isHitHere_5 22 rfl rfl)
theorem dX4_isHitHere_141 : decode cX4_isHitHere 141 = .ok (.ireturn, 1) := dk_172 (dk_at dksX4_isHitHere_5 23 rfl rfl)
abbrev cX4_sum : ByteArray := prog_19_method_24_code
def yX4_sum : MethodName := ⟨RX4, "sum", "()Z"⟩
def dkwX4_sum_3 : List UInt8 := [167, 255, 193, 4, 172]
abbrev dktX4_sum_3 : List UInt8 := dkwX4_sum_3 ++ []
def dkwX4_sum_2 : List UInt8 := [89, 180, 0, 96, 4, 96, 181, 0, 96, 42, 182, 0, 188, 154, 0, 5, 3, 172, 42, 27, 3, 182, 0, 170]
abbrev dktX4_sum_2 : List UInt8 := dkwX4_sum_2 ++ dktX4_sum_3
def dkwX4_sum_1 : List UInt8 := [160, 0, 51, 42, 180, 0, 7, 42, 180, 0, 96, 51, 16, 43, 160, 0, 7, 5, 167, 0, 4, 6, 60, 42]
abbrev dktX4_sum_1 : List UInt8 := dkwX4_sum_1 ++ dktX4_sum_2
def dkwX4_sum_0 : List UInt8 := [42, 182, 0, 188, 154, 0, 5, 3, 172, 42, 182, 0, 99, 16, 43, 159, 0, 12, 42, 182, 0, 99, 16, 45]
abbrev dktX4_sum_0 : List UInt8 := dkwX4_sum_0 ++ dktX4_sum_1
theorem dksX4_sum_0 : cX4_sum.data.toList.drop 0 = dktX4_sum_0 := by decide +kernel
theorem dksX4_sum_1 : cX4_sum.data.toList.drop 24 = dktX4_sum_1 := dk_seg dksX4_sum_0 24 rfl rfl
theorem dksX4_sum_2 : cX4_sum.data.toList.drop 48 = dktX4_sum_2 := dk_seg dksX4_sum_1 24 rfl rfl
theorem dksX4_sum_3 : cX4_sum.data.toList.drop 72 = dktX4_sum_3 := dk_seg dksX4_sum_2 24 rfl rfl
theorem dX4_sum_0 : decode cX4_sum 0 = .ok (.aload_n 0, 1) := dk_42 (dk_at dksX4_sum_0 0 rfl rfl)
theorem dX4_sum_1 : decode cX4_sum 1 = .ok (.invokevirtual 188, 3) := dk_182 0 188 (dk_at dksX4_sum_0 1 rfl rfl)
theorem dX4_sum_4 : decode cX4_sum 4 = .ok (.ifCond .ne 5, 3) := dk_154 0 5 (dk_at dksX4_sum_0 4 rfl rfl)
theorem dX4_sum_7 : decode cX4_sum 7 = .ok (.iconst 0, 1) := dk_3 (dk_at dksX4_sum_0 7 rfl rfl)
theorem dX4_sum_8 : decode cX4_sum 8 = .ok (.ireturn, 1) := dk_172 (dk_at dksX4_sum_0 8 rfl rfl)
theorem dX4_sum_9 : decode cX4_sum 9 = .ok (.aload_n 0, 1) := dk_42 (dk_at dksX4_sum_0 9 rfl rfl)
theorem dX4_sum_10 : decode cX4_sum 10 = .ok (.invokevirtual 99, 3) := dk_182 0 99 (dk_at dksX4_sum_0 10 rfl rfl)
theorem dX4_sum_13 : decode cX4_sum 13 = .ok (.bipush 43, 2) := dk_16 43 (dk_at dksX4_sum_0 13 rfl rfl)
theorem dX4_sum_15 : decode cX4_sum 15 = .ok (.if_icmp .eq 12, 3) := dk_159 0 12 (dk_at dksX4_sum_0 15 rfl rfl)
theorem dX4_sum_18 : decode cX4_sum 18 = .ok (.aload_n 0, 1) := dk_42 (dk_at dksX4_sum_0 18 rfl rfl)
theorem dX4_sum_19 : decode cX4_sum 19 = .ok (.invokevirtual 99, 3) := dk_182 0 99 (dk_at dksX4_sum_0 19 rfl rfl)
theorem dX4_sum_22 : decode cX4_sum 22 = .ok (.bipush 45, 2) := dk_16 45 (dk_at dksX4_sum_0 22 rfl rfl)
theorem dX4_sum_24 : decode cX4_sum 24 = .ok (.if_icmp .ne 51, 3) := dk_160 0 51 (dk_at dksX4_sum_1 0 rfl rfl)
theorem dX4_sum_27 : decode cX4_sum 27 = .ok (.aload_n 0, 1) := dk_42 (dk_at dksX4_sum_1 3 rfl rfl)
theorem dX4_sum_28 : decode cX4_sum 28 = .ok (.getfield 7, 3) := dk_180 0 7 (dk_at dksX4_sum_1 4 rfl rfl)
theorem dX4_sum_31 : decode cX4_sum 31 = .ok (.aload_n 0, 1) := dk_42 (dk_at dksX4_sum_1 7 rfl rfl)
theorem dX4_sum_32 : decode cX4_sum 32 = .ok (.getfield 96, 3) := dk_180 0 96 (dk_at dksX4_sum_1 8 rfl rfl)
theorem dX4_sum_35 : decode cX4_sum 35 = .ok (.baload, 1) := dk_51 (dk_at dksX4_sum_1 11 rfl rfl)
theorem dX4_sum_36 : decode cX4_sum 36 = .ok (.bipush 43, 2) := dk_16 43 (dk_at dksX4_sum_1 12 rfl rfl)
theorem dX4_sum_38 : decode cX4_sum 38 = .ok (.if_icmp .ne 7, 3) := dk_160 0 7 (dk_at dksX4_sum_1 14 rfl rfl)
theorem dX4_sum_41 : decode cX4_sum 41 = .ok (.iconst 2, 1) := dk_5 (dk_at dksX4_sum_1 17 rfl rfl)
theorem dX4_sum_42 : decode cX4_sum 42 = .ok (.goto 4, 3) := dk_167 0 4 (dk_at dksX4_sum_1 18 rfl rfl)
theorem dX4_sum_45 : decode cX4_sum 45 = .ok (.iconst 3, 1) := dk_6 (dk_at dksX4_sum_1 21 rfl rfl)
theorem dX4_sum_46 : decode cX4_sum 46 = .ok (.istore_n 1, 1) := dk_60 (dk_at dksX4_sum_1 22 rfl rfl)
theorem dX4_sum_47 : decode cX4_sum 47 = .ok (.aload_n 0, 1) := dk_42 (dk_at dksX4_sum_1 23 rfl rfl)
theorem dX4_sum_48 : decode cX4_sum 48 = .ok (.dup, 1) := dk_89 (dk_at dksX4_sum_2 0 rfl rfl)
theorem dX4_sum_49 : decode cX4_sum 49 = .ok (.getfield 96, 3) := dk_180 0 96 (dk_at dksX4_sum_2 1 rfl rfl)
theorem dX4_sum_52 : decode cX4_sum 52 = .ok (.iconst 1, 1) := dk_4 (dk_at dksX4_sum_2 4 rfl rfl)
theorem dX4_sum_53 : decode cX4_sum 53 = .ok (.iadd, 1) := dk_96 (dk_at dksX4_sum_2 5 rfl rfl)
theorem dX4_sum_54 : decode cX4_sum 54 = .ok (.putfield 96, 3) := dk_181 0 96 (dk_at dksX4_sum_2 6 rfl rfl)
theorem dX4_sum_57 : decode cX4_sum 57 = .ok (.aload_n 0, 1) := dk_42 (dk_at dksX4_sum_2 9 rfl rfl)
theorem dX4_sum_58 : decode cX4_sum 58 = .ok (.invokevirtual 188, 3) := dk_182 0 188 (dk_at dksX4_sum_2 10 rfl rfl)
theorem dX4_sum_61 : decode cX4_sum 61 = .ok (.ifCond .ne 5, 3) := dk_154 0 5 (dk_at dksX4_sum_2 13 rfl rfl)
theorem dX4_sum_64 : decode cX4_sum 64 = .ok (.iconst 0, 1) := dk_3 (dk_at dksX4_sum_2 16 rfl rfl)
theorem dX4_sum_65 : decode cX4_sum 65 = .ok (.ireturn, 1) := dk_172 (dk_at dksX4_sum_2 17 rfl rfl)
theorem dX4_sum_66 : decode cX4_sum 66 = .ok (.aload_n 0, 1) := dk_42 (dk_at dksX4_sum_2 18 rfl rfl)
theorem dX4_sum_67 : decode cX4_sum 67 = .ok (.iload_n 1, 1) := dk_27 (dk_at dksX4_sum_2 19 rfl rfl)
theorem dX4_sum_68 : decode cX4_sum 68 = .ok (.iconst 0, 1) := dk_3 (dk_at dksX4_sum_2 20 rfl rfl)
theorem dX4_sum_69 : decode cX4_sum 69 = .ok (.invokevirtual 170, 3) := dk_182 0 170 (dk_at dksX4_sum_2 21 rfl rfl)
theorem dX4_sum_72 : decode cX4_sum 72 = .ok (.goto (-63), 3) := dk_167 255 193 (dk_at dksX4_sum_3 0 rfl rfl)
theorem dX4_sum_75 : decode cX4_sum 75 = .ok (.iconst 1, 1) := dk_4 (dk_at dksX4_sum_3 3 rfl rfl)
theorem dX4_sum_76 : decode cX4_sum 76 = .ok (.ireturn, 1) := dk_172 (dk_at dksX4_sum_3 4 rfl rfl)
abbrev cX4_term : ByteArray := prog_19_method_23_code
def yX4_term : MethodName := ⟨RX4, "term", "()Z"⟩
def dkwX4_term_4 : List UInt8 := [172, 42, 27, 3, 182, 0, 170, 167, 255, 165, 4, 172]
abbrev dktX4_term_4 : List UInt8 := dkwX4_term_4 ++ []
def dkwX4_term_3 : List UInt8 := [167, 0, 5, 16, 14, 60, 42, 89, 180, 0, 96, 4, 96, 181, 0, 96, 42, 182, 0, 184, 154, 0, 5, 3]
abbrev dktX4_term_3 : List UInt8 := dkwX4_term_3 ++ dktX4_term_4
def dkwX4_term_2 : List UInt8 := [160, 0, 7, 7, 167, 0, 23, 42, 180, 0, 7, 42, 180, 0, 96, 51, 16, 47, 160, 0, 7, 8]
abbrev dktX4_term_2 : List UInt8 := dkwX4_term_2 ++ dktX4_term_3
def dkwX4_term_1 : List UInt8 := [159, 0, 12, 42, 182, 0, 99, 16, 37, 160, 0, 70, 42, 180, 0, 7, 42, 180, 0, 96, 51, 16, 42]
abbrev dktX4_term_1 : List UInt8 := dkwX4_term_1 ++ dktX4_term_2
def dkwX4_term_0 : List UInt8 := [42, 182, 0, 184, 154, 0, 5, 3, 172, 42, 182, 0, 99, 16, 42, 159, 0, 21, 42, 182, 0, 99, 16, 47]
abbrev dktX4_term_0 : List UInt8 := dkwX4_term_0 ++ dktX4_term_1
theorem dksX4_term_0 : cX4_term.data.toList.drop 0 = dktX4_term_0 := by decide +kernel
theorem dksX4_term_1 : cX4_term.data.toList.drop 24 = dktX4_term_1 := dk_seg dksX4_term_0 24 rfl rfl
theorem dksX4_term_2 : cX4_term.data.toList.drop 47 = dktX4_term_2 := dk_seg dksX4_term_1 23 rfl rfl
theorem dksX4_term_3 : cX4_term.data.toList.drop 69 = dktX4_term_3 := dk_seg dksX4_term_2 22 rfl rfl
theorem dksX4_term_4 : cX4_term.data.toList.drop 93 = dktX4_term_4 := dk_seg dksX4_term_3 24 rfl rfl
theorem dX4_term_0 : decode cX4_term 0 = .ok (.aload_n 0, 1) := dk_42 (dk_at dksX4_term_0 0 rfl rfl)
theorem dX4_term_1 : decode cX4_term 1 = .ok (.invokevirtual 184, 3) := dk_182 0 184 (dk_at dksX4_term_0 1 rfl rfl)
theorem dX4_term_4 : decode cX4_term 4 = .ok (.ifCond .ne 5, 3) := dk_154 0 5 (dk_at dksX4_term_0 4 rfl rfl)
theorem dX4_term_7 : decode cX4_term 7 = .ok (.iconst 0, 1) := dk_3 (dk_at dksX4_term_0 7 rfl rfl)
theorem dX4_term_8 : decode cX4_term 8 = .ok (.ireturn, 1) := dk_172 (dk_at dksX4_term_0 8 rfl rfl)
theorem dX4_term_9 : decode cX4_term 9 = .ok (.aload_n 0, 1) := dk_42 (dk_at dksX4_term_0 9 rfl rfl)
theorem dX4_term_10 : decode cX4_term 10 = .ok (.invokevirtual 99, 3) := dk_182 0 99 (dk_at dksX4_term_0 10 rfl rfl)
theorem dX4_term_13 : decode cX4_term 13 = .ok (.bipush 42, 2) := dk_16 42 (dk_at dksX4_term_0 13 rfl rfl)
theorem dX4_term_15 : decode cX4_term 15 = .ok (.if_icmp .eq 21, 3) := dk_159 0 21 (dk_at dksX4_term_0 15 rfl rfl)
theorem dX4_term_18 : decode cX4_term 18 = .ok (.aload_n 0, 1) := dk_42 (dk_at dksX4_term_0 18 rfl rfl)
theorem dX4_term_19 : decode cX4_term 19 = .ok (.invokevirtual 99, 3) := dk_182 0 99 (dk_at dksX4_term_0 19 rfl rfl)
theorem dX4_term_22 : decode cX4_term 22 = .ok (.bipush 47, 2) := dk_16 47 (dk_at dksX4_term_0 22 rfl rfl)
theorem dX4_term_24 : decode cX4_term 24 = .ok (.if_icmp .eq 12, 3) := dk_159 0 12 (dk_at dksX4_term_1 0 rfl rfl)
theorem dX4_term_27 : decode cX4_term 27 = .ok (.aload_n 0, 1) := dk_42 (dk_at dksX4_term_1 3 rfl rfl)
theorem dX4_term_28 : decode cX4_term 28 = .ok (.invokevirtual 99, 3) := dk_182 0 99 (dk_at dksX4_term_1 4 rfl rfl)
theorem dX4_term_31 : decode cX4_term 31 = .ok (.bipush 37, 2) := dk_16 37 (dk_at dksX4_term_1 7 rfl rfl)
theorem dX4_term_33 : decode cX4_term 33 = .ok (.if_icmp .ne 70, 3) := dk_160 0 70 (dk_at dksX4_term_1 9 rfl rfl)
theorem dX4_term_36 : decode cX4_term 36 = .ok (.aload_n 0, 1) := dk_42 (dk_at dksX4_term_1 12 rfl rfl)
theorem dX4_term_37 : decode cX4_term 37 = .ok (.getfield 7, 3) := dk_180 0 7 (dk_at dksX4_term_1 13 rfl rfl)
theorem dX4_term_40 : decode cX4_term 40 = .ok (.aload_n 0, 1) := dk_42 (dk_at dksX4_term_1 16 rfl rfl)
theorem dX4_term_41 : decode cX4_term 41 = .ok (.getfield 96, 3) := dk_180 0 96 (dk_at dksX4_term_1 17 rfl rfl)
theorem dX4_term_44 : decode cX4_term 44 = .ok (.baload, 1) := dk_51 (dk_at dksX4_term_1 20 rfl rfl)
theorem dX4_term_45 : decode cX4_term 45 = .ok (.bipush 42, 2) := dk_16 42 (dk_at dksX4_term_1 21 rfl rfl)
theorem dX4_term_47 : decode cX4_term 47 = .ok (.if_icmp .ne 7, 3) := dk_160 0 7 (dk_at dksX4_term_2 0 rfl rfl)
theorem dX4_term_50 : decode cX4_term 50 = .ok (.iconst 4, 1) := dk_7 (dk_at dksX4_term_2 3 rfl rfl)
theorem dX4_term_51 : decode cX4_term 51 = .ok (.goto 23, 3) := dk_167 0 23 (dk_at dksX4_term_2 4 rfl rfl)
theorem dX4_term_54 : decode cX4_term 54 = .ok (.aload_n 0, 1) := dk_42 (dk_at dksX4_term_2 7 rfl rfl)
theorem dX4_term_55 : decode cX4_term 55 = .ok (.getfield 7, 3) := dk_180 0 7 (dk_at dksX4_term_2 8 rfl rfl)
theorem dX4_term_58 : decode cX4_term 58 = .ok (.aload_n 0, 1) := dk_42 (dk_at dksX4_term_2 11 rfl rfl)
theorem dX4_term_59 : decode cX4_term 59 = .ok (.getfield 96, 3) := dk_180 0 96 (dk_at dksX4_term_2 12 rfl rfl)
theorem dX4_term_62 : decode cX4_term 62 = .ok (.baload, 1) := dk_51 (dk_at dksX4_term_2 15 rfl rfl)
theorem dX4_term_63 : decode cX4_term 63 = .ok (.bipush 47, 2) := dk_16 47 (dk_at dksX4_term_2 16 rfl rfl)
theorem dX4_term_65 : decode cX4_term 65 = .ok (.if_icmp .ne 7, 3) := dk_160 0 7 (dk_at dksX4_term_2 18 rfl rfl)
theorem dX4_term_68 : decode cX4_term 68 = .ok (.iconst 5, 1) := dk_8 (dk_at dksX4_term_2 21 rfl rfl)
theorem dX4_term_69 : decode cX4_term 69 = .ok (.goto 5, 3) := dk_167 0 5 (dk_at dksX4_term_3 0 rfl rfl)
theorem dX4_term_72 : decode cX4_term 72 = .ok (.bipush 14, 2) := dk_16 14 (dk_at dksX4_term_3 3 rfl rfl)
theorem dX4_term_74 : decode cX4_term 74 = .ok (.istore_n 1, 1) := dk_60 (dk_at dksX4_term_3 5 rfl rfl)
theorem dX4_term_75 : decode cX4_term 75 = .ok (.aload_n 0, 1) := dk_42 (dk_at dksX4_term_3 6 rfl rfl)
theorem dX4_term_76 : decode cX4_term 76 = .ok (.dup, 1) := dk_89 (dk_at dksX4_term_3 7 rfl rfl)
theorem dX4_term_77 : decode cX4_term 77 = .ok (.getfield 96, 3) := dk_180 0 96 (dk_at dksX4_term_3 8 rfl rfl)
theorem dX4_term_80 : decode cX4_term 80 = .ok (.iconst 1, 1) := dk_4 (dk_at dksX4_term_3 11 rfl rfl)
theorem dX4_term_81 : decode cX4_term 81 = .ok (.iadd, 1) := dk_96 (dk_at dksX4_term_3 12 rfl rfl)
theorem dX4_term_82 : decode cX4_term 82 = .ok (.putfield 96, 3) := dk_181 0 96 (dk_at dksX4_term_3 13 rfl rfl)
theorem dX4_term_85 : decode cX4_term 85 = .ok (.aload_n 0, 1) := dk_42 (dk_at dksX4_term_3 16 rfl rfl)
theorem dX4_term_86 : decode cX4_term 86 = .ok (.invokevirtual 184, 3) := dk_182 0 184 (dk_at dksX4_term_3 17 rfl rfl)
theorem dX4_term_89 : decode cX4_term 89 = .ok (.ifCond .ne 5, 3) := dk_154 0 5 (dk_at dksX4_term_3 20 rfl rfl)
theorem dX4_term_92 : decode cX4_term 92 = .ok (.iconst 0, 1) := dk_3 (dk_at dksX4_term_3 23 rfl rfl)
theorem dX4_term_93 : decode cX4_term 93 = .ok (.ireturn, 1) := dk_172 (dk_at dksX4_term_4 0 rfl rfl)
theorem dX4_term_94 : decode cX4_term 94 = .ok (.aload_n 0, 1) := dk_42 (dk_at dksX4_term_4 1 rfl rfl)
theorem dX4_term_95 : decode cX4_term 95 = .ok (.iload_n 1, 1) := dk_27 (dk_at dksX4_term_4 2 rfl rfl)
theorem dX4_term_96 : decode cX4_term 96 = .ok (.iconst 0, 1) := dk_3 (dk_at dksX4_term_4 3 rfl rfl)
theorem dX4_term_97 : decode cX4_term 97 = .ok (.invokevirtual 170, 3) := dk_182 0 170 (dk_at dksX4_term_4 4 rfl rfl)
theorem dX4_term_100 : decode cX4_term 100 = .ok (.goto (-91), 3) := dk_167 255 165 (dk_at dksX4_term_4 7 rfl rfl)
theorem dX4_term_103 : decode cX4_term 103 = .ok (.iconst 1, 1) := dk_4 (dk_at dksX4_term_4 10 rfl rfl)
theorem dX4_term_104 : decode cX4_term 104 = .ok (.ireturn, 1) := dk_172 (dk_at dksX4_term_4 11 rfl rfl)
abbrev cX4_value : ByteArray := prog_19_method_22_code
def yX4_value : MethodName := ⟨RX4, "value", "()Z"⟩
def dkwX4_value_3 : List UInt8 := [182, 0, 178, 154, 0, 5, 3, 172, 42, 182, 0, 111, 42, 4, 28, 182, 0, 170, 4, 172]
abbrev dktX4_value_3 : List UInt8 := dkwX4_value_3 ++ []
def dkwX4_value_2 : List UInt8 := [182, 0, 170, 4, 172, 42, 182, 0, 181, 61, 28, 156, 0, 10, 42, 3, 27, 182, 0, 117, 172, 42, 27]
abbrev dktX4_value_2 : List UInt8 := dkwX4_value_2 ++ dktX4_value_3
def dkwX4_value_1 : List UInt8 := [18, 174, 182, 0, 175, 153, 0, 11, 42, 27, 182, 0, 178, 154, 0, 5, 3, 172, 42, 3, 42, 180, 0, 121]
abbrev dktX4_value_1 : List UInt8 := dkwX4_value_1 ++ dktX4_value_2
def dkwX4_value_0 : List UInt8 := [42, 182, 0, 99, 87, 42, 180, 0, 96, 60, 42, 42, 180, 0, 96, 182, 0, 114, 153, 0, 34, 42, 3]
abbrev dktX4_value_0 : List UInt8 := dkwX4_value_0 ++ dktX4_value_1
theorem dksX4_value_0 : cX4_value.data.toList.drop 0 = dktX4_value_0 := by decide +kernel
theorem dksX4_value_1 : cX4_value.data.toList.drop 23 = dktX4_value_1 := dk_seg dksX4_value_0 23 rfl rfl
theorem dksX4_value_2 : cX4_value.data.toList.drop 47 = dktX4_value_2 := dk_seg dksX4_value_1 24 rfl rfl
theorem dksX4_value_3 : cX4_value.data.toList.drop 70 = dktX4_value_3 := dk_seg dksX4_value_2 23 rfl rfl
theorem dX4_value_0 : decode cX4_value 0 = .ok (.aload_n 0, 1) := dk_42 (dk_at dksX4_value_0 0 rfl rfl)
theorem dX4_value_1 : decode cX4_value 1 = .ok (.invokevirtual 99, 3) := dk_182 0 99 (dk_at dksX4_value_0 1 rfl rfl)
theorem dX4_value_4 : decode cX4_value 4 = .ok (.pop, 1) := dk_87 (dk_at dksX4_value_0 4 rfl rfl)
theorem dX4_value_5 : decode cX4_value 5 = .ok (.aload_n 0, 1) := dk_42 (dk_at dksX4_value_0 5 rfl rfl)
theorem dX4_value_6 : decode cX4_value 6 = .ok (.getfield 96, 3) := dk_180 0 96 (dk_at dksX4_value_0 6 rfl rfl)
theorem dX4_value_9 : decode cX4_value 9 = .ok (.istore_n 1, 1) := dk_60 (dk_at dksX4_value_0 9 rfl rfl)
theorem dX4_value_10 : decode cX4_value 10 = .ok (.aload_n 0, 1) := dk_42 (dk_at dksX4_value_0 10 rfl rfl)
theorem dX4_value_11 : decode cX4_value 11 = .ok (.aload_n 0, 1) := dk_42 (dk_at dksX4_value_0 11 rfl rfl)
theorem dX4_value_12 : decode cX4_value 12 = .ok (.getfield 96, 3) := dk_180 0 96 (dk_at dksX4_value_0 12 rfl rfl)
theorem dX4_value_15 : decode cX4_value 15 = .ok (.invokevirtual 114, 3) := dk_182 0 114 (dk_at dksX4_value_0 15 rfl rfl)
theorem dX4_value_18 : decode cX4_value 18 = .ok (.ifCond .eq 34, 3) := dk_153 0 34 (dk_at dksX4_value_0 18 rfl rfl)
theorem dX4_value_21 : decode cX4_value 21 = .ok (.aload_n 0, 1) := dk_42 (dk_at dksX4_value_0 21 rfl rfl)
theorem dX4_value_22 : decode cX4_value 22 = .ok (.iconst 0, 1) := dk_3 (dk_at dksX4_value_0 22 rfl rfl)
theorem dX4_value_23 : decode cX4_value 23 = .ok (.ldc 174, 2) := dk_18 174 (dk_at dksX4_value_1 0 rfl rfl)
theorem dX4_value_25 : decode cX4_value 25 = .ok (.invokevirtual 175, 3) := dk_182 0 175 (dk_at dksX4_value_1 2 rfl rfl)
theorem dX4_value_28 : decode cX4_value 28 = .ok (.ifCond .eq 11, 3) := dk_153 0 11 (dk_at dksX4_value_1 5 rfl rfl)
theorem dX4_value_31 : decode cX4_value 31 = .ok (.aload_n 0, 1) := dk_42 (dk_at dksX4_value_1 8 rfl rfl)
theorem dX4_value_32 : decode cX4_value 32 = .ok (.iload_n 1, 1) := dk_27 (dk_at dksX4_value_1 9 rfl rfl)
theorem dX4_value_33 : decode cX4_value 33 = .ok (.invokevirtual 178, 3) := dk_182 0 178 (dk_at dksX4_value_1 10 rfl rfl)
theorem dX4_value_36 : decode cX4_value 36 = .ok (.ifCond .ne 5, 3) := dk_154 0 5 (dk_at dksX4_value_1 13 rfl rfl)
theorem dX4_value_39 : decode cX4_value 39 = .ok (.iconst 0, 1) := dk_3 (dk_at dksX4_value_1 16 rfl rfl)
theorem dX4_value_40 : decode cX4_value 40 = .ok (.ireturn, 1) := dk_172 (dk_at dksX4_value_1 17 rfl rfl)
theorem dX4_value_41 : decode cX4_value 41 = .ok (.aload_n 0, 1) := dk_42 (dk_at dksX4_value_1 18 rfl rfl)
theorem dX4_value_42 : decode cX4_value 42 = .ok (.iconst 0, 1) := dk_3 (dk_at dksX4_value_1 19 rfl rfl)
theorem dX4_value_43 : decode cX4_value 43 = .ok (.aload_n 0, 1) := dk_42 (dk_at dksX4_value_1 20 rfl rfl)
theorem dX4_value_44 : decode cX4_value 44 = .ok (.getfield 121, 3) := dk_180 0 121 (dk_at dksX4_value_1 21 rfl rfl)
theorem dX4_value_47 : decode cX4_value 47 = .ok (.invokevirtual 170, 3) := dk_182 0 170 (dk_at dksX4_value_2 0 rfl rfl)
theorem dX4_value_50 : decode cX4_value 50 = .ok (.iconst 1, 1) := dk_4 (dk_at dksX4_value_2 3 rfl rfl)
theorem dX4_value_51 : decode cX4_value 51 = .ok (.ireturn, 1) := dk_172 (dk_at dksX4_value_2 4 rfl rfl)
theorem dX4_value_52 : decode cX4_value 52 = .ok (.aload_n 0, 1) := dk_42 (dk_at dksX4_value_2 5 rfl rfl)
theorem dX4_value_53 : decode cX4_value 53 = .ok (.invokevirtual 181, 3) := dk_182 0 181 (dk_at dksX4_value_2 6 rfl rfl)
theorem dX4_value_56 : decode cX4_value 56 = .ok (.istore_n 2, 1) := dk_61 (dk_at dksX4_value_2 9 rfl rfl)
theorem dX4_value_57 : decode cX4_value 57 = .ok (.iload_n 2, 1) := dk_28 (dk_at dksX4_value_2 10 rfl rfl)
theorem dX4_value_58 : decode cX4_value 58 = .ok (.ifCond .ge 10, 3) := dk_156 0 10 (dk_at dksX4_value_2 11 rfl rfl)
theorem dX4_value_61 : decode cX4_value 61 = .ok (.aload_n 0, 1) := dk_42 (dk_at dksX4_value_2 14 rfl rfl)
theorem dX4_value_62 : decode cX4_value 62 = .ok (.iconst 0, 1) := dk_3 (dk_at dksX4_value_2 15 rfl rfl)
theorem dX4_value_63 : decode cX4_value 63 = .ok (.iload_n 1, 1) := dk_27 (dk_at dksX4_value_2 16 rfl rfl)
theorem dX4_value_64 : decode cX4_value 64 = .ok (.invokevirtual 117, 3) := dk_182 0 117 (dk_at dksX4_value_2 17 rfl rfl)
theorem dX4_value_67 : decode cX4_value 67 = .ok (.ireturn, 1) := dk_172 (dk_at dksX4_value_2 20 rfl rfl)
theorem dX4_value_68 : decode cX4_value 68 = .ok (.aload_n 0, 1) := dk_42 (dk_at dksX4_value_2 21 rfl rfl)
theorem dX4_value_69 : decode cX4_value 69 = .ok (.iload_n 1, 1) := dk_27 (dk_at dksX4_value_2 22 rfl rfl)
theorem dX4_value_70 : decode cX4_value 70 = .ok (.invokevirtual 178, 3) := dk_182 0 178 (dk_at dksX4_value_3 0 rfl rfl)
theorem dX4_value_73 : decode cX4_value 73 = .ok (.ifCond .ne 5, 3) := dk_154 0 5 (dk_at dksX4_value_3 3 rfl rfl)
theorem dX4_value_76 : decode cX4_value 76 = .ok (.iconst 0, 1) := dk_3 (dk_at dksX4_value_3 6 rfl rfl)
theorem dX4_value_77 : decode cX4_value 77 = .ok (.ireturn, 1) := dk_172 (dk_at dksX4_value_3 7 rfl rfl)
theorem dX4_value_78 : decode cX4_value 78 = .ok (.aload_n 0, 1) := dk_42 (dk_at dksX4_value_3 8 rfl rfl)
theorem dX4_value_79 : decode cX4_value 79 = .ok (.invokevirtual 111, 3) := dk_182 0 111 (dk_at dksX4_value_3 9 rfl rfl)
theorem dX4_value_82 : decode cX4_value 82 = .ok (.aload_n 0, 1) := dk_42 (dk_at dksX4_value_3 12 rfl rfl)
theorem dX4_value_83 : decode cX4_value 83 = .ok (.iconst 1, 1) := dk_4 (dk_at dksX4_value_3 13 rfl rfl)
theorem dX4_value_84 : decode cX4_value 84 = .ok (.iload_n 2, 1) := dk_28 (dk_at dksX4_value_3 14 rfl rfl)
theorem dX4_value_85 : decode cX4_value 85 = .ok (.invokevirtual 170, 3) := dk_182 0 170 (dk_at dksX4_value_3 15 rfl rfl)
theorem dX4_value_88 : decode cX4_value 88 = .ok (.iconst 1, 1) := dk_4 (dk_at dksX4_value_3 18 rfl rfl)
theorem dX4_value_89 : decode cX4_value 89 = .ok (.ireturn, 1) := dk_172 (dk_at dksX4_value_3 19 rfl rfl)
abbrev cX4_makes : ByteArray := prog_19_method_18_code
def yX4_makes : MethodName := ⟨RX4, "makes", "(I)Z"⟩
def dkwX4_makes_1 : List UInt8 := [181, 0, 157, 4, 172]
abbrev dktX4_makes_1 : List UInt8 := dkwX4_makes_1 ++ []
def dkwX4_makes_0 : List UInt8 := [42, 180, 0, 157, 16, 60, 160, 0, 10, 42, 6, 27, 182, 0, 117, 172, 42, 89, 180, 0, 157, 4, 96]
abbrev dktX4_makes_0 : List UInt8 := dkwX4_makes_0 ++ dktX4_makes_1
theorem dksX4_makes_0 : cX4_makes.data.toList.drop 0 = dktX4_makes_0 := by decide +kernel
theorem dksX4_makes_1 : cX4_makes.data.toList.drop 23 = dktX4_makes_1 := dk_seg dksX4_makes_0 23 rfl rfl
theorem dX4_makes_0 : decode cX4_makes 0 = .ok (.aload_n 0, 1) := dk_42 (dk_at dksX4_makes_0 0 rfl rfl)
theorem dX4_makes_1 : decode cX4_makes 1 = .ok (.getfield 157, 3) := dk_180 0 157 (dk_at dksX4_makes_0 1 rfl rfl)
theorem dX4_makes_4 : decode cX4_makes 4 = .ok (.bipush 60, 2) := dk_16 60 (dk_at dksX4_makes_0 4 rfl rfl)
theorem dX4_makes_6 : decode cX4_makes 6 = .ok (.if_icmp .ne 10, 3) := dk_160 0 10 (dk_at dksX4_makes_0 6 rfl rfl)
theorem dX4_makes_9 : decode cX4_makes 9 = .ok (.aload_n 0, 1) := dk_42 (dk_at dksX4_makes_0 9 rfl rfl)
theorem dX4_makes_10 : decode cX4_makes 10 = .ok (.iconst 3, 1) := dk_6 (dk_at dksX4_makes_0 10 rfl rfl)
theorem dX4_makes_11 : decode cX4_makes 11 = .ok (.iload_n 1, 1) := dk_27 (dk_at dksX4_makes_0 11 rfl rfl)
theorem dX4_makes_12 : decode cX4_makes 12 = .ok (.invokevirtual 117, 3) := dk_182 0 117 (dk_at dksX4_makes_0 12 rfl rfl)
theorem dX4_makes_15 : decode cX4_makes 15 = .ok (.ireturn, 1) := dk_172 (dk_at dksX4_makes_0 15 rfl rfl)
theorem dX4_makes_16 : decode cX4_makes 16 = .ok (.aload_n 0, 1) := dk_42 (dk_at dksX4_makes_0 16 rfl rfl)
theorem dX4_makes_17 : decode cX4_makes 17 = .ok (.dup, 1) := dk_89 (dk_at dksX4_makes_0 17 rfl rfl)
theorem dX4_makes_18 : decode cX4_makes 18 = .ok (.getfield 157, 3) := dk_180 0 157 (dk_at dksX4_makes_0 18 rfl rfl)
theorem dX4_makes_21 : decode cX4_makes 21 = .ok (.iconst 1, 1) := dk_4 (dk_at dksX4_makes_0 21 rfl rfl)
theorem dX4_makes_22 : decode cX4_makes 22 = .ok (.iadd, 1) := dk_96 (dk_at dksX4_makes_0 22 rfl rfl)
theorem dX4_makes_23 : decode cX4_makes 23 = .ok (.putfield 157, 3) := dk_181 0 157 (dk_at dksX4_makes_1 0 rfl rfl)
theorem dX4_makes_26 : decode cX4_makes 26 = .ok (.iconst 1, 1) := dk_4 (dk_at dksX4_makes_1 3 rfl rfl)
theorem dX4_makes_27 : decode cX4_makes 27 = .ok (.ireturn, 1) := dk_172 (dk_at dksX4_makes_1 4 rfl rfl)
abbrev cX4_puts : ByteArray := prog_19_method_17_code
def yX4_puts : MethodName := ⟨RX4, "puts", "(II)V"⟩
def dkwX4_puts_1 : List UInt8 := [16, 16, 28, 104, 96, 79, 42, 180, 0, 17, 42, 180, 0, 154, 92, 46, 4, 96, 79, 177]
abbrev dktX4_puts_1 : List UInt8 := dkwX4_puts_1 ++ []
def dkwX4_puts_0 : List UInt8 := [42, 180, 0, 13, 17, 1, 144, 42, 180, 0, 154, 104, 42, 180, 0, 17, 42, 180, 0, 154, 46, 96, 27]
abbrev dktX4_puts_0 : List UInt8 := dkwX4_puts_0 ++ dktX4_puts_1
theorem dksX4_puts_0 : cX4_puts.data.toList.drop 0 = dktX4_puts_0 := by decide +kernel
theorem dksX4_puts_1 : cX4_puts.data.toList.drop 23 = dktX4_puts_1 := dk_seg dksX4_puts_0 23 rfl rfl
theorem dX4_puts_0 : decode cX4_puts 0 = .ok (.aload_n 0, 1) := dk_42 (dk_at dksX4_puts_0 0 rfl rfl)
theorem dX4_puts_1 : decode cX4_puts 1 = .ok (.getfield 13, 3) := dk_180 0 13 (dk_at dksX4_puts_0 1 rfl rfl)
theorem dX4_puts_4 : decode cX4_puts 4 = .ok (.sipush 400, 3) := dk_17 1 144 (dk_at dksX4_puts_0 4 rfl rfl)
theorem dX4_puts_7 : decode cX4_puts 7 = .ok (.aload_n 0, 1) := dk_42 (dk_at dksX4_puts_0 7 rfl rfl)
theorem dX4_puts_8 : decode cX4_puts 8 = .ok (.getfield 154, 3) := dk_180 0 154 (dk_at dksX4_puts_0 8 rfl rfl)
theorem dX4_puts_11 : decode cX4_puts 11 = .ok (.imul, 1) := dk_104 (dk_at dksX4_puts_0 11 rfl rfl)
theorem dX4_puts_12 : decode cX4_puts 12 = .ok (.aload_n 0, 1) := dk_42 (dk_at dksX4_puts_0 12 rfl rfl)
theorem dX4_puts_13 : decode cX4_puts 13 = .ok (.getfield 17, 3) := dk_180 0 17 (dk_at dksX4_puts_0 13 rfl rfl)
theorem dX4_puts_16 : decode cX4_puts 16 = .ok (.aload_n 0, 1) := dk_42 (dk_at dksX4_puts_0 16 rfl rfl)
theorem dX4_puts_17 : decode cX4_puts 17 = .ok (.getfield 154, 3) := dk_180 0 154 (dk_at dksX4_puts_0 17 rfl rfl)
theorem dX4_puts_20 : decode cX4_puts 20 = .ok (.iaload, 1) := dk_46 (dk_at dksX4_puts_0 20 rfl rfl)
theorem dX4_puts_21 : decode cX4_puts 21 = .ok (.iadd, 1) := dk_96 (dk_at dksX4_puts_0 21 rfl rfl)
theorem dX4_puts_22 : decode cX4_puts 22 = .ok (.iload_n 1, 1) := dk_27 (dk_at dksX4_puts_0 22 rfl rfl)
theorem dX4_puts_23 : decode cX4_puts 23 = .ok (.bipush 16, 2) := dk_16 16 (dk_at dksX4_puts_1 0 rfl rfl)
theorem dX4_puts_25 : decode cX4_puts 25 = .ok (.iload_n 2, 1) := dk_28 (dk_at dksX4_puts_1 2 rfl rfl)
theorem dX4_puts_26 : decode cX4_puts 26 = .ok (.imul, 1) := dk_104 (dk_at dksX4_puts_1 3 rfl rfl)
theorem dX4_puts_27 : decode cX4_puts 27 = .ok (.iadd, 1) := dk_96 (dk_at dksX4_puts_1 4 rfl rfl)
theorem dX4_puts_28 : decode cX4_puts 28 = .ok (.iastore, 1) := dk_79 (dk_at dksX4_puts_1 5 rfl rfl)
theorem dX4_puts_29 : decode cX4_puts 29 = .ok (.aload_n 0, 1) := dk_42 (dk_at dksX4_puts_1 6 rfl rfl)
theorem dX4_puts_30 : decode cX4_puts 30 = .ok (.getfield 17, 3) := dk_180 0 17 (dk_at dksX4_puts_1 7 rfl rfl)
theorem dX4_puts_33 : decode cX4_puts 33 = .ok (.aload_n 0, 1) := dk_42 (dk_at dksX4_puts_1 10 rfl rfl)
theorem dX4_puts_34 : decode cX4_puts 34 = .ok (.getfield 154, 3) := dk_180 0 154 (dk_at dksX4_puts_1 11 rfl rfl)
theorem dX4_puts_37 : decode cX4_puts 37 = .ok (.dup2, 1) := dk_92 (dk_at dksX4_puts_1 14 rfl rfl)
theorem dX4_puts_38 : decode cX4_puts 38 = .ok (.iaload, 1) := dk_46 (dk_at dksX4_puts_1 15 rfl rfl)
theorem dX4_puts_39 : decode cX4_puts 39 = .ok (.iconst 1, 1) := dk_4 (dk_at dksX4_puts_1 16 rfl rfl)
theorem dX4_puts_40 : decode cX4_puts 40 = .ok (.iadd, 1) := dk_96 (dk_at dksX4_puts_1 17 rfl rfl)
theorem dX4_puts_41 : decode cX4_puts 41 = .ok (.iastore, 1) := dk_79 (dk_at dksX4_puts_1 18 rfl rfl)
theorem dX4_puts_42 : decode cX4_puts 42 = .ok (.return_, 1) := dk_177 (dk_at dksX4_puts_1 19 rfl rfl)
abbrev cX4_wordHere : ByteArray := prog_19_method_16_code
def yX4_wordHere : MethodName := ⟨RX4, "wordHere", "()I"⟩
def dkwX4_wordHere_7 : List UInt8 := [167, 0, 4, 2, 172]
abbrev dktX4_wordHere_7 : List UInt8 := dkwX4_wordHere_7 ++ []
def dkwX4_wordHere_6 : List UInt8 := [182, 0, 107, 153, 0, 8, 16, 11, 167, 0, 19, 42, 20, 0, 152, 182, 0, 107, 153, 0, 8, 16, 12]
abbrev dktX4_wordHere_6 : List UInt8 := dkwX4_wordHere_6 ++ dktX4_wordHere_7
def dkwX4_wordHere_5 : List UInt8 := [153, 0, 6, 16, 9, 172, 42, 20, 0, 148, 182, 0, 107, 153, 0, 6, 16, 10, 172, 42, 20, 0, 150]
abbrev dktX4_wordHere_5 : List UInt8 := dkwX4_wordHere_5 ++ dktX4_wordHere_6
def dkwX4_wordHere_4 : List UInt8 := [16, 7, 172, 42, 20, 0, 144, 182, 0, 107, 153, 0, 6, 16, 8, 172, 42, 20, 0, 146, 182, 0, 107]
abbrev dktX4_wordHere_4 : List UInt8 := dkwX4_wordHere_4 ++ dktX4_wordHere_5
def dkwX4_wordHere_3 : List UInt8 := [42, 20, 0, 140, 182, 0, 107, 153, 0, 6, 16, 6, 172, 42, 20, 0, 142, 182, 0, 107, 153, 0, 6]
abbrev dktX4_wordHere_3 : List UInt8 := dkwX4_wordHere_3 ++ dktX4_wordHere_4
def dkwX4_wordHere_2 : List UInt8 := [42, 20, 0, 136, 182, 0, 107, 153, 0, 5, 7, 172, 42, 20, 0, 138, 182, 0, 107, 153, 0, 5, 8, 172]
abbrev dktX4_wordHere_2 : List UInt8 := dkwX4_wordHere_2 ++ dktX4_wordHere_3
def dkwX4_wordHere_1 : List UInt8 := [42, 20, 0, 132, 182, 0, 107, 153, 0, 5, 5, 172, 42, 20, 0, 134, 182, 0, 107, 153, 0, 5, 6, 172]
abbrev dktX4_wordHere_1 : List UInt8 := dkwX4_wordHere_1 ++ dktX4_wordHere_2
def dkwX4_wordHere_0 : List UInt8 := [42, 20, 0, 128, 182, 0, 107, 153, 0, 5, 3, 172, 42, 20, 0, 130, 182, 0, 107, 153, 0, 5, 4, 172]
abbrev dktX4_wordHere_0 : List UInt8 := dkwX4_wordHere_0 ++ dktX4_wordHere_1
theorem dksX4_wordHere_0 : cX4_wordHere.data.toList.drop 0 = dktX4_wordHere_0 := by decide +kernel
theorem dksX4_wordHere_1 : cX4_wordHere.data.toList.drop 24 = dktX4_wordHere_1 := dk_seg dksX4_wordHere_0 24 rfl rfl
theorem dksX4_wordHere_2 : cX4_wordHere.data.toList.drop 48 = dktX4_wordHere_2 := dk_seg dksX4_wordHere_1 24 rfl rfl
theorem dksX4_wordHere_3 : cX4_wordHere.data.toList.drop 72 = dktX4_wordHere_3 := dk_seg dksX4_wordHere_2 24 rfl rfl
theorem dksX4_wordHere_4 : cX4_wordHere.data.toList.drop 95 = dktX4_wordHere_4 := dk_seg dksX4_wordHere_3 23 rfl rfl
theorem dksX4_wordHere_5 : cX4_wordHere.data.toList.drop 118 = dktX4_wordHere_5 := dk_seg dksX4_wordHere_4 23 rfl rfl
theorem dksX4_wordHere_6 : cX4_wordHere.data.toList.drop 141 = dktX4_wordHere_6 := dk_seg dksX4_wordHere_5 23 rfl rfl
theorem dksX4_wordHere_7 : cX4_wordHere.data.toList.drop 164 = dktX4_wordHere_7 := dk_seg dksX4_wordHere_6 23 rfl rfl
theorem dX4_wordHere_0 : decode cX4_wordHere 0 = .ok (.aload_n 0, 1) := dk_42 (dk_at dksX4_wordHere_0 0 rfl rfl)
theorem dX4_wordHere_1 : decode cX4_wordHere 1 = .ok (.ldc2_w 128, 3) := dk_20 0 128 (dk_at dksX4_wordHere_0 1 rfl rfl)
theorem dX4_wordHere_4 : decode cX4_wordHere 4 = .ok (.invokevirtual 107, 3) := dk_182 0 107 (dk_at dksX4_wordHere_0 4 rfl rfl)
theorem dX4_wordHere_7 : decode cX4_wordHere 7 = .ok (.ifCond .eq 5, 3) := dk_153 0 5 (dk_at dksX4_wordHere_0 7 rfl rfl)
theorem dX4_wordHere_10 : decode cX4_wordHere 10 = .ok (.iconst 0, 1) := dk_3 (dk_at dksX4_wordHere_0 10 rfl rfl)
theorem dX4_wordHere_11 : decode cX4_wordHere 11 = .ok (.ireturn, 1) := dk_172 (dk_at dksX4_wordHere_0 11 rfl rfl)
theorem dX4_wordHere_12 : decode cX4_wordHere 12 = .ok (.aload_n 0, 1) := dk_42 (dk_at dksX4_wordHere_0 12 rfl rfl)
theorem dX4_wordHere_13 : decode cX4_wordHere 13 = .ok (.ldc2_w 130, 3) := dk_20 0 130 (dk_at dksX4_wordHere_0 13 rfl rfl)
theorem dX4_wordHere_16 : decode cX4_wordHere 16 = .ok (.invokevirtual 107, 3) := dk_182 0 107 (dk_at dksX4_wordHere_0 16 rfl rfl)
theorem dX4_wordHere_19 : decode cX4_wordHere 19 = .ok (.ifCond .eq 5, 3) := dk_153 0 5 (dk_at dksX4_wordHere_0 19 rfl rfl)
theorem dX4_wordHere_22 : decode cX4_wordHere 22 = .ok (.iconst 1, 1) := dk_4 (dk_at dksX4_wordHere_0 22 rfl rfl)
theorem dX4_wordHere_23 : decode cX4_wordHere 23 = .ok (.ireturn, 1) := dk_172 (dk_at dksX4_wordHere_0 23 rfl rfl)
theorem dX4_wordHere_24 : decode cX4_wordHere 24 = .ok (.aload_n 0, 1) := dk_42 (dk_at dksX4_wordHere_1 0 rfl rfl)
theorem dX4_wordHere_25 : decode cX4_wordHere 25 = .ok (.ldc2_w 132, 3) := dk_20 0 132 (dk_at dksX4_wordHere_1 1 rfl rfl)
theorem dX4_wordHere_28 : decode cX4_wordHere 28 = .ok (.invokevirtual 107, 3) := dk_182 0 107 (dk_at dksX4_wordHere_1 4 rfl rfl)
theorem dX4_wordHere_31 : decode cX4_wordHere 31 = .ok (.ifCond .eq 5, 3) := dk_153 0 5 (dk_at dksX4_wordHere_1 7 rfl rfl)
theorem dX4_wordHere_34 : decode cX4_wordHere 34 = .ok (.iconst 2, 1) := dk_5 (dk_at dksX4_wordHere_1 10 rfl rfl)
theorem dX4_wordHere_35 : decode cX4_wordHere 35 = .ok (.ireturn, 1) := dk_172 (dk_at dksX4_wordHere_1 11 rfl rfl)
theorem dX4_wordHere_36 : decode cX4_wordHere 36 = .ok (.aload_n 0, 1) := dk_42 (dk_at dksX4_wordHere_1 12 rfl rfl)
theorem dX4_wordHere_37 : decode cX4_wordHere 37 = .ok (.ldc2_w 134, 3) := dk_20 0 134 (dk_at dksX4_wordHere_1 13 rfl rfl)
theorem dX4_wordHere_40 : decode cX4_wordHere 40 = .ok (.invokevirtual 107, 3) := dk_182 0 107 (dk_at dksX4_wordHere_1 16 rfl rfl)
theorem dX4_wordHere_43 : decode cX4_wordHere 43 = .ok (.ifCond .eq 5, 3) := dk_153 0 5 (dk_at dksX4_wordHere_1 19 rfl rfl)
theorem dX4_wordHere_46 : decode cX4_wordHere 46 = .ok (.iconst 3, 1) := dk_6 (dk_at dksX4_wordHere_1 22 rfl rfl)
theorem dX4_wordHere_47 : decode cX4_wordHere 47 = .ok (.ireturn, 1) := dk_172 (dk_at dksX4_wordHere_1 23 rfl rfl)
theorem dX4_wordHere_48 : decode cX4_wordHere 48 = .ok (.aload_n 0, 1) := dk_42 (dk_at dksX4_wordHere_2 0 rfl rfl)
theorem dX4_wordHere_49 : decode cX4_wordHere 49 = .ok (.ldc2_w 136, 3) := dk_20 0 136 (dk_at dksX4_wordHere_2 1 rfl rfl)
theorem dX4_wordHere_52 : decode cX4_wordHere 52 = .ok (.invokevirtual 107, 3) := dk_182 0 107 (dk_at dksX4_wordHere_2 4 rfl rfl)
theorem dX4_wordHere_55 : decode cX4_wordHere 55 = .ok (.ifCond .eq 5, 3) := dk_153 0 5 (dk_at dksX4_wordHere_2 7 rfl rfl)
theorem dX4_wordHere_58 : decode cX4_wordHere 58 = .ok (.iconst 4, 1) := dk_7 (dk_at dksX4_wordHere_2 10 rfl rfl)
theorem dX4_wordHere_59 : decode cX4_wordHere 59 = .ok (.ireturn, 1) := dk_172 (dk_at dksX4_wordHere_2 11 rfl rfl)
theorem dX4_wordHere_60 : decode cX4_wordHere 60 = .ok (.aload_n 0, 1) := dk_42 (dk_at dksX4_wordHere_2 12 rfl rfl)
theorem dX4_wordHere_61 : decode cX4_wordHere 61 = .ok (.ldc2_w 138, 3) := dk_20 0 138 (dk_at dksX4_wordHere_2 13 rfl rfl)
theorem dX4_wordHere_64 : decode cX4_wordHere 64 = .ok (.invokevirtual 107, 3) := dk_182 0 107 (dk_at dksX4_wordHere_2 16 rfl rfl)
theorem dX4_wordHere_67 : decode cX4_wordHere 67 = .ok (.ifCond .eq 5, 3) := dk_153 0 5 (dk_at dksX4_wordHere_2 19 rfl rfl)
theorem dX4_wordHere_70 : decode cX4_wordHere 70 = .ok (.iconst 5, 1) := dk_8 (dk_at dksX4_wordHere_2 22 rfl rfl)
theorem dX4_wordHere_71 : decode cX4_wordHere 71 = .ok (.ireturn, 1) := dk_172 (dk_at dksX4_wordHere_2 23 rfl rfl)
theorem dX4_wordHere_72 : decode cX4_wordHere 72 = .ok (.aload_n 0, 1) := dk_42 (dk_at dksX4_wordHere_3 0 rfl rfl)
theorem dX4_wordHere_73 : decode cX4_wordHere 73 = .ok (.ldc2_w 140, 3) := dk_20 0 140 (dk_at dksX4_wordHere_3 1 rfl rfl)
theorem dX4_wordHere_76 : decode cX4_wordHere 76 = .ok (.invokevirtual 107, 3) := dk_182 0 107 (dk_at dksX4_wordHere_3 4 rfl rfl)
theorem dX4_wordHere_79 : decode cX4_wordHere 79 = .ok (.ifCond .eq 6, 3) := dk_153 0 6 (dk_at dksX4_wordHere_3 7 rfl rfl)
theorem dX4_wordHere_82 : decode cX4_wordHere 82 = .ok (.bipush 6, 2) := dk_16 6 (dk_at dksX4_wordHere_3 10 rfl rfl)
theorem dX4_wordHere_84 : decode cX4_wordHere 84 = .ok (.ireturn, 1) := dk_172 (dk_at dksX4_wordHere_3 12 rfl rfl)
theorem dX4_wordHere_85 : decode cX4_wordHere 85 = .ok (.aload_n 0, 1) := dk_42 (dk_at dksX4_wordHere_3 13 rfl rfl)
theorem dX4_wordHere_86 : decode cX4_wordHere 86 = .ok (.ldc2_w 142, 3) := dk_20 0 142 (dk_at dksX4_wordHere_3 14 rfl rfl)
theorem dX4_wordHere_89 : decode cX4_wordHere 89 = .ok (.invokevirtual 107, 3) := dk_182 0 107 (dk_at dksX4_wordHere_3 17 rfl rfl)
theorem dX4_wordHere_92 : decode cX4_wordHere 92 = .ok (.ifCond .eq 6, 3) := dk_153 0 6 (dk_at dksX4_wordHere_3 20 rfl rfl)
theorem dX4_wordHere_95 : decode cX4_wordHere 95 = .ok (.bipush 7, 2) := dk_16 7 (dk_at dksX4_wordHere_4 0 rfl rfl)
theorem dX4_wordHere_97 : decode cX4_wordHere 97 = .ok (.ireturn, 1) := dk_172 (dk_at dksX4_wordHere_4 2 rfl rfl)
theorem dX4_wordHere_98 : decode cX4_wordHere 98 = .ok (.aload_n 0, 1) := dk_42 (dk_at dksX4_wordHere_4 3 rfl rfl)
theorem dX4_wordHere_99 : decode cX4_wordHere 99 = .ok (.ldc2_w 144, 3) := dk_20 0 144 (dk_at dksX4_wordHere_4 4 rfl rfl)
theorem dX4_wordHere_102 : decode cX4_wordHere 102 = .ok (.invokevirtual 107, 3) := dk_182 0 107 (dk_at dksX4_wordHere_4 7 rfl rfl)
theorem dX4_wordHere_105 : decode cX4_wordHere 105 = .ok (.ifCond .eq 6, 3) := dk_153 0 6 (dk_at dksX4_wordHere_4 10 rfl rfl)
theorem dX4_wordHere_108 : decode cX4_wordHere 108 = .ok (.bipush 8, 2) := dk_16 8 (dk_at dksX4_wordHere_4 13 rfl rfl)
theorem dX4_wordHere_110 : decode cX4_wordHere 110 = .ok (.ireturn, 1) := dk_172 (dk_at dksX4_wordHere_4 15 rfl rfl)
theorem dX4_wordHere_111 : decode cX4_wordHere 111 = .ok (.aload_n 0, 1) := dk_42 (dk_at dksX4_wordHere_4 16 rfl rfl)
theorem dX4_wordHere_112 : decode cX4_wordHere 112 = .ok (.ldc2_w 146, 3) := dk_20 0 146 (dk_at dksX4_wordHere_4 17 rfl rfl)
theorem dX4_wordHere_115 : decode cX4_wordHere 115 = .ok (.invokevirtual 107, 3) := dk_182 0 107 (dk_at dksX4_wordHere_4 20 rfl rfl)
theorem dX4_wordHere_118 : decode cX4_wordHere 118 = .ok (.ifCond .eq 6, 3) := dk_153 0 6 (dk_at dksX4_wordHere_5 0 rfl rfl)
theorem dX4_wordHere_121 : decode cX4_wordHere 121 = .ok (.bipush 9, 2) := dk_16 9 (dk_at dksX4_wordHere_5 3 rfl rfl)
theorem dX4_wordHere_123 : decode cX4_wordHere 123 = .ok (.ireturn, 1) := dk_172 (dk_at dksX4_wordHere_5 5 rfl rfl)
theorem dX4_wordHere_124 : decode cX4_wordHere 124 = .ok (.aload_n 0, 1) := dk_42 (dk_at dksX4_wordHere_5 6 rfl rfl)
theorem dX4_wordHere_125 : decode cX4_wordHere 125 = .ok (.ldc2_w 148, 3) := dk_20 0 148 (dk_at dksX4_wordHere_5 7 rfl rfl)
theorem dX4_wordHere_128 : decode cX4_wordHere 128 = .ok (.invokevirtual 107, 3) := dk_182 0 107 (dk_at dksX4_wordHere_5 10 rfl rfl)
theorem dX4_wordHere_131 : decode cX4_wordHere 131 = .ok (.ifCond .eq 6, 3) := dk_153 0 6 (dk_at dksX4_wordHere_5 13 rfl rfl)
theorem dX4_wordHere_134 : decode cX4_wordHere 134 = .ok (.bipush 10, 2) := dk_16 10 (dk_at dksX4_wordHere_5 16 rfl rfl)
theorem dX4_wordHere_136 : decode cX4_wordHere 136 = .ok (.ireturn, 1) := dk_172 (dk_at dksX4_wordHere_5 18 rfl rfl)
theorem dX4_wordHere_137 : decode cX4_wordHere 137 = .ok (.aload_n 0, 1) := dk_42 (dk_at dksX4_wordHere_5 19 rfl rfl)
theorem dX4_wordHere_138 : decode cX4_wordHere 138 = .ok (.ldc2_w 150, 3) := dk_20 0 150 (dk_at dksX4_wordHere_5 20 rfl rfl)
theorem dX4_wordHere_141 : decode cX4_wordHere 141 = .ok (.invokevirtual 107, 3) := dk_182 0 107 (dk_at dksX4_wordHere_6 0 rfl rfl)
theorem dX4_wordHere_144 : decode cX4_wordHere 144 = .ok (.ifCond .eq 8, 3) := dk_153 0 8 (dk_at dksX4_wordHere_6 3 rfl rfl)
theorem dX4_wordHere_147 : decode cX4_wordHere 147 = .ok (.bipush 11, 2) := dk_16 11 (dk_at dksX4_wordHere_6 6 rfl rfl)
theorem dX4_wordHere_149 : decode cX4_wordHere 149 = .ok (.goto 19, 3) := dk_167 0 19 (dk_at dksX4_wordHere_6 8 rfl rfl)
theorem dX4_wordHere_152 : decode cX4_wordHere 152 = .ok (.aload_n 0, 1) := dk_42 (dk_at dksX4_wordHere_6 11 rfl rfl)
theorem dX4_wordHere_153 : decode cX4_wordHere 153 = .ok (.ldc2_w 152, 3) := dk_20 0 152 (dk_at dksX4_wordHere_6 12 rfl rfl)
theorem dX4_wordHere_156 : decode cX4_wordHere 156 = .ok (.invokevirtual 107, 3) := dk_182 0 107 (dk_at dksX4_wordHere_6 15 rfl rfl)
theorem dX4_wordHere_159 : decode cX4_wordHere 159 = .ok (.ifCond .eq 8, 3) := dk_153 0 8 (dk_at dksX4_wordHere_6 18 rfl rfl)
theorem dX4_wordHere_162 : decode cX4_wordHere 162 = .ok (.bipush 12, 2) := dk_16 12 (dk_at dksX4_wordHere_6 21 rfl rfl)
theorem dX4_wordHere_164 : decode cX4_wordHere 164 = .ok (.goto 4, 3) := dk_167 0 4 (dk_at dksX4_wordHere_7 0 rfl rfl)
theorem dX4_wordHere_167 : decode cX4_wordHere 167 = .ok (.iconst (-1), 1) := dk_2 (dk_at dksX4_wordHere_7 3 rfl rfl)
theorem dX4_wordHere_168 : decode cX4_wordHere 168 = .ok (.ireturn, 1) := dk_172 (dk_at dksX4_wordHere_7 4 rfl rfl)
abbrev cX4_takesWord : ByteArray := prog_19_method_14_code
def yX4_takesWord : MethodName := ⟨RX4, "takesWord", "(J)Z"⟩
def dkwX4_takesWord_0 : List UInt8 := [42, 31, 182, 0, 107, 154, 0, 5, 3, 172, 42, 182, 0, 111, 4, 172]
abbrev dktX4_takesWord_0 : List UInt8 := dkwX4_takesWord_0 ++ []
theorem dksX4_takesWord_0 : cX4_takesWord.data.toList.drop 0 = dktX4_takesWord_0 := by decide +kernel
theorem dX4_takesWord_0 : decode cX4_takesWord 0 = .ok (.aload_n 0, 1) := dk_42 (dk_at dksX4_takesWord_0 0 rfl rfl)
theorem dX4_takesWord_1 : decode cX4_takesWord 1 = .ok (.lload_n 1, 1) := dk_31 (dk_at dksX4_takesWord_0 1 rfl rfl)
theorem dX4_takesWord_2 : decode cX4_takesWord 2 = .ok (.invokevirtual 107, 3) := dk_182 0 107 (dk_at dksX4_takesWord_0 2 rfl rfl)
theorem dX4_takesWord_5 : decode cX4_takesWord 5 = .ok (.ifCond .ne 5, 3) := dk_154 0 5 (dk_at dksX4_takesWord_0 5 rfl rfl)
theorem dX4_takesWord_8 : decode cX4_takesWord 8 = .ok (.iconst 0, 1) := dk_3 (dk_at dksX4_takesWord_0 8 rfl rfl)
theorem dX4_takesWord_9 : decode cX4_takesWord 9 = .ok (.ireturn, 1) := dk_172 (dk_at dksX4_takesWord_0 9 rfl rfl)
theorem dX4_takesWord_10 : decode cX4_takesWord 10 = .ok (.aload_n 0, 1) := dk_42 (dk_at dksX4_takesWord_0 10 rfl rfl)
theorem dX4_takesWord_11 : decode cX4_takesWord 11 = .ok (.invokevirtual 111, 3) := dk_182 0 111 (dk_at dksX4_takesWord_0 11 rfl rfl)
theorem dX4_takesWord_14 : decode cX4_takesWord 14 = .ok (.iconst 1, 1) := dk_4 (dk_at dksX4_takesWord_0 14 rfl rfl)
theorem dX4_takesWord_15 : decode cX4_takesWord 15 = .ok (.ireturn, 1) := dk_172 (dk_at dksX4_takesWord_0 15 rfl rfl)
abbrev cX4_tested : ByteArray := prog_19_method_29_code
def yX4_tested : MethodName := ⟨RX4, "tested", "()Z"⟩
def dkwX4_tested_6 : List UInt8 := [172]
abbrev dktX4_tested_6 : List UInt8 := dkwX4_tested_6 ++ []
def dkwX4_tested_5 : List UInt8 := [153, 0, 18, 42, 182, 0, 99, 87, 42, 3, 42, 180, 0, 96, 182, 0, 117, 172, 42, 4, 182, 0, 202, 4]
abbrev dktX4_tested_5 : List UInt8 := dkwX4_tested_5 ++ dktX4_tested_6
def dkwX4_tested_4 : List UInt8 := [42, 180, 0, 163, 28, 79, 42, 89, 180, 0, 163, 4, 96, 181, 0, 163, 167, 255, 159, 42, 182, 0, 205]
abbrev dktX4_tested_4 : List UInt8 := dkwX4_tested_4 ++ dktX4_tested_5
def dkwX4_tested_3 : List UInt8 := [16, 12, 167, 0, 5, 16, 13, 61, 42, 182, 0, 111, 42, 28, 184, 0, 166, 182, 0, 202, 42, 180, 0, 29]
abbrev dktX4_tested_3 : List UInt8 := dkwX4_tested_3 ++ dktX4_tested_4
def dkwX4_tested_2 : List UInt8 := [153, 0, 7, 4, 167, 0, 4, 3, 60, 27, 153, 255, 212, 42, 20, 0, 214, 182, 0, 107, 153, 0, 8]
abbrev dktX4_tested_2 : List UInt8 := dkwX4_tested_2 ++ dktX4_tested_3
def dkwX4_tested_1 : List UInt8 := [172, 42, 182, 0, 211, 42, 20, 0, 214, 182, 0, 107, 154, 0, 13, 42, 20, 0, 216, 182, 0, 107]
abbrev dktX4_tested_1 : List UInt8 := dkwX4_tested_1 ++ dktX4_tested_2
def dkwX4_tested_0 : List UInt8 := [42, 3, 181, 0, 163, 42, 3, 181, 0, 160, 4, 60, 27, 153, 0, 99, 42, 182, 0, 208, 154, 0, 5, 3]
abbrev dktX4_tested_0 : List UInt8 := dkwX4_tested_0 ++ dktX4_tested_1
theorem dksX4_tested_0 : cX4_tested.data.toList.drop 0 = dktX4_tested_0 := by decide +kernel
theorem dksX4_tested_1 : cX4_tested.data.toList.drop 24 = dktX4_tested_1 := dk_seg dksX4_tested_0 24 rfl rfl
theorem dksX4_tested_2 : cX4_tested.data.toList.drop 46 = dktX4_tested_2 := dk_seg dksX4_tested_1 22 rfl rfl
theorem dksX4_tested_3 : cX4_tested.data.toList.drop 69 = dktX4_tested_3 := dk_seg dksX4_tested_2 23 rfl rfl
theorem dksX4_tested_4 : cX4_tested.data.toList.drop 93 = dktX4_tested_4 := dk_seg dksX4_tested_3 24 rfl rfl
theorem dksX4_tested_5 : cX4_tested.data.toList.drop 116 = dktX4_tested_5 := dk_seg dksX4_tested_4 23 rfl rfl
theorem dksX4_tested_6 : cX4_tested.data.toList.drop 140 = dktX4_tested_6 := dk_seg dksX4_tested_5 24 rfl rfl
theorem dX4_tested_0 : decode cX4_tested 0 = .ok (.aload_n 0, 1) := dk_42 (dk_at dksX4_tested_0 0 rfl rfl)
theorem dX4_tested_1 : decode cX4_tested 1 = .ok (.iconst 0, 1) := dk_3 (dk_at dksX4_tested_0 1 rfl rfl)
theorem dX4_tested_2 : decode cX4_tested 2 = .ok (.putfield 163, 3) := dk_181 0 163 (dk_at dksX4_tested_0 2 rfl rfl)
theorem dX4_tested_5 : decode cX4_tested 5 = .ok (.aload_n 0, 1) := dk_42 (dk_at dksX4_tested_0 5 rfl rfl)
theorem dX4_tested_6 : decode cX4_tested 6 = .ok (.iconst 0, 1) := dk_3 (dk_at dksX4_tested_0 6 rfl rfl)
theorem dX4_tested_7 : decode cX4_tested 7 = .ok (.putfield 160, 3) := dk_181 0 160 (dk_at dksX4_tested_0 7 rfl rfl)
theorem dX4_tested_10 : decode cX4_tested 10 = .ok (.iconst 1, 1) := dk_4 (dk_at dksX4_tested_0 10 rfl rfl)
theorem dX4_tested_11 : decode cX4_tested 11 = .ok (.istore_n 1, 1) := dk_60 (dk_at dksX4_tested_0 11 rfl rfl)
theorem dX4_tested_12 : decode cX4_tested 12 = .ok (.iload_n 1, 1) := dk_27 (dk_at dksX4_tested_0 12 rfl rfl)
theorem dX4_tested_13 : decode cX4_tested 13 = .ok (.ifCond .eq 99, 3) := dk_153 0 99 (dk_at dksX4_tested_0 13 rfl rfl)
theorem dX4_tested_16 : decode cX4_tested 16 = .ok (.aload_n 0, 1) := dk_42 (dk_at dksX4_tested_0 16 rfl rfl)
theorem dX4_tested_17 : decode cX4_tested 17 = .ok (.invokevirtual 208, 3) := dk_182 0 208 (dk_at dksX4_tested_0 17 rfl rfl)
theorem dX4_tested_20 : decode cX4_tested 20 = .ok (.ifCond .ne 5, 3) := dk_154 0 5 (dk_at dksX4_tested_0 20 rfl rfl)
theorem dX4_tested_23 : decode cX4_tested 23 = .ok (.iconst 0, 1) := dk_3 (dk_at dksX4_tested_0 23 rfl rfl)
theorem dX4_tested_24 : decode cX4_tested 24 = .ok (.ireturn, 1) := dk_172 (dk_at dksX4_tested_1 0 rfl rfl)
theorem dX4_tested_25 : decode cX4_tested 25 = .ok (.aload_n 0, 1) := dk_42 (dk_at dksX4_tested_1 1 rfl rfl)
theorem dX4_tested_26 : decode cX4_tested 26 = .ok (.invokevirtual 211, 3) := dk_182 0 211 (dk_at dksX4_tested_1 2 rfl rfl)
theorem dX4_tested_29 : decode cX4_tested 29 = .ok (.aload_n 0, 1) := dk_42 (dk_at dksX4_tested_1 5 rfl rfl)
theorem dX4_tested_30 : decode cX4_tested 30 = .ok (.ldc2_w 214, 3) := dk_20 0 214 (dk_at dksX4_tested_1 6 rfl rfl)
theorem dX4_tested_33 : decode cX4_tested 33 = .ok (.invokevirtual 107, 3) := dk_182 0 107 (dk_at dksX4_tested_1 9 rfl rfl)
theorem dX4_tested_36 : decode cX4_tested 36 = .ok (.ifCond .ne 13, 3) := dk_154 0 13 (dk_at dksX4_tested_1 12 rfl rfl)
theorem dX4_tested_39 : decode cX4_tested 39 = .ok (.aload_n 0, 1) := dk_42 (dk_at dksX4_tested_1 15 rfl rfl)
theorem dX4_tested_40 : decode cX4_tested 40 = .ok (.ldc2_w 216, 3) := dk_20 0 216 (dk_at dksX4_tested_1 16 rfl rfl)
theorem dX4_tested_43 : decode cX4_tested 43 = .ok (.invokevirtual 107, 3) := dk_182 0 107 (dk_at dksX4_tested_1 19 rfl rfl)
theorem dX4_tested_46 : decode cX4_tested 46 = .ok (.ifCond .eq 7, 3) := dk_153 0 7 (dk_at dksX4_tested_2 0 rfl rfl)
theorem dX4_tested_49 : decode cX4_tested 49 = .ok (.iconst 1, 1) := dk_4 (dk_at dksX4_tested_2 3 rfl rfl)
theorem dX4_tested_50 : decode cX4_tested 50 = .ok (.goto 4, 3) := dk_167 0 4 (dk_at dksX4_tested_2 4 rfl rfl)
theorem dX4_tested_53 : decode cX4_tested 53 = .ok (.iconst 0, 1) := dk_3 (dk_at dksX4_tested_2 7 rfl rfl)
theorem dX4_tested_54 : decode cX4_tested 54 = .ok (.istore_n 1, 1) := dk_60 (dk_at dksX4_tested_2 8 rfl rfl)
theorem dX4_tested_55 : decode cX4_tested 55 = .ok (.iload_n 1, 1) := dk_27 (dk_at dksX4_tested_2 9 rfl rfl)
theorem dX4_tested_56 : decode cX4_tested 56 = .ok (.ifCond .eq (-44), 3) := dk_153 255 212 (dk_at dksX4_tested_2 10 rfl rfl)
theorem dX4_tested_59 : decode cX4_tested 59 = .ok (.aload_n 0, 1) := dk_42 (dk_at dksX4_tested_2 13 rfl rfl)
theorem dX4_tested_60 : decode cX4_tested 60 = .ok (.ldc2_w 214, 3) := dk_20 0 214 (dk_at dksX4_tested_2 14 rfl rfl)
theorem dX4_tested_63 : decode cX4_tested 63 = .ok (.invokevirtual 107, 3) := dk_182 0 107 (dk_at dksX4_tested_2 17 rfl rfl)
theorem dX4_tested_66 : decode cX4_tested 66 = .ok (.ifCond .eq 8, 3) := dk_153 0 8 (dk_at dksX4_tested_2 20 rfl rfl)
theorem dX4_tested_69 : decode cX4_tested 69 = .ok (.bipush 12, 2) := dk_16 12 (dk_at dksX4_tested_3 0 rfl rfl)
theorem dX4_tested_71 : decode cX4_tested 71 = .ok (.goto 5, 3) := dk_167 0 5 (dk_at dksX4_tested_3 2 rfl rfl)
theorem dX4_tested_74 : decode cX4_tested 74 = .ok (.bipush 13, 2) := dk_16 13 (dk_at dksX4_tested_3 5 rfl rfl)
theorem dX4_tested_76 : decode cX4_tested 76 = .ok (.istore_n 2, 1) := dk_61 (dk_at dksX4_tested_3 7 rfl rfl)
theorem dX4_tested_77 : decode cX4_tested 77 = .ok (.aload_n 0, 1) := dk_42 (dk_at dksX4_tested_3 8 rfl rfl)
theorem dX4_tested_78 : decode cX4_tested 78 = .ok (.invokevirtual 111, 3) := dk_182 0 111 (dk_at dksX4_tested_3 9 rfl rfl)
theorem dX4_tested_81 : decode cX4_tested 81 = .ok (.aload_n 0, 1) := dk_42 (dk_at dksX4_tested_3 12 rfl rfl)
theorem dX4_tested_82 : decode cX4_tested 82 = .ok (.iload_n 2, 1) := dk_28 (dk_at dksX4_tested_3 13 rfl rfl)
theorem dX4_tested_83 : decode cX4_tested 83 = .ok (.invokestatic 166, 3) := dk_184 0 166 (dk_at dksX4_tested_3 14 rfl rfl)
theorem dX4_tested_86 : decode cX4_tested 86 = .ok (.invokevirtual 202, 3) := dk_182 0 202 (dk_at dksX4_tested_3 17 rfl rfl)
theorem dX4_tested_89 : decode cX4_tested 89 = .ok (.aload_n 0, 1) := dk_42 (dk_at dksX4_tested_3 20 rfl rfl)
theorem dX4_tested_90 : decode cX4_tested 90 = .ok (.getfield 29, 3) := dk_180 0 29 (dk_at dksX4_tested_3 21 rfl rfl)
theorem dX4_tested_93 : decode cX4_tested 93 = .ok (.aload_n 0, 1) := dk_42 (dk_at dksX4_tested_4 0 rfl rfl)
theorem dX4_tested_94 : decode cX4_tested 94 = .ok (.getfield 163, 3) := dk_180 0 163 (dk_at dksX4_tested_4 1 rfl rfl)
theorem dX4_tested_97 : decode cX4_tested 97 = .ok (.iload_n 2, 1) := dk_28 (dk_at dksX4_tested_4 4 rfl rfl)
theorem dX4_tested_98 : decode cX4_tested 98 = .ok (.iastore, 1) := dk_79 (dk_at dksX4_tested_4 5 rfl rfl)
theorem dX4_tested_99 : decode cX4_tested 99 = .ok (.aload_n 0, 1) := dk_42 (dk_at dksX4_tested_4 6 rfl rfl)
theorem dX4_tested_100 : decode cX4_tested 100 = .ok (.dup, 1) := dk_89 (dk_at dksX4_tested_4 7 rfl rfl)
theorem dX4_tested_101 : decode cX4_tested 101 = .ok (.getfield 163, 3) := dk_180 0 163 (dk_at dksX4_tested_4 8 rfl rfl)
theorem dX4_tested_104 : decode cX4_tested 104 = .ok (.iconst 1, 1) := dk_4 (dk_at dksX4_tested_4 11 rfl rfl)
theorem dX4_tested_105 : decode cX4_tested 105 = .ok (.iadd, 1) := dk_96 (dk_at dksX4_tested_4 12 rfl rfl)
theorem dX4_tested_106 : decode cX4_tested 106 = .ok (.putfield 163, 3) := dk_181 0 163 (dk_at dksX4_tested_4 13 rfl rfl)
theorem dX4_tested_109 : decode cX4_tested 109 = .ok (.goto (-97), 3) := dk_167 255 159 (dk_at dksX4_tested_4 16 rfl rfl)
theorem dX4_tested_112 : decode cX4_tested 112 = .ok (.aload_n 0, 1) := dk_42 (dk_at dksX4_tested_4 19 rfl rfl)
theorem dX4_tested_113 : decode cX4_tested 113 = .ok (.invokevirtual 205, 3) := dk_182 0 205 (dk_at dksX4_tested_4 20 rfl rfl)
theorem dX4_tested_116 : decode cX4_tested 116 = .ok (.ifCond .eq 18, 3) := dk_153 0 18 (dk_at dksX4_tested_5 0 rfl rfl)
theorem dX4_tested_119 : decode cX4_tested 119 = .ok (.aload_n 0, 1) := dk_42 (dk_at dksX4_tested_5 3 rfl rfl)
theorem dX4_tested_120 : decode cX4_tested 120 = .ok (.invokevirtual 99, 3) := dk_182 0 99 (dk_at dksX4_tested_5 4 rfl rfl)
theorem dX4_tested_123 : decode cX4_tested 123 = .ok (.pop, 1) := dk_87 (dk_at dksX4_tested_5 7 rfl rfl)
theorem dX4_tested_124 : decode cX4_tested 124 = .ok (.aload_n 0, 1) := dk_42 (dk_at dksX4_tested_5 8 rfl rfl)
theorem dX4_tested_125 : decode cX4_tested 125 = .ok (.iconst 0, 1) := dk_3 (dk_at dksX4_tested_5 9 rfl rfl)
theorem dX4_tested_126 : decode cX4_tested 126 = .ok (.aload_n 0, 1) := dk_42 (dk_at dksX4_tested_5 10 rfl rfl)
theorem dX4_tested_127 : decode cX4_tested 127 = .ok (.getfield 96, 3) := dk_180 0 96 (dk_at dksX4_tested_5 11 rfl rfl)
theorem dX4_tested_130 : decode cX4_tested 130 = .ok (.invokevirtual 117, 3) := dk_182 0 117 (dk_at dksX4_tested_5 14 rfl rfl)
theorem dX4_tested_133 : decode cX4_tested 133 = .ok (.ireturn, 1) := dk_172 (dk_at dksX4_tested_5 17 rfl rfl)
theorem dX4_tested_134 : decode cX4_tested 134 = .ok (.aload_n 0, 1) := dk_42 (dk_at dksX4_tested_5 18 rfl rfl)
theorem dX4_tested_135 : decode cX4_tested 135 = .ok (.iconst 1, 1) := dk_4 (dk_at dksX4_tested_5 19 rfl rfl)
theorem dX4_tested_136 : decode cX4_tested 136 = .ok (.invokevirtual 202, 3) := dk_182 0 202 (dk_at dksX4_tested_5 20 rfl rfl)
theorem dX4_tested_139 : decode cX4_tested 139 = .ok (.iconst 1, 1) := dk_4 (dk_at dksX4_tested_5 23 rfl rfl)
theorem dX4_tested_140 : decode cX4_tested 140 = .ok (.ireturn, 1) := dk_172 (dk_at dksX4_tested_6 0 rfl rfl)
abbrev cX4_fact : ByteArray := prog_19_method_26_code
def yX4_fact : MethodName := ⟨RX4, "fact", "()Z"⟩
def dkwX4_fact_3 : List UInt8 := [4, 60, 167, 255, 186, 42, 182, 0, 199, 172]
abbrev dktX4_fact_3 : List UInt8 := dkwX4_fact_3 ++ []
def dkwX4_fact_2 : List UInt8 := [160, 0, 26, 42, 16, 91, 182, 0, 196, 154, 0, 5, 3, 172, 42, 89, 180, 0, 96, 4, 96, 181, 0, 96]
abbrev dktX4_fact_2 : List UInt8 := dkwX4_fact_2 ++ dktX4_fact_3
def dkwX4_fact_1 : List UInt8 := [16, 11, 182, 0, 196, 154, 0, 5, 3, 172, 42, 182, 0, 111, 4, 60, 167, 0, 32, 28, 16, 91]
abbrev dktX4_fact_1 : List UInt8 := dkwX4_fact_1 ++ dktX4_fact_2
def dkwX4_fact_0 : List UInt8 := [4, 60, 27, 153, 0, 72, 3, 60, 42, 182, 0, 99, 61, 42, 20, 0, 194, 182, 0, 107, 153, 0, 23, 42]
abbrev dktX4_fact_0 : List UInt8 := dkwX4_fact_0 ++ dktX4_fact_1
theorem dksX4_fact_0 : cX4_fact.data.toList.drop 0 = dktX4_fact_0 := by decide +kernel
theorem dksX4_fact_1 : cX4_fact.data.toList.drop 24 = dktX4_fact_1 := dk_seg dksX4_fact_0 24 rfl rfl
theorem dksX4_fact_2 : cX4_fact.data.toList.drop 46 = dktX4_fact_2 := dk_seg dksX4_fact_1 22 rfl rfl
theorem dksX4_fact_3 : cX4_fact.data.toList.drop 70 = dktX4_fact_3 := dk_seg dksX4_fact_2 24 rfl rfl
theorem dX4_fact_0 : decode cX4_fact 0 = .ok (.iconst 1, 1) := dk_4 (dk_at dksX4_fact_0 0 rfl rfl)
theorem dX4_fact_1 : decode cX4_fact 1 = .ok (.istore_n 1, 1) := dk_60 (dk_at dksX4_fact_0 1 rfl rfl)
theorem dX4_fact_2 : decode cX4_fact 2 = .ok (.iload_n 1, 1) := dk_27 (dk_at dksX4_fact_0 2 rfl rfl)
theorem dX4_fact_3 : decode cX4_fact 3 = .ok (.ifCond .eq 72, 3) := dk_153 0 72 (dk_at dksX4_fact_0 3 rfl rfl)
theorem dX4_fact_6 : decode cX4_fact 6 = .ok (.iconst 0, 1) := dk_3 (dk_at dksX4_fact_0 6 rfl rfl)
theorem dX4_fact_7 : decode cX4_fact 7 = .ok (.istore_n 1, 1) := dk_60 (dk_at dksX4_fact_0 7 rfl rfl)
theorem dX4_fact_8 : decode cX4_fact 8 = .ok (.aload_n 0, 1) := dk_42 (dk_at dksX4_fact_0 8 rfl rfl)
theorem dX4_fact_9 : decode cX4_fact 9 = .ok (.invokevirtual 99, 3) := dk_182 0 99 (dk_at dksX4_fact_0 9 rfl rfl)
theorem dX4_fact_12 : decode cX4_fact 12 = .ok (.istore_n 2, 1) := dk_61 (dk_at dksX4_fact_0 12 rfl rfl)
theorem dX4_fact_13 : decode cX4_fact 13 = .ok (.aload_n 0, 1) := dk_42 (dk_at dksX4_fact_0 13 rfl rfl)
theorem dX4_fact_14 : decode cX4_fact 14 = .ok (.ldc2_w 194, 3) := dk_20 0 194 (dk_at dksX4_fact_0 14 rfl rfl)
theorem dX4_fact_17 : decode cX4_fact 17 = .ok (.invokevirtual 107, 3) := dk_182 0 107 (dk_at dksX4_fact_0 17 rfl rfl)
theorem dX4_fact_20 : decode cX4_fact 20 = .ok (.ifCond .eq 23, 3) := dk_153 0 23 (dk_at dksX4_fact_0 20 rfl rfl)
theorem dX4_fact_23 : decode cX4_fact 23 = .ok (.aload_n 0, 1) := dk_42 (dk_at dksX4_fact_0 23 rfl rfl)
theorem dX4_fact_24 : decode cX4_fact 24 = .ok (.bipush 11, 2) := dk_16 11 (dk_at dksX4_fact_1 0 rfl rfl)
theorem dX4_fact_26 : decode cX4_fact 26 = .ok (.invokevirtual 196, 3) := dk_182 0 196 (dk_at dksX4_fact_1 2 rfl rfl)
theorem dX4_fact_29 : decode cX4_fact 29 = .ok (.ifCond .ne 5, 3) := dk_154 0 5 (dk_at dksX4_fact_1 5 rfl rfl)
theorem dX4_fact_32 : decode cX4_fact 32 = .ok (.iconst 0, 1) := dk_3 (dk_at dksX4_fact_1 8 rfl rfl)
theorem dX4_fact_33 : decode cX4_fact 33 = .ok (.ireturn, 1) := dk_172 (dk_at dksX4_fact_1 9 rfl rfl)
theorem dX4_fact_34 : decode cX4_fact 34 = .ok (.aload_n 0, 1) := dk_42 (dk_at dksX4_fact_1 10 rfl rfl)
theorem dX4_fact_35 : decode cX4_fact 35 = .ok (.invokevirtual 111, 3) := dk_182 0 111 (dk_at dksX4_fact_1 11 rfl rfl)
theorem dX4_fact_38 : decode cX4_fact 38 = .ok (.iconst 1, 1) := dk_4 (dk_at dksX4_fact_1 14 rfl rfl)
theorem dX4_fact_39 : decode cX4_fact 39 = .ok (.istore_n 1, 1) := dk_60 (dk_at dksX4_fact_1 15 rfl rfl)
theorem dX4_fact_40 : decode cX4_fact 40 = .ok (.goto 32, 3) := dk_167 0 32 (dk_at dksX4_fact_1 16 rfl rfl)
theorem dX4_fact_43 : decode cX4_fact 43 = .ok (.iload_n 2, 1) := dk_28 (dk_at dksX4_fact_1 19 rfl rfl)
theorem dX4_fact_44 : decode cX4_fact 44 = .ok (.bipush 91, 2) := dk_16 91 (dk_at dksX4_fact_1 20 rfl rfl)
theorem dX4_fact_46 : decode cX4_fact 46 = .ok (.if_icmp .ne 26, 3) := dk_160 0 26 (dk_at dksX4_fact_2 0 rfl rfl)
theorem dX4_fact_49 : decode cX4_fact 49 = .ok (.aload_n 0, 1) := dk_42 (dk_at dksX4_fact_2 3 rfl rfl)
theorem dX4_fact_50 : decode cX4_fact 50 = .ok (.bipush 91, 2) := dk_16 91 (dk_at dksX4_fact_2 4 rfl rfl)
theorem dX4_fact_52 : decode cX4_fact 52 = .ok (.invokevirtual 196, 3) := dk_182 0 196 (dk_at dksX4_fact_2 6 rfl rfl)
theorem dX4_fact_55 : decode cX4_fact 55 = .ok (.ifCond .ne 5, 3) := dk_154 0 5 (dk_at dksX4_fact_2 9 rfl rfl)
theorem dX4_fact_58 : decode cX4_fact 58 = .ok (.iconst 0, 1) := dk_3 (dk_at dksX4_fact_2 12 rfl rfl)
theorem dX4_fact_59 : decode cX4_fact 59 = .ok (.ireturn, 1) := dk_172 (dk_at dksX4_fact_2 13 rfl rfl)
theorem dX4_fact_60 : decode cX4_fact 60 = .ok (.aload_n 0, 1) := dk_42 (dk_at dksX4_fact_2 14 rfl rfl)
theorem dX4_fact_61 : decode cX4_fact 61 = .ok (.dup, 1) := dk_89 (dk_at dksX4_fact_2 15 rfl rfl)
theorem dX4_fact_62 : decode cX4_fact 62 = .ok (.getfield 96, 3) := dk_180 0 96 (dk_at dksX4_fact_2 16 rfl rfl)
theorem dX4_fact_65 : decode cX4_fact 65 = .ok (.iconst 1, 1) := dk_4 (dk_at dksX4_fact_2 19 rfl rfl)
theorem dX4_fact_66 : decode cX4_fact 66 = .ok (.iadd, 1) := dk_96 (dk_at dksX4_fact_2 20 rfl rfl)
theorem dX4_fact_67 : decode cX4_fact 67 = .ok (.putfield 96, 3) := dk_181 0 96 (dk_at dksX4_fact_2 21 rfl rfl)
theorem dX4_fact_70 : decode cX4_fact 70 = .ok (.iconst 1, 1) := dk_4 (dk_at dksX4_fact_3 0 rfl rfl)
theorem dX4_fact_71 : decode cX4_fact 71 = .ok (.istore_n 1, 1) := dk_60 (dk_at dksX4_fact_3 1 rfl rfl)
theorem dX4_fact_72 : decode cX4_fact 72 = .ok (.goto (-70), 3) := dk_167 255 186 (dk_at dksX4_fact_3 2 rfl rfl)
theorem dX4_fact_75 : decode cX4_fact 75 = .ok (.aload_n 0, 1) := dk_42 (dk_at dksX4_fact_3 5 rfl rfl)
theorem dX4_fact_76 : decode cX4_fact 76 = .ok (.invokevirtual 199, 3) := dk_182 0 199 (dk_at dksX4_fact_3 6 rfl rfl)
theorem dX4_fact_79 : decode cX4_fact 79 = .ok (.ireturn, 1) := dk_172 (dk_at dksX4_fact_3 9 rfl rfl)
abbrev cX4_opens : ByteArray := prog_19_method_19_code
def yX4_opens : MethodName := ⟨RX4, "opens", "(I)Z"⟩
def dkwX4_opens_2 : List UInt8 := [181, 0, 163, 4, 172]
abbrev dktX4_opens_2 : List UInt8 := dkwX4_opens_2 ++ []
def dkwX4_opens_1 : List UInt8 := [4, 96, 181, 0, 160, 42, 180, 0, 29, 42, 180, 0, 163, 27, 79, 42, 89, 180, 0, 163, 4, 96]
abbrev dktX4_opens_1 : List UInt8 := dkwX4_opens_1 ++ dktX4_opens_2
def dkwX4_opens_0 : List UInt8 := [42, 180, 0, 160, 16, 10, 160, 0, 13, 42, 5, 42, 180, 0, 96, 182, 0, 117, 172, 42, 89, 180, 0, 160]
abbrev dktX4_opens_0 : List UInt8 := dkwX4_opens_0 ++ dktX4_opens_1
theorem dksX4_opens_0 : cX4_opens.data.toList.drop 0 = dktX4_opens_0 := by decide +kernel
theorem dksX4_opens_1 : cX4_opens.data.toList.drop 24 = dktX4_opens_1 := dk_seg dksX4_opens_0 24 rfl rfl
theorem dksX4_opens_2 : cX4_opens.data.toList.drop 46 = dktX4_opens_2 := dk_seg dksX4_opens_1 22 rfl rfl
theorem dX4_opens_0 : decode cX4_opens 0 = .ok (.aload_n 0, 1) := dk_42 (dk_at dksX4_opens_0 0 rfl rfl)
theorem dX4_opens_1 : decode cX4_opens 1 = .ok (.getfield 160, 3) := dk_180 0 160 (dk_at dksX4_opens_0 1 rfl rfl)
theorem dX4_opens_4 : decode cX4_opens 4 = .ok (.bipush 10, 2) := dk_16 10 (dk_at dksX4_opens_0 4 rfl rfl)
theorem dX4_opens_6 : decode cX4_opens 6 = .ok (.if_icmp .ne 13, 3) := dk_160 0 13 (dk_at dksX4_opens_0 6 rfl rfl)
theorem dX4_opens_9 : decode cX4_opens 9 = .ok (.aload_n 0, 1) := dk_42 (dk_at dksX4_opens_0 9 rfl rfl)
theorem dX4_opens_10 : decode cX4_opens 10 = .ok (.iconst 2, 1) := dk_5 (dk_at dksX4_opens_0 10 rfl rfl)
theorem dX4_opens_11 : decode cX4_opens 11 = .ok (.aload_n 0, 1) := dk_42 (dk_at dksX4_opens_0 11 rfl rfl)
theorem dX4_opens_12 : decode cX4_opens 12 = .ok (.getfield 96, 3) := dk_180 0 96 (dk_at dksX4_opens_0 12 rfl rfl)
theorem dX4_opens_15 : decode cX4_opens 15 = .ok (.invokevirtual 117, 3) := dk_182 0 117 (dk_at dksX4_opens_0 15 rfl rfl)
theorem dX4_opens_18 : decode cX4_opens 18 = .ok (.ireturn, 1) := dk_172 (dk_at dksX4_opens_0 18 rfl rfl)
theorem dX4_opens_19 : decode cX4_opens 19 = .ok (.aload_n 0, 1) := dk_42 (dk_at dksX4_opens_0 19 rfl rfl)
theorem dX4_opens_20 : decode cX4_opens 20 = .ok (.dup, 1) := dk_89 (dk_at dksX4_opens_0 20 rfl rfl)
theorem dX4_opens_21 : decode cX4_opens 21 = .ok (.getfield 160, 3) := dk_180 0 160 (dk_at dksX4_opens_0 21 rfl rfl)
theorem dX4_opens_24 : decode cX4_opens 24 = .ok (.iconst 1, 1) := dk_4 (dk_at dksX4_opens_1 0 rfl rfl)
theorem dX4_opens_25 : decode cX4_opens 25 = .ok (.iadd, 1) := dk_96 (dk_at dksX4_opens_1 1 rfl rfl)
theorem dX4_opens_26 : decode cX4_opens 26 = .ok (.putfield 160, 3) := dk_181 0 160 (dk_at dksX4_opens_1 2 rfl rfl)
theorem dX4_opens_29 : decode cX4_opens 29 = .ok (.aload_n 0, 1) := dk_42 (dk_at dksX4_opens_1 5 rfl rfl)
theorem dX4_opens_30 : decode cX4_opens 30 = .ok (.getfield 29, 3) := dk_180 0 29 (dk_at dksX4_opens_1 6 rfl rfl)
theorem dX4_opens_33 : decode cX4_opens 33 = .ok (.aload_n 0, 1) := dk_42 (dk_at dksX4_opens_1 9 rfl rfl)
theorem dX4_opens_34 : decode cX4_opens 34 = .ok (.getfield 163, 3) := dk_180 0 163 (dk_at dksX4_opens_1 10 rfl rfl)
theorem dX4_opens_37 : decode cX4_opens 37 = .ok (.iload_n 1, 1) := dk_27 (dk_at dksX4_opens_1 13 rfl rfl)
theorem dX4_opens_38 : decode cX4_opens 38 = .ok (.iastore, 1) := dk_79 (dk_at dksX4_opens_1 14 rfl rfl)
theorem dX4_opens_39 : decode cX4_opens 39 = .ok (.aload_n 0, 1) := dk_42 (dk_at dksX4_opens_1 15 rfl rfl)
theorem dX4_opens_40 : decode cX4_opens 40 = .ok (.dup, 1) := dk_89 (dk_at dksX4_opens_1 16 rfl rfl)
theorem dX4_opens_41 : decode cX4_opens 41 = .ok (.getfield 163, 3) := dk_180 0 163 (dk_at dksX4_opens_1 17 rfl rfl)
theorem dX4_opens_44 : decode cX4_opens 44 = .ok (.iconst 1, 1) := dk_4 (dk_at dksX4_opens_1 20 rfl rfl)
theorem dX4_opens_45 : decode cX4_opens 45 = .ok (.iadd, 1) := dk_96 (dk_at dksX4_opens_1 21 rfl rfl)
theorem dX4_opens_46 : decode cX4_opens 46 = .ok (.putfield 163, 3) := dk_181 0 163 (dk_at dksX4_opens_2 0 rfl rfl)
theorem dX4_opens_49 : decode cX4_opens 49 = .ok (.iconst 1, 1) := dk_4 (dk_at dksX4_opens_2 3 rfl rfl)
theorem dX4_opens_50 : decode cX4_opens 50 = .ok (.ireturn, 1) := dk_172 (dk_at dksX4_opens_2 4 rfl rfl)
abbrev cX4_compare : ByteArray := prog_19_method_25_code
def yX4_compare : MethodName := ⟨RX4, "compare", "()Z"⟩
def dkwX4_compare_7 : List UInt8 := [16, 6, 21, 4, 96, 3, 182, 0, 170, 4, 172]
abbrev dktX4_compare_7 : List UInt8 := dkwX4_compare_7 ++ []
def dkwX4_compare_6 : List UInt8 := [167, 0, 12, 29, 153, 0, 7, 6, 167, 0, 4, 7, 54, 4, 42, 182, 0, 191, 154, 0, 5, 3, 172, 42]
abbrev dktX4_compare_6 : List UInt8 := dkwX4_compare_6 ++ dktX4_compare_7
def dkwX4_compare_5 : List UInt8 := [16, 60, 160, 0, 15, 29, 153, 0, 7, 4, 167, 0, 26, 3, 167, 0, 22, 27, 16, 61, 160, 0, 7, 5]
abbrev dktX4_compare_5 : List UInt8 := dkwX4_compare_5 ++ dktX4_compare_6
def dkwX4_compare_4 : List UInt8 := [153, 0, 13, 42, 89, 180, 0, 96, 4, 96, 181, 0, 96, 42, 28, 182, 0, 178, 154, 0, 5, 3, 172, 27]
abbrev dktX4_compare_4 : List UInt8 := dkwX4_compare_4 ++ dktX4_compare_5
def dkwX4_compare_3 : List UInt8 := [162, 0, 21, 42, 180, 0, 7, 42, 180, 0, 96, 51, 16, 61, 160, 0, 7, 4, 167, 0, 4, 3, 62, 29]
abbrev dktX4_compare_3 : List UInt8 := dkwX4_compare_3 ++ dktX4_compare_4
def dkwX4_compare_2 : List UInt8 := [180, 0, 96, 4, 96, 181, 0, 96, 27, 16, 61, 159, 0, 32, 42, 180, 0, 96, 42, 180, 0, 86]
abbrev dktX4_compare_2 : List UInt8 := dkwX4_compare_2 ++ dktX4_compare_3
def dkwX4_compare_1 : List UInt8 := [159, 0, 22, 27, 16, 61, 159, 0, 16, 27, 16, 62, 159, 0, 10, 42, 3, 28, 182, 0, 117, 172, 42, 89]
abbrev dktX4_compare_1 : List UInt8 := dkwX4_compare_1 ++ dktX4_compare_2
def dkwX4_compare_0 : List UInt8 := [42, 182, 0, 191, 154, 0, 5, 3, 172, 42, 182, 0, 99, 60, 42, 180, 0, 96, 61, 27, 16, 60]
abbrev dktX4_compare_0 : List UInt8 := dkwX4_compare_0 ++ dktX4_compare_1
theorem dksX4_compare_0 : cX4_compare.data.toList.drop 0 = dktX4_compare_0 := by decide +kernel
theorem dksX4_compare_1 : cX4_compare.data.toList.drop 22 = dktX4_compare_1 := dk_seg dksX4_compare_0 22 rfl rfl
theorem dksX4_compare_2 : cX4_compare.data.toList.drop 46 = dktX4_compare_2 := dk_seg dksX4_compare_1 24 rfl rfl
theorem dksX4_compare_3 : cX4_compare.data.toList.drop 68 = dktX4_compare_3 := dk_seg dksX4_compare_2 22 rfl rfl
theorem dksX4_compare_4 : cX4_compare.data.toList.drop 92 = dktX4_compare_4 := dk_seg dksX4_compare_3 24 rfl rfl
theorem dksX4_compare_5 : cX4_compare.data.toList.drop 116 = dktX4_compare_5 := dk_seg dksX4_compare_4 24 rfl rfl
theorem dksX4_compare_6 : cX4_compare.data.toList.drop 140 = dktX4_compare_6 := dk_seg dksX4_compare_5 24 rfl rfl
theorem dksX4_compare_7 : cX4_compare.data.toList.drop 164 = dktX4_compare_7 := dk_seg dksX4_compare_6 24 rfl rfl
theorem dX4_compare_0 : decode cX4_compare 0 = .ok (.aload_n 0, 1) := dk_42 (dk_at dksX4_compare_0 0 rfl rfl)
theorem dX4_compare_1 : decode cX4_compare 1 = .ok (.invokevirtual 191, 3) := dk_182 0 191 (dk_at dksX4_compare_0 1 rfl rfl)
theorem dX4_compare_4 : decode cX4_compare 4 = .ok (.ifCond .ne 5, 3) := dk_154 0 5 (dk_at dksX4_compare_0 4 rfl rfl)
theorem dX4_compare_7 : decode cX4_compare 7 = .ok (.iconst 0, 1) := dk_3 (dk_at dksX4_compare_0 7 rfl rfl)
theorem dX4_compare_8 : decode cX4_compare 8 = .ok (.ireturn, 1) := dk_172 (dk_at dksX4_compare_0 8 rfl rfl)
theorem dX4_compare_9 : decode cX4_compare 9 = .ok (.aload_n 0, 1) := dk_42 (dk_at dksX4_compare_0 9 rfl rfl)
theorem dX4_compare_10 : decode cX4_compare 10 = .ok (.invokevirtual 99, 3) := dk_182 0 99 (dk_at dksX4_compare_0 10 rfl rfl)
theorem dX4_compare_13 : decode cX4_compare 13 = .ok (.istore_n 1, 1) := dk_60 (dk_at dksX4_compare_0 13 rfl rfl)
theorem dX4_compare_14 : decode cX4_compare 14 = .ok (.aload_n 0, 1) := dk_42 (dk_at dksX4_compare_0 14 rfl rfl)
theorem dX4_compare_15 : decode cX4_compare 15 = .ok (.getfield 96, 3) := dk_180 0 96 (dk_at dksX4_compare_0 15 rfl rfl)
theorem dX4_compare_18 : decode cX4_compare 18 = .ok (.istore_n 2, 1) := dk_61 (dk_at dksX4_compare_0 18 rfl rfl)
theorem dX4_compare_19 : decode cX4_compare 19 = .ok (.iload_n 1, 1) := dk_27 (dk_at dksX4_compare_0 19 rfl rfl)
theorem dX4_compare_20 : decode cX4_compare 20 = .ok (.bipush 60, 2) := dk_16 60 (dk_at dksX4_compare_0 20 rfl rfl)
theorem dX4_compare_22 : decode cX4_compare 22 = .ok (.if_icmp .eq 22, 3) := dk_159 0 22 (dk_at dksX4_compare_1 0 rfl rfl)
theorem dX4_compare_25 : decode cX4_compare 25 = .ok (.iload_n 1, 1) := dk_27 (dk_at dksX4_compare_1 3 rfl rfl)
theorem dX4_compare_26 : decode cX4_compare 26 = .ok (.bipush 61, 2) := dk_16 61 (dk_at dksX4_compare_1 4 rfl rfl)
theorem dX4_compare_28 : decode cX4_compare 28 = .ok (.if_icmp .eq 16, 3) := dk_159 0 16 (dk_at dksX4_compare_1 6 rfl rfl)
theorem dX4_compare_31 : decode cX4_compare 31 = .ok (.iload_n 1, 1) := dk_27 (dk_at dksX4_compare_1 9 rfl rfl)
theorem dX4_compare_32 : decode cX4_compare 32 = .ok (.bipush 62, 2) := dk_16 62 (dk_at dksX4_compare_1 10 rfl rfl)
theorem dX4_compare_34 : decode cX4_compare 34 = .ok (.if_icmp .eq 10, 3) := dk_159 0 10 (dk_at dksX4_compare_1 12 rfl rfl)
theorem dX4_compare_37 : decode cX4_compare 37 = .ok (.aload_n 0, 1) := dk_42 (dk_at dksX4_compare_1 15 rfl rfl)
theorem dX4_compare_38 : decode cX4_compare 38 = .ok (.iconst 0, 1) := dk_3 (dk_at dksX4_compare_1 16 rfl rfl)
theorem dX4_compare_39 : decode cX4_compare 39 = .ok (.iload_n 2, 1) := dk_28 (dk_at dksX4_compare_1 17 rfl rfl)
theorem dX4_compare_40 : decode cX4_compare 40 = .ok (.invokevirtual 117, 3) := dk_182 0 117 (dk_at dksX4_compare_1 18 rfl rfl)
theorem dX4_compare_43 : decode cX4_compare 43 = .ok (.ireturn, 1) := dk_172 (dk_at dksX4_compare_1 21 rfl rfl)
theorem dX4_compare_44 : decode cX4_compare 44 = .ok (.aload_n 0, 1) := dk_42 (dk_at dksX4_compare_1 22 rfl rfl)
theorem dX4_compare_45 : decode cX4_compare 45 = .ok (.dup, 1) := dk_89 (dk_at dksX4_compare_1 23 rfl rfl)
theorem dX4_compare_46 : decode cX4_compare 46 = .ok (.getfield 96, 3) := dk_180 0 96 (dk_at dksX4_compare_2 0 rfl rfl)
theorem dX4_compare_49 : decode cX4_compare 49 = .ok (.iconst 1, 1) := dk_4 (dk_at dksX4_compare_2 3 rfl rfl)
theorem dX4_compare_50 : decode cX4_compare 50 = .ok (.iadd, 1) := dk_96 (dk_at dksX4_compare_2 4 rfl rfl)
theorem dX4_compare_51 : decode cX4_compare 51 = .ok (.putfield 96, 3) := dk_181 0 96 (dk_at dksX4_compare_2 5 rfl rfl)
theorem dX4_compare_54 : decode cX4_compare 54 = .ok (.iload_n 1, 1) := dk_27 (dk_at dksX4_compare_2 8 rfl rfl)
theorem dX4_compare_55 : decode cX4_compare 55 = .ok (.bipush 61, 2) := dk_16 61 (dk_at dksX4_compare_2 9 rfl rfl)
theorem dX4_compare_57 : decode cX4_compare 57 = .ok (.if_icmp .eq 32, 3) := dk_159 0 32 (dk_at dksX4_compare_2 11 rfl rfl)
theorem dX4_compare_60 : decode cX4_compare 60 = .ok (.aload_n 0, 1) := dk_42 (dk_at dksX4_compare_2 14 rfl rfl)
theorem dX4_compare_61 : decode cX4_compare 61 = .ok (.getfield 96, 3) := dk_180 0 96 (dk_at dksX4_compare_2 15 rfl rfl)
theorem dX4_compare_64 : decode cX4_compare 64 = .ok (.aload_n 0, 1) := dk_42 (dk_at dksX4_compare_2 18 rfl rfl)
theorem dX4_compare_65 : decode cX4_compare 65 = .ok (.getfield 86, 3) := dk_180 0 86 (dk_at dksX4_compare_2 19 rfl rfl)
theorem dX4_compare_68 : decode cX4_compare 68 = .ok (.if_icmp .ge 21, 3) := dk_162 0 21 (dk_at dksX4_compare_3 0 rfl rfl)
theorem dX4_compare_71 : decode cX4_compare 71 = .ok (.aload_n 0, 1) := dk_42 (dk_at dksX4_compare_3 3 rfl rfl)
theorem dX4_compare_72 : decode cX4_compare 72 = .ok (.getfield 7, 3) := dk_180 0 7 (dk_at dksX4_compare_3 4 rfl rfl)
theorem dX4_compare_75 : decode cX4_compare 75 = .ok (.aload_n 0, 1) := dk_42 (dk_at dksX4_compare_3 7 rfl rfl)
theorem dX4_compare_76 : decode cX4_compare 76 = .ok (.getfield 96, 3) := dk_180 0 96 (dk_at dksX4_compare_3 8 rfl rfl)
theorem dX4_compare_79 : decode cX4_compare 79 = .ok (.baload, 1) := dk_51 (dk_at dksX4_compare_3 11 rfl rfl)
theorem dX4_compare_80 : decode cX4_compare 80 = .ok (.bipush 61, 2) := dk_16 61 (dk_at dksX4_compare_3 12 rfl rfl)
theorem dX4_compare_82 : decode cX4_compare 82 = .ok (.if_icmp .ne 7, 3) := dk_160 0 7 (dk_at dksX4_compare_3 14 rfl rfl)
theorem dX4_compare_85 : decode cX4_compare 85 = .ok (.iconst 1, 1) := dk_4 (dk_at dksX4_compare_3 17 rfl rfl)
theorem dX4_compare_86 : decode cX4_compare 86 = .ok (.goto 4, 3) := dk_167 0 4 (dk_at dksX4_compare_3 18 rfl rfl)
theorem dX4_compare_89 : decode cX4_compare 89 = .ok (.iconst 0, 1) := dk_3 (dk_at dksX4_compare_3 21 rfl rfl)
theorem dX4_compare_90 : decode cX4_compare 90 = .ok (.istore_n 3, 1) := dk_62 (dk_at dksX4_compare_3 22 rfl rfl)
theorem dX4_compare_91 : decode cX4_compare 91 = .ok (.iload_n 3, 1) := dk_29 (dk_at dksX4_compare_3 23 rfl rfl)
theorem dX4_compare_92 : decode cX4_compare 92 = .ok (.ifCond .eq 13, 3) := dk_153 0 13 (dk_at dksX4_compare_4 0 rfl rfl)
theorem dX4_compare_95 : decode cX4_compare 95 = .ok (.aload_n 0, 1) := dk_42 (dk_at dksX4_compare_4 3 rfl rfl)
theorem dX4_compare_96 : decode cX4_compare 96 = .ok (.dup, 1) := dk_89 (dk_at dksX4_compare_4 4 rfl rfl)
theorem dX4_compare_97 : decode cX4_compare 97 = .ok (.getfield 96, 3) := dk_180 0 96 (dk_at dksX4_compare_4 5 rfl rfl)
theorem dX4_compare_100 : decode cX4_compare 100 = .ok (.iconst 1, 1) := dk_4 (dk_at dksX4_compare_4 8 rfl rfl)
theorem dX4_compare_101 : decode cX4_compare 101 = .ok (.iadd, 1) := dk_96 (dk_at dksX4_compare_4 9 rfl rfl)
theorem dX4_compare_102 : decode cX4_compare 102 = .ok (.putfield 96, 3) := dk_181 0 96 (dk_at dksX4_compare_4 10 rfl rfl)
theorem dX4_compare_105 : decode cX4_compare 105 = .ok (.aload_n 0, 1) := dk_42 (dk_at dksX4_compare_4 13 rfl rfl)
theorem dX4_compare_106 : decode cX4_compare 106 = .ok (.iload_n 2, 1) := dk_28 (dk_at dksX4_compare_4 14 rfl rfl)
theorem dX4_compare_107 : decode cX4_compare 107 = .ok (.invokevirtual 178, 3) := dk_182 0 178 (dk_at dksX4_compare_4 15 rfl rfl)
theorem dX4_compare_110 : decode cX4_compare 110 = .ok (.ifCond .ne 5, 3) := dk_154 0 5 (dk_at dksX4_compare_4 18 rfl rfl)
theorem dX4_compare_113 : decode cX4_compare 113 = .ok (.iconst 0, 1) := dk_3 (dk_at dksX4_compare_4 21 rfl rfl)
theorem dX4_compare_114 : decode cX4_compare 114 = .ok (.ireturn, 1) := dk_172 (dk_at dksX4_compare_4 22 rfl rfl)
theorem dX4_compare_115 : decode cX4_compare 115 = .ok (.iload_n 1, 1) := dk_27 (dk_at dksX4_compare_4 23 rfl rfl)
theorem dX4_compare_116 : decode cX4_compare 116 = .ok (.bipush 60, 2) := dk_16 60 (dk_at dksX4_compare_5 0 rfl rfl)
theorem dX4_compare_118 : decode cX4_compare 118 = .ok (.if_icmp .ne 15, 3) := dk_160 0 15 (dk_at dksX4_compare_5 2 rfl rfl)
theorem dX4_compare_121 : decode cX4_compare 121 = .ok (.iload_n 3, 1) := dk_29 (dk_at dksX4_compare_5 5 rfl rfl)
theorem dX4_compare_122 : decode cX4_compare 122 = .ok (.ifCond .eq 7, 3) := dk_153 0 7 (dk_at dksX4_compare_5 6 rfl rfl)
theorem dX4_compare_125 : decode cX4_compare 125 = .ok (.iconst 1, 1) := dk_4 (dk_at dksX4_compare_5 9 rfl rfl)
theorem dX4_compare_126 : decode cX4_compare 126 = .ok (.goto 26, 3) := dk_167 0 26 (dk_at dksX4_compare_5 10 rfl rfl)
theorem dX4_compare_129 : decode cX4_compare 129 = .ok (.iconst 0, 1) := dk_3 (dk_at dksX4_compare_5 13 rfl rfl)
theorem dX4_compare_130 : decode cX4_compare 130 = .ok (.goto 22, 3) := dk_167 0 22 (dk_at dksX4_compare_5 14 rfl rfl)
theorem dX4_compare_133 : decode cX4_compare 133 = .ok (.iload_n 1, 1) := dk_27 (dk_at dksX4_compare_5 17 rfl rfl)
theorem dX4_compare_134 : decode cX4_compare 134 = .ok (.bipush 61, 2) := dk_16 61 (dk_at dksX4_compare_5 18 rfl rfl)
theorem dX4_compare_136 : decode cX4_compare 136 = .ok (.if_icmp .ne 7, 3) := dk_160 0 7 (dk_at dksX4_compare_5 20 rfl rfl)
theorem dX4_compare_139 : decode cX4_compare 139 = .ok (.iconst 2, 1) := dk_5 (dk_at dksX4_compare_5 23 rfl rfl)
theorem dX4_compare_140 : decode cX4_compare 140 = .ok (.goto 12, 3) := dk_167 0 12 (dk_at dksX4_compare_6 0 rfl rfl)
theorem dX4_compare_143 : decode cX4_compare 143 = .ok (.iload_n 3, 1) := dk_29 (dk_at dksX4_compare_6 3 rfl rfl)
theorem dX4_compare_144 : decode cX4_compare 144 = .ok (.ifCond .eq 7, 3) := dk_153 0 7 (dk_at dksX4_compare_6 4 rfl rfl)
theorem dX4_compare_147 : decode cX4_compare 147 = .ok (.iconst 3, 1) := dk_6 (dk_at dksX4_compare_6 7 rfl rfl)
theorem dX4_compare_148 : decode cX4_compare 148 = .ok (.goto 4, 3) := dk_167 0 4 (dk_at dksX4_compare_6 8 rfl rfl)
theorem dX4_compare_151 : decode cX4_compare 151 = .ok (.iconst 4, 1) := dk_7 (dk_at dksX4_compare_6 11 rfl rfl)
theorem dX4_compare_152 : decode cX4_compare 152 = .ok (.istore 4, 2) := dk_54 4 (dk_at dksX4_compare_6 12 rfl rfl)
theorem dX4_compare_154 : decode cX4_compare 154 = .ok (.aload_n 0, 1) := dk_42 (dk_at dksX4_compare_6 14 rfl rfl)
theorem dX4_compare_155 : decode cX4_compare 155 = .ok (.invokevirtual 191, 3) := dk_182 0 191 (dk_at dksX4_compare_6 15 rfl rfl)
theorem dX4_compare_158 : decode cX4_compare 158 = .ok (.ifCond .ne 5, 3) := dk_154 0 5 (dk_at dksX4_compare_6 18 rfl rfl)
theorem dX4_compare_161 : decode cX4_compare 161 = .ok (.iconst 0, 1) := dk_3 (dk_at dksX4_compare_6 21 rfl rfl)
theorem dX4_compare_162 : decode cX4_compare 162 = .ok (.ireturn, 1) := dk_172 (dk_at dksX4_compare_6 22 rfl rfl)
theorem dX4_compare_163 : decode cX4_compare 163 = .ok (.aload_n 0, 1) := dk_42 (dk_at dksX4_compare_6 23 rfl rfl)
theorem dX4_compare_164 : decode cX4_compare 164 = .ok (.bipush 6, 2) := dk_16 6 (dk_at dksX4_compare_7 0 rfl rfl)
theorem dX4_compare_166 : decode cX4_compare 166 = .ok (.iload 4, 2) := dk_21 4 (dk_at dksX4_compare_7 2 rfl rfl)
theorem dX4_compare_168 : decode cX4_compare 168 = .ok (.iadd, 1) := dk_96 (dk_at dksX4_compare_7 4 rfl rfl)
theorem dX4_compare_169 : decode cX4_compare 169 = .ok (.iconst 0, 1) := dk_3 (dk_at dksX4_compare_7 5 rfl rfl)
theorem dX4_compare_170 : decode cX4_compare 170 = .ok (.invokevirtual 170, 3) := dk_182 0 170 (dk_at dksX4_compare_7 6 rfl rfl)
theorem dX4_compare_173 : decode cX4_compare 173 = .ok (.iconst 1, 1) := dk_4 (dk_at dksX4_compare_7 9 rfl rfl)
theorem dX4_compare_174 : decode cX4_compare 174 = .ok (.ireturn, 1) := dk_172 (dk_at dksX4_compare_7 10 rfl rfl)
abbrev cX4_closes : ByteArray := prog_19_method_28_code
def yX4_closes : MethodName := ⟨RX4, "closes", "()V"⟩
def dkwX4_closes_2 : List UInt8 := [89, 180, 0, 96, 4, 96, 181, 0, 96, 42, 6, 182, 0, 202, 167, 255, 200, 177]
abbrev dktX4_closes_2 : List UInt8 := dkwX4_closes_2 ++ []
def dkwX4_closes_1 : List UInt8 := [182, 0, 202, 42, 89, 180, 0, 163, 4, 100, 181, 0, 163, 42, 89, 180, 0, 160, 4, 100, 181, 0, 160, 42]
abbrev dktX4_closes_1 : List UInt8 := dkwX4_closes_1 ++ dktX4_closes_2
def dkwX4_closes_0 : List UInt8 := [42, 6, 182, 0, 202, 42, 182, 0, 99, 16, 93, 160, 0, 53, 42, 182, 0, 205, 153, 0, 46, 42, 4]
abbrev dktX4_closes_0 : List UInt8 := dkwX4_closes_0 ++ dktX4_closes_1
theorem dksX4_closes_0 : cX4_closes.data.toList.drop 0 = dktX4_closes_0 := by decide +kernel
theorem dksX4_closes_1 : cX4_closes.data.toList.drop 23 = dktX4_closes_1 := dk_seg dksX4_closes_0 23 rfl rfl
theorem dksX4_closes_2 : cX4_closes.data.toList.drop 47 = dktX4_closes_2 := dk_seg dksX4_closes_1 24 rfl rfl
theorem dX4_closes_0 : decode cX4_closes 0 = .ok (.aload_n 0, 1) := dk_42 (dk_at dksX4_closes_0 0 rfl rfl)
theorem dX4_closes_1 : decode cX4_closes 1 = .ok (.iconst 3, 1) := dk_6 (dk_at dksX4_closes_0 1 rfl rfl)
theorem dX4_closes_2 : decode cX4_closes 2 = .ok (.invokevirtual 202, 3) := dk_182 0 202 (dk_at dksX4_closes_0 2 rfl rfl)
theorem dX4_closes_5 : decode cX4_closes 5 = .ok (.aload_n 0, 1) := dk_42 (dk_at dksX4_closes_0 5 rfl rfl)
theorem dX4_closes_6 : decode cX4_closes 6 = .ok (.invokevirtual 99, 3) := dk_182 0 99 (dk_at dksX4_closes_0 6 rfl rfl)
theorem dX4_closes_9 : decode cX4_closes 9 = .ok (.bipush 93, 2) := dk_16 93 (dk_at dksX4_closes_0 9 rfl rfl)
theorem dX4_closes_11 : decode cX4_closes 11 = .ok (.if_icmp .ne 53, 3) := dk_160 0 53 (dk_at dksX4_closes_0 11 rfl rfl)
theorem dX4_closes_14 : decode cX4_closes 14 = .ok (.aload_n 0, 1) := dk_42 (dk_at dksX4_closes_0 14 rfl rfl)
theorem dX4_closes_15 : decode cX4_closes 15 = .ok (.invokevirtual 205, 3) := dk_182 0 205 (dk_at dksX4_closes_0 15 rfl rfl)
theorem dX4_closes_18 : decode cX4_closes 18 = .ok (.ifCond .eq 46, 3) := dk_153 0 46 (dk_at dksX4_closes_0 18 rfl rfl)
theorem dX4_closes_21 : decode cX4_closes 21 = .ok (.aload_n 0, 1) := dk_42 (dk_at dksX4_closes_0 21 rfl rfl)
theorem dX4_closes_22 : decode cX4_closes 22 = .ok (.iconst 1, 1) := dk_4 (dk_at dksX4_closes_0 22 rfl rfl)
theorem dX4_closes_23 : decode cX4_closes 23 = .ok (.invokevirtual 202, 3) := dk_182 0 202 (dk_at dksX4_closes_1 0 rfl rfl)
theorem dX4_closes_26 : decode cX4_closes 26 = .ok (.aload_n 0, 1) := dk_42 (dk_at dksX4_closes_1 3 rfl rfl)
theorem dX4_closes_27 : decode cX4_closes 27 = .ok (.dup, 1) := dk_89 (dk_at dksX4_closes_1 4 rfl rfl)
theorem dX4_closes_28 : decode cX4_closes 28 = .ok (.getfield 163, 3) := dk_180 0 163 (dk_at dksX4_closes_1 5 rfl rfl)
theorem dX4_closes_31 : decode cX4_closes 31 = .ok (.iconst 1, 1) := dk_4 (dk_at dksX4_closes_1 8 rfl rfl)
theorem dX4_closes_32 : decode cX4_closes 32 = .ok (.isub, 1) := dk_100 (dk_at dksX4_closes_1 9 rfl rfl)
theorem dX4_closes_33 : decode cX4_closes 33 = .ok (.putfield 163, 3) := dk_181 0 163 (dk_at dksX4_closes_1 10 rfl rfl)
theorem dX4_closes_36 : decode cX4_closes 36 = .ok (.aload_n 0, 1) := dk_42 (dk_at dksX4_closes_1 13 rfl rfl)
theorem dX4_closes_37 : decode cX4_closes 37 = .ok (.dup, 1) := dk_89 (dk_at dksX4_closes_1 14 rfl rfl)
theorem dX4_closes_38 : decode cX4_closes 38 = .ok (.getfield 160, 3) := dk_180 0 160 (dk_at dksX4_closes_1 15 rfl rfl)
theorem dX4_closes_41 : decode cX4_closes 41 = .ok (.iconst 1, 1) := dk_4 (dk_at dksX4_closes_1 18 rfl rfl)
theorem dX4_closes_42 : decode cX4_closes 42 = .ok (.isub, 1) := dk_100 (dk_at dksX4_closes_1 19 rfl rfl)
theorem dX4_closes_43 : decode cX4_closes 43 = .ok (.putfield 160, 3) := dk_181 0 160 (dk_at dksX4_closes_1 20 rfl rfl)
theorem dX4_closes_46 : decode cX4_closes 46 = .ok (.aload_n 0, 1) := dk_42 (dk_at dksX4_closes_1 23 rfl rfl)
theorem dX4_closes_47 : decode cX4_closes 47 = .ok (.dup, 1) := dk_89 (dk_at dksX4_closes_2 0 rfl rfl)
theorem dX4_closes_48 : decode cX4_closes 48 = .ok (.getfield 96, 3) := dk_180 0 96 (dk_at dksX4_closes_2 1 rfl rfl)
theorem dX4_closes_51 : decode cX4_closes 51 = .ok (.iconst 1, 1) := dk_4 (dk_at dksX4_closes_2 4 rfl rfl)
theorem dX4_closes_52 : decode cX4_closes 52 = .ok (.iadd, 1) := dk_96 (dk_at dksX4_closes_2 5 rfl rfl)
theorem dX4_closes_53 : decode cX4_closes 53 = .ok (.putfield 96, 3) := dk_181 0 96 (dk_at dksX4_closes_2 6 rfl rfl)
theorem dX4_closes_56 : decode cX4_closes 56 = .ok (.aload_n 0, 1) := dk_42 (dk_at dksX4_closes_2 9 rfl rfl)
theorem dX4_closes_57 : decode cX4_closes 57 = .ok (.iconst 3, 1) := dk_6 (dk_at dksX4_closes_2 10 rfl rfl)
theorem dX4_closes_58 : decode cX4_closes 58 = .ok (.invokevirtual 202, 3) := dk_182 0 202 (dk_at dksX4_closes_2 11 rfl rfl)
theorem dX4_closes_61 : decode cX4_closes 61 = .ok (.goto (-56), 3) := dk_167 255 200 (dk_at dksX4_closes_2 14 rfl rfl)
theorem dX4_closes_64 : decode cX4_closes 64 = .ok (.return_, 1) := dk_177 (dk_at dksX4_closes_2 17 rfl rfl)
abbrev cX4_layDown : ByteArray := prog_19_method_21_code
def yX4_layDown : MethodName := ⟨RX4, "layDown", "(I)V"⟩
def dkwX4_layDown_3 : List UInt8 := [181, 0, 160, 167, 255, 183, 177]
abbrev dktX4_layDown_3 : List UInt8 := dkwX4_layDown_3 ++ []
def dkwX4_layDown_2 : List UInt8 := [182, 0, 170, 42, 180, 0, 29, 42, 180, 0, 163, 46, 16, 11, 160, 255, 196, 42, 89, 180, 0, 160, 4, 100]
abbrev dktX4_layDown_2 : List UInt8 := dkwX4_layDown_2 ++ dktX4_layDown_3
def dkwX4_layDown_1 : List UInt8 := [161, 0, 54, 42, 89, 180, 0, 163, 4, 100, 181, 0, 163, 42, 42, 180, 0, 29, 42, 180, 0, 163, 46, 3]
abbrev dktX4_layDown_1 : List UInt8 := dkwX4_layDown_1 ++ dktX4_layDown_2
def dkwX4_layDown_0 : List UInt8 := [42, 180, 0, 163, 158, 0, 72, 42, 180, 0, 29, 42, 180, 0, 163, 4, 100, 46, 184, 0, 166, 27]
abbrev dktX4_layDown_0 : List UInt8 := dkwX4_layDown_0 ++ dktX4_layDown_1
theorem dksX4_layDown_0 : cX4_layDown.data.toList.drop 0 = dktX4_layDown_0 := by decide +kernel
theorem dksX4_layDown_1 : cX4_layDown.data.toList.drop 22 = dktX4_layDown_1 := dk_seg dksX4_layDown_0 22 rfl rfl
theorem dksX4_layDown_2 : cX4_layDown.data.toList.drop 46 = dktX4_layDown_2 := dk_seg dksX4_layDown_1 24 rfl rfl
theorem dksX4_layDown_3 : cX4_layDown.data.toList.drop 70 = dktX4_layDown_3 := dk_seg dksX4_layDown_2 24 rfl rfl
theorem dX4_layDown_0 : decode cX4_layDown 0 = .ok (.aload_n 0, 1) := dk_42 (dk_at dksX4_layDown_0 0 rfl rfl)
theorem dX4_layDown_1 : decode cX4_layDown 1 = .ok (.getfield 163, 3) := dk_180 0 163 (dk_at dksX4_layDown_0 1 rfl rfl)
theorem dX4_layDown_4 : decode cX4_layDown 4 = .ok (.ifCond .le 72, 3) := dk_158 0 72 (dk_at dksX4_layDown_0 4 rfl rfl)
theorem dX4_layDown_7 : decode cX4_layDown 7 = .ok (.aload_n 0, 1) := dk_42 (dk_at dksX4_layDown_0 7 rfl rfl)
theorem dX4_layDown_8 : decode cX4_layDown 8 = .ok (.getfield 29, 3) := dk_180 0 29 (dk_at dksX4_layDown_0 8 rfl rfl)
theorem dX4_layDown_11 : decode cX4_layDown 11 = .ok (.aload_n 0, 1) := dk_42 (dk_at dksX4_layDown_0 11 rfl rfl)
theorem dX4_layDown_12 : decode cX4_layDown 12 = .ok (.getfield 163, 3) := dk_180 0 163 (dk_at dksX4_layDown_0 12 rfl rfl)
theorem dX4_layDown_15 : decode cX4_layDown 15 = .ok (.iconst 1, 1) := dk_4 (dk_at dksX4_layDown_0 15 rfl rfl)
theorem dX4_layDown_16 : decode cX4_layDown 16 = .ok (.isub, 1) := dk_100 (dk_at dksX4_layDown_0 16 rfl rfl)
theorem dX4_layDown_17 : decode cX4_layDown 17 = .ok (.iaload, 1) := dk_46 (dk_at dksX4_layDown_0 17 rfl rfl)
theorem dX4_layDown_18 : decode cX4_layDown 18 = .ok (.invokestatic 166, 3) := dk_184 0 166 (dk_at dksX4_layDown_0 18 rfl rfl)
theorem dX4_layDown_21 : decode cX4_layDown 21 = .ok (.iload_n 1, 1) := dk_27 (dk_at dksX4_layDown_0 21 rfl rfl)
theorem dX4_layDown_22 : decode cX4_layDown 22 = .ok (.if_icmp .lt 54, 3) := dk_161 0 54 (dk_at dksX4_layDown_1 0 rfl rfl)
theorem dX4_layDown_25 : decode cX4_layDown 25 = .ok (.aload_n 0, 1) := dk_42 (dk_at dksX4_layDown_1 3 rfl rfl)
theorem dX4_layDown_26 : decode cX4_layDown 26 = .ok (.dup, 1) := dk_89 (dk_at dksX4_layDown_1 4 rfl rfl)
theorem dX4_layDown_27 : decode cX4_layDown 27 = .ok (.getfield 163, 3) := dk_180 0 163 (dk_at dksX4_layDown_1 5 rfl rfl)
theorem dX4_layDown_30 : decode cX4_layDown 30 = .ok (.iconst 1, 1) := dk_4 (dk_at dksX4_layDown_1 8 rfl rfl)
theorem dX4_layDown_31 : decode cX4_layDown 31 = .ok (.isub, 1) := dk_100 (dk_at dksX4_layDown_1 9 rfl rfl)
theorem dX4_layDown_32 : decode cX4_layDown 32 = .ok (.putfield 163, 3) := dk_181 0 163 (dk_at dksX4_layDown_1 10 rfl rfl)
theorem dX4_layDown_35 : decode cX4_layDown 35 = .ok (.aload_n 0, 1) := dk_42 (dk_at dksX4_layDown_1 13 rfl rfl)
theorem dX4_layDown_36 : decode cX4_layDown 36 = .ok (.aload_n 0, 1) := dk_42 (dk_at dksX4_layDown_1 14 rfl rfl)
theorem dX4_layDown_37 : decode cX4_layDown 37 = .ok (.getfield 29, 3) := dk_180 0 29 (dk_at dksX4_layDown_1 15 rfl rfl)
theorem dX4_layDown_40 : decode cX4_layDown 40 = .ok (.aload_n 0, 1) := dk_42 (dk_at dksX4_layDown_1 18 rfl rfl)
theorem dX4_layDown_41 : decode cX4_layDown 41 = .ok (.getfield 163, 3) := dk_180 0 163 (dk_at dksX4_layDown_1 19 rfl rfl)
theorem dX4_layDown_44 : decode cX4_layDown 44 = .ok (.iaload, 1) := dk_46 (dk_at dksX4_layDown_1 22 rfl rfl)
theorem dX4_layDown_45 : decode cX4_layDown 45 = .ok (.iconst 0, 1) := dk_3 (dk_at dksX4_layDown_1 23 rfl rfl)
theorem dX4_layDown_46 : decode cX4_layDown 46 = .ok (.invokevirtual 170, 3) := dk_182 0 170 (dk_at dksX4_layDown_2 0 rfl rfl)
theorem dX4_layDown_49 : decode cX4_layDown 49 = .ok (.aload_n 0, 1) := dk_42 (dk_at dksX4_layDown_2 3 rfl rfl)
theorem dX4_layDown_50 : decode cX4_layDown 50 = .ok (.getfield 29, 3) := dk_180 0 29 (dk_at dksX4_layDown_2 4 rfl rfl)
theorem dX4_layDown_53 : decode cX4_layDown 53 = .ok (.aload_n 0, 1) := dk_42 (dk_at dksX4_layDown_2 7 rfl rfl)
theorem dX4_layDown_54 : decode cX4_layDown 54 = .ok (.getfield 163, 3) := dk_180 0 163 (dk_at dksX4_layDown_2 8 rfl rfl)
theorem dX4_layDown_57 : decode cX4_layDown 57 = .ok (.iaload, 1) := dk_46 (dk_at dksX4_layDown_2 11 rfl rfl)
theorem dX4_layDown_58 : decode cX4_layDown 58 = .ok (.bipush 11, 2) := dk_16 11 (dk_at dksX4_layDown_2 12 rfl rfl)
theorem dX4_layDown_60 : decode cX4_layDown 60 = .ok (.if_icmp .ne (-60), 3) := dk_160 255 196 (dk_at dksX4_layDown_2 14 rfl rfl)
theorem dX4_layDown_63 : decode cX4_layDown 63 = .ok (.aload_n 0, 1) := dk_42 (dk_at dksX4_layDown_2 17 rfl rfl)
theorem dX4_layDown_64 : decode cX4_layDown 64 = .ok (.dup, 1) := dk_89 (dk_at dksX4_layDown_2 18 rfl rfl)
theorem dX4_layDown_65 : decode cX4_layDown 65 = .ok (.getfield 160, 3) := dk_180 0 160 (dk_at dksX4_layDown_2 19 rfl rfl)
theorem dX4_layDown_68 : decode cX4_layDown 68 = .ok (.iconst 1, 1) := dk_4 (dk_at dksX4_layDown_2 22 rfl rfl)
theorem dX4_layDown_69 : decode cX4_layDown 69 = .ok (.isub, 1) := dk_100 (dk_at dksX4_layDown_2 23 rfl rfl)
theorem dX4_layDown_70 : decode cX4_layDown 70 = .ok (.putfield 160, 3) := dk_181 0 160 (dk_at dksX4_layDown_3 0 rfl rfl)
theorem dX4_layDown_73 : decode cX4_layDown 73 = .ok (.goto (-73), 3) := dk_167 255 183 (dk_at dksX4_layDown_3 3 rfl rfl)
theorem dX4_layDown_76 : decode cX4_layDown 76 = .ok (.return_, 1) := dk_177 (dk_at dksX4_layDown_3 6 rfl rfl)
abbrev cX4_strength : ByteArray := prog_19_method_20_code
def yX4_strength : MethodName := ⟨RX4, "strength", "(I)I"⟩
def dkwX4_strength_1 : List UInt8 := [160, 0, 7, 6, 167, 0, 4, 3, 172]
abbrev dktX4_strength_1 : List UInt8 := dkwX4_strength_1 ++ []
def dkwX4_strength_0 : List UInt8 := [26, 16, 13, 160, 0, 7, 4, 167, 0, 24, 26, 16, 12, 160, 0, 7, 5, 167, 0, 14, 26, 16, 11]
abbrev dktX4_strength_0 : List UInt8 := dkwX4_strength_0 ++ dktX4_strength_1
theorem dksX4_strength_0 : cX4_strength.data.toList.drop 0 = dktX4_strength_0 := by decide +kernel
theorem dksX4_strength_1 : cX4_strength.data.toList.drop 23 = dktX4_strength_1 := dk_seg dksX4_strength_0 23 rfl rfl
theorem dX4_strength_0 : decode cX4_strength 0 = .ok (.iload_n 0, 1) := dk_26 (dk_at dksX4_strength_0 0 rfl rfl)
theorem dX4_strength_1 : decode cX4_strength 1 = .ok (.bipush 13, 2) := dk_16 13 (dk_at dksX4_strength_0 1 rfl rfl)
theorem dX4_strength_3 : decode cX4_strength 3 = .ok (.if_icmp .ne 7, 3) := dk_160 0 7 (dk_at dksX4_strength_0 3 rfl rfl)
theorem dX4_strength_6 : decode cX4_strength 6 = .ok (.iconst 1, 1) := dk_4 (dk_at dksX4_strength_0 6 rfl rfl)
theorem dX4_strength_7 : decode cX4_strength 7 = .ok (.goto 24, 3) := dk_167 0 24 (dk_at dksX4_strength_0 7 rfl rfl)
theorem dX4_strength_10 : decode cX4_strength 10 = .ok (.iload_n 0, 1) := dk_26 (dk_at dksX4_strength_0 10 rfl rfl)
theorem dX4_strength_11 : decode cX4_strength 11 = .ok (.bipush 12, 2) := dk_16 12 (dk_at dksX4_strength_0 11 rfl rfl)
theorem dX4_strength_13 : decode cX4_strength 13 = .ok (.if_icmp .ne 7, 3) := dk_160 0 7 (dk_at dksX4_strength_0 13 rfl rfl)
theorem dX4_strength_16 : decode cX4_strength 16 = .ok (.iconst 2, 1) := dk_5 (dk_at dksX4_strength_0 16 rfl rfl)
theorem dX4_strength_17 : decode cX4_strength 17 = .ok (.goto 14, 3) := dk_167 0 14 (dk_at dksX4_strength_0 17 rfl rfl)
theorem dX4_strength_20 : decode cX4_strength 20 = .ok (.iload_n 0, 1) := dk_26 (dk_at dksX4_strength_0 20 rfl rfl)
theorem dX4_strength_21 : decode cX4_strength 21 = .ok (.bipush 11, 2) := dk_16 11 (dk_at dksX4_strength_0 21 rfl rfl)
theorem dX4_strength_23 : decode cX4_strength 23 = .ok (.if_icmp .ne 7, 3) := dk_160 0 7 (dk_at dksX4_strength_1 0 rfl rfl)
theorem dX4_strength_26 : decode cX4_strength 26 = .ok (.iconst 3, 1) := dk_6 (dk_at dksX4_strength_1 3 rfl rfl)
theorem dX4_strength_27 : decode cX4_strength 27 = .ok (.goto 4, 3) := dk_167 0 4 (dk_at dksX4_strength_1 4 rfl rfl)
theorem dX4_strength_30 : decode cX4_strength 30 = .ok (.iconst 0, 1) := dk_3 (dk_at dksX4_strength_1 7 rfl rfl)
theorem dX4_strength_31 : decode cX4_strength 31 = .ok (.ireturn, 1) := dk_172 (dk_at dksX4_strength_1 8 rfl rfl)
abbrev cX4_isInside : ByteArray := prog_19_method_27_code
def yX4_isInside : MethodName := ⟨RX4, "isInside", "()Z"⟩
def dkwX4_isInside_1 : List UInt8 := [132, 1, 1, 167, 255, 232, 3, 172]
abbrev dktX4_isInside_1 : List UInt8 := dkwX4_isInside_1 ++ []
def dkwX4_isInside_0 : List UInt8 := [3, 60, 27, 42, 180, 0, 163, 162, 0, 22, 42, 180, 0, 29, 27, 46, 16, 91, 160, 0, 5, 4, 172]
abbrev dktX4_isInside_0 : List UInt8 := dkwX4_isInside_0 ++ dktX4_isInside_1
theorem dksX4_isInside_0 : cX4_isInside.data.toList.drop 0 = dktX4_isInside_0 := by decide +kernel
theorem dksX4_isInside_1 : cX4_isInside.data.toList.drop 23 = dktX4_isInside_1 := dk_seg dksX4_isInside_0 23 rfl rfl
theorem dX4_isInside_0 : decode cX4_isInside 0 = .ok (.iconst 0, 1) := dk_3 (dk_at dksX4_isInside_0 0 rfl rfl)
theorem dX4_isInside_1 : decode cX4_isInside 1 = .ok (.istore_n 1, 1) := dk_60 (dk_at dksX4_isInside_0 1 rfl rfl)
theorem dX4_isInside_2 : decode cX4_isInside 2 = .ok (.iload_n 1, 1) := dk_27 (dk_at dksX4_isInside_0 2 rfl rfl)
theorem dX4_isInside_3 : decode cX4_isInside 3 = .ok (.aload_n 0, 1) := dk_42 (dk_at dksX4_isInside_0 3 rfl rfl)
theorem dX4_isInside_4 : decode cX4_isInside 4 = .ok (.getfield 163, 3) := dk_180 0 163 (dk_at dksX4_isInside_0 4 rfl rfl)
theorem dX4_isInside_7 : decode cX4_isInside 7 = .ok (.if_icmp .ge 22, 3) := dk_162 0 22 (dk_at dksX4_isInside_0 7 rfl rfl)
theorem dX4_isInside_10 : decode cX4_isInside 10 = .ok (.aload_n 0, 1) := dk_42 (dk_at dksX4_isInside_0 10 rfl rfl)
theorem dX4_isInside_11 : decode cX4_isInside 11 = .ok (.getfield 29, 3) := dk_180 0 29 (dk_at dksX4_isInside_0 11 rfl rfl)
theorem dX4_isInside_14 : decode cX4_isInside 14 = .ok (.iload_n 1, 1) := dk_27 (dk_at dksX4_isInside_0 14 rfl rfl)
theorem dX4_isInside_15 : decode cX4_isInside 15 = .ok (.iaload, 1) := dk_46 (dk_at dksX4_isInside_0 15 rfl rfl)
theorem dX4_isInside_16 : decode cX4_isInside 16 = .ok (.bipush 91, 2) := dk_16 91 (dk_at dksX4_isInside_0 16 rfl rfl)
theorem dX4_isInside_18 : decode cX4_isInside 18 = .ok (.if_icmp .ne 5, 3) := dk_160 0 5 (dk_at dksX4_isInside_0 18 rfl rfl)
theorem dX4_isInside_21 : decode cX4_isInside 21 = .ok (.iconst 1, 1) := dk_4 (dk_at dksX4_isInside_0 21 rfl rfl)
theorem dX4_isInside_22 : decode cX4_isInside 22 = .ok (.ireturn, 1) := dk_172 (dk_at dksX4_isInside_0 22 rfl rfl)
theorem dX4_isInside_23 : decode cX4_isInside 23 = .ok (.iinc 1 1, 3) := dk_132 1 1 (dk_at dksX4_isInside_1 0 rfl rfl)
theorem dX4_isInside_26 : decode cX4_isInside 26 = .ok (.goto (-24), 3) := dk_167 255 232 (dk_at dksX4_isInside_1 3 rfl rfl)
theorem dX4_isInside_29 : decode cX4_isInside 29 = .ok (.iconst 0, 1) := dk_3 (dk_at dksX4_isInside_1 6 rfl rfl)
theorem dX4_isInside_30 : decode cX4_isInside 30 = .ok (.ireturn, 1) := dk_172 (dk_at dksX4_isInside_1 7 rfl rfl)
abbrev cX4_yard : ByteArray := prog_19_method_40_code
def yX4_yard : MethodName := ⟨RX4, "yard", "()I"⟩
def dkwX4_yard_3 : List UInt8 := [79, 132, 1, 1, 167, 255, 225, 42, 182, 1, 12, 42, 3, 181, 1, 15, 42, 180, 0, 39, 5, 46, 172]
abbrev dktX4_yard_3 : List UInt8 := dkwX4_yard_3 ++ []
def dkwX4_yard_2 : List UInt8 := [162, 0, 31, 42, 180, 0, 39, 27, 27, 16, 83, 162, 0, 12, 42, 180, 0, 26, 27, 46, 167, 0, 4, 3]
abbrev dktX4_yard_2 : List UInt8 := dkwX4_yard_2 ++ dktX4_yard_3
def dkwX4_yard_1 : List UInt8 := [167, 255, 240, 42, 182, 1, 9, 154, 0, 11, 16, 254, 42, 180, 0, 93, 100, 172, 3, 60, 27, 16, 114]
abbrev dktX4_yard_1 : List UInt8 := dkwX4_yard_1 ++ dktX4_yard_2
def dkwX4_yard_0 : List UInt8 := [42, 16, 6, 181, 0, 154, 3, 60, 27, 16, 83, 162, 0, 16, 42, 180, 0, 26, 27, 3, 79, 132, 1, 1]
abbrev dktX4_yard_0 : List UInt8 := dkwX4_yard_0 ++ dktX4_yard_1
theorem dksX4_yard_0 : cX4_yard.data.toList.drop 0 = dktX4_yard_0 := by decide +kernel
theorem dksX4_yard_1 : cX4_yard.data.toList.drop 24 = dktX4_yard_1 := dk_seg dksX4_yard_0 24 rfl rfl
theorem dksX4_yard_2 : cX4_yard.data.toList.drop 47 = dktX4_yard_2 := dk_seg dksX4_yard_1 23 rfl rfl
theorem dksX4_yard_3 : cX4_yard.data.toList.drop 71 = dktX4_yard_3 := dk_seg dksX4_yard_2 24 rfl rfl
theorem dX4_yard_0 : decode cX4_yard 0 = .ok (.aload_n 0, 1) := dk_42 (dk_at dksX4_yard_0 0 rfl rfl)
theorem dX4_yard_1 : decode cX4_yard 1 = .ok (.bipush 6, 2) := dk_16 6 (dk_at dksX4_yard_0 1 rfl rfl)
theorem dX4_yard_3 : decode cX4_yard 3 = .ok (.putfield 154, 3) := dk_181 0 154 (dk_at dksX4_yard_0 3 rfl rfl)
theorem dX4_yard_6 : decode cX4_yard 6 = .ok (.iconst 0, 1) := dk_3 (dk_at dksX4_yard_0 6 rfl rfl)
theorem dX4_yard_7 : decode cX4_yard 7 = .ok (.istore_n 1, 1) := dk_60 (dk_at dksX4_yard_0 7 rfl rfl)
theorem dX4_yard_8 : decode cX4_yard 8 = .ok (.iload_n 1, 1) := dk_27 (dk_at dksX4_yard_0 8 rfl rfl)
theorem dX4_yard_9 : decode cX4_yard 9 = .ok (.bipush 83, 2) := dk_16 83 (dk_at dksX4_yard_0 9 rfl rfl)
theorem dX4_yard_11 : decode cX4_yard 11 = .ok (.if_icmp .ge 16, 3) := dk_162 0 16 (dk_at dksX4_yard_0 11 rfl rfl)
theorem dX4_yard_14 : decode cX4_yard 14 = .ok (.aload_n 0, 1) := dk_42 (dk_at dksX4_yard_0 14 rfl rfl)
theorem dX4_yard_15 : decode cX4_yard 15 = .ok (.getfield 26, 3) := dk_180 0 26 (dk_at dksX4_yard_0 15 rfl rfl)
theorem dX4_yard_18 : decode cX4_yard 18 = .ok (.iload_n 1, 1) := dk_27 (dk_at dksX4_yard_0 18 rfl rfl)
theorem dX4_yard_19 : decode cX4_yard 19 = .ok (.iconst 0, 1) := dk_3 (dk_at dksX4_yard_0 19 rfl rfl)
theorem dX4_yard_20 : decode cX4_yard 20 = .ok (.iastore, 1) := dk_79 (dk_at dksX4_yard_0 20 rfl rfl)
theorem dX4_yard_21 : decode cX4_yard 21 = .ok (.iinc 1 1, 3) := dk_132 1 1 (dk_at dksX4_yard_0 21 rfl rfl)
theorem dX4_yard_24 : decode cX4_yard 24 = .ok (.goto (-16), 3) := dk_167 255 240 (dk_at dksX4_yard_1 0 rfl rfl)
theorem dX4_yard_27 : decode cX4_yard 27 = .ok (.aload_n 0, 1) := dk_42 (dk_at dksX4_yard_1 3 rfl rfl)
theorem dX4_yard_28 : decode cX4_yard 28 = .ok (.invokevirtual 265, 3) := dk_182 1 9 (dk_at dksX4_yard_1 4 rfl rfl)
theorem dX4_yard_31 : decode cX4_yard 31 = .ok (.ifCond .ne 11, 3) := dk_154 0 11 (dk_at dksX4_yard_1 7 rfl rfl)
theorem dX4_yard_34 : decode cX4_yard 34 = .ok (.bipush (-2), 2) := dk_16 254 (dk_at dksX4_yard_1 10 rfl rfl)
theorem dX4_yard_36 : decode cX4_yard 36 = .ok (.aload_n 0, 1) := dk_42 (dk_at dksX4_yard_1 12 rfl rfl)
theorem dX4_yard_37 : decode cX4_yard 37 = .ok (.getfield 93, 3) := dk_180 0 93 (dk_at dksX4_yard_1 13 rfl rfl)
theorem dX4_yard_40 : decode cX4_yard 40 = .ok (.isub, 1) := dk_100 (dk_at dksX4_yard_1 16 rfl rfl)
theorem dX4_yard_41 : decode cX4_yard 41 = .ok (.ireturn, 1) := dk_172 (dk_at dksX4_yard_1 17 rfl rfl)
theorem dX4_yard_42 : decode cX4_yard 42 = .ok (.iconst 0, 1) := dk_3 (dk_at dksX4_yard_1 18 rfl rfl)
theorem dX4_yard_43 : decode cX4_yard 43 = .ok (.istore_n 1, 1) := dk_60 (dk_at dksX4_yard_1 19 rfl rfl)
theorem dX4_yard_44 : decode cX4_yard 44 = .ok (.iload_n 1, 1) := dk_27 (dk_at dksX4_yard_1 20 rfl rfl)
theorem dX4_yard_45 : decode cX4_yard 45 = .ok (.bipush 114, 2) := dk_16 114 (dk_at dksX4_yard_1 21 rfl rfl)
theorem dX4_yard_47 : decode cX4_yard 47 = .ok (.if_icmp .ge 31, 3) := dk_162 0 31 (dk_at dksX4_yard_2 0 rfl rfl)
theorem dX4_yard_50 : decode cX4_yard 50 = .ok (.aload_n 0, 1) := dk_42 (dk_at dksX4_yard_2 3 rfl rfl)
theorem dX4_yard_51 : decode cX4_yard 51 = .ok (.getfield 39, 3) := dk_180 0 39 (dk_at dksX4_yard_2 4 rfl rfl)
theorem dX4_yard_54 : decode cX4_yard 54 = .ok (.iload_n 1, 1) := dk_27 (dk_at dksX4_yard_2 7 rfl rfl)
theorem dX4_yard_55 : decode cX4_yard 55 = .ok (.iload_n 1, 1) := dk_27 (dk_at dksX4_yard_2 8 rfl rfl)
theorem dX4_yard_56 : decode cX4_yard 56 = .ok (.bipush 83, 2) := dk_16 83 (dk_at dksX4_yard_2 9 rfl rfl)
theorem dX4_yard_58 : decode cX4_yard 58 = .ok (.if_icmp .ge 12, 3) := dk_162 0 12 (dk_at dksX4_yard_2 11 rfl rfl)
theorem dX4_yard_61 : decode cX4_yard 61 = .ok (.aload_n 0, 1) := dk_42 (dk_at dksX4_yard_2 14 rfl rfl)
theorem dX4_yard_62 : decode cX4_yard 62 = .ok (.getfield 26, 3) := dk_180 0 26 (dk_at dksX4_yard_2 15 rfl rfl)
theorem dX4_yard_65 : decode cX4_yard 65 = .ok (.iload_n 1, 1) := dk_27 (dk_at dksX4_yard_2 18 rfl rfl)
theorem dX4_yard_66 : decode cX4_yard 66 = .ok (.iaload, 1) := dk_46 (dk_at dksX4_yard_2 19 rfl rfl)
theorem dX4_yard_67 : decode cX4_yard 67 = .ok (.goto 4, 3) := dk_167 0 4 (dk_at dksX4_yard_2 20 rfl rfl)
theorem dX4_yard_70 : decode cX4_yard 70 = .ok (.iconst 0, 1) := dk_3 (dk_at dksX4_yard_2 23 rfl rfl)
theorem dX4_yard_71 : decode cX4_yard 71 = .ok (.iastore, 1) := dk_79 (dk_at dksX4_yard_3 0 rfl rfl)
theorem dX4_yard_72 : decode cX4_yard 72 = .ok (.iinc 1 1, 3) := dk_132 1 1 (dk_at dksX4_yard_3 1 rfl rfl)
theorem dX4_yard_75 : decode cX4_yard 75 = .ok (.goto (-31), 3) := dk_167 255 225 (dk_at dksX4_yard_3 4 rfl rfl)
theorem dX4_yard_78 : decode cX4_yard 78 = .ok (.aload_n 0, 1) := dk_42 (dk_at dksX4_yard_3 7 rfl rfl)
theorem dX4_yard_79 : decode cX4_yard 79 = .ok (.invokevirtual 268, 3) := dk_182 1 12 (dk_at dksX4_yard_3 8 rfl rfl)
theorem dX4_yard_82 : decode cX4_yard 82 = .ok (.aload_n 0, 1) := dk_42 (dk_at dksX4_yard_3 11 rfl rfl)
theorem dX4_yard_83 : decode cX4_yard 83 = .ok (.iconst 0, 1) := dk_3 (dk_at dksX4_yard_3 12 rfl rfl)
theorem dX4_yard_84 : decode cX4_yard 84 = .ok (.putfield 271, 3) := dk_181 1 15 (dk_at dksX4_yard_3 13 rfl rfl)
theorem dX4_yard_87 : decode cX4_yard 87 = .ok (.aload_n 0, 1) := dk_42 (dk_at dksX4_yard_3 16 rfl rfl)
theorem dX4_yard_88 : decode cX4_yard 88 = .ok (.getfield 39, 3) := dk_180 0 39 (dk_at dksX4_yard_3 17 rfl rfl)
theorem dX4_yard_91 : decode cX4_yard 91 = .ok (.iconst 2, 1) := dk_5 (dk_at dksX4_yard_3 20 rfl rfl)
theorem dX4_yard_92 : decode cX4_yard 92 = .ok (.iaload, 1) := dk_46 (dk_at dksX4_yard_3 21 rfl rfl)
theorem dX4_yard_93 : decode cX4_yard 93 = .ok (.ireturn, 1) := dk_172 (dk_at dksX4_yard_3 22 rfl rfl)
abbrev cX4_begins : ByteArray := prog_19_method_53_code
def yX4_begins : MethodName := ⟨RX4, "begins", "()V"⟩
def dkwX4_begins_3 : List UInt8 := [28, 5, 96, 46, 182, 1, 43, 42, 27, 7, 4, 182, 1, 43, 132, 1, 1, 167, 255, 179, 177]
abbrev dktX4_begins_3 : List UInt8 := dkwX4_begins_3 ++ []
def dkwX4_begins_2 : List UInt8 := [182, 1, 43, 42, 27, 5, 42, 180, 0, 39, 28, 6, 96, 46, 182, 1, 43, 42, 27, 6, 42, 180, 0, 39]
abbrev dktX4_begins_2 : List UInt8 := dkwX4_begins_2 ++ dktX4_begins_3
def dkwX4_begins_1 : List UInt8 := [27, 3, 42, 180, 0, 39, 28, 46, 182, 1, 43, 42, 27, 4, 42, 180, 0, 39, 28, 4, 96, 46]
abbrev dktX4_begins_1 : List UInt8 := dkwX4_begins_1 ++ dktX4_begins_2
def dkwX4_begins_0 : List UInt8 := [42, 180, 0, 39, 16, 10, 3, 79, 3, 60, 27, 16, 8, 162, 0, 77, 16, 51, 7, 27, 104, 96, 61, 42]
abbrev dktX4_begins_0 : List UInt8 := dkwX4_begins_0 ++ dktX4_begins_1
theorem dksX4_begins_0 : cX4_begins.data.toList.drop 0 = dktX4_begins_0 := by decide +kernel
theorem dksX4_begins_1 : cX4_begins.data.toList.drop 24 = dktX4_begins_1 := dk_seg dksX4_begins_0 24 rfl rfl
theorem dksX4_begins_2 : cX4_begins.data.toList.drop 46 = dktX4_begins_2 := dk_seg dksX4_begins_1 22 rfl rfl
theorem dksX4_begins_3 : cX4_begins.data.toList.drop 70 = dktX4_begins_3 := dk_seg dksX4_begins_2 24 rfl rfl
theorem dX4_begins_0 : decode cX4_begins 0 = .ok (.aload_n 0, 1) := dk_42 (dk_at dksX4_begins_0 0 rfl rfl)
theorem dX4_begins_1 : decode cX4_begins 1 = .ok (.getfield 39, 3) := dk_180 0 39 (dk_at dksX4_begins_0 1 rfl rfl)
theorem dX4_begins_4 : decode cX4_begins 4 = .ok (.bipush 10, 2) := dk_16 10 (dk_at dksX4_begins_0 4 rfl rfl)
theorem dX4_begins_6 : decode cX4_begins 6 = .ok (.iconst 0, 1) := dk_3 (dk_at dksX4_begins_0 6 rfl rfl)
theorem dX4_begins_7 : decode cX4_begins 7 = .ok (.iastore, 1) := dk_79 (dk_at dksX4_begins_0 7 rfl rfl)
theorem dX4_begins_8 : decode cX4_begins 8 = .ok (.iconst 0, 1) := dk_3 (dk_at dksX4_begins_0 8 rfl rfl)
theorem dX4_begins_9 : decode cX4_begins 9 = .ok (.istore_n 1, 1) := dk_60 (dk_at dksX4_begins_0 9 rfl rfl)
theorem dX4_begins_10 : decode cX4_begins 10 = .ok (.iload_n 1, 1) := dk_27 (dk_at dksX4_begins_0 10 rfl rfl)
theorem dX4_begins_11 : decode cX4_begins 11 = .ok (.bipush 8, 2) := dk_16 8 (dk_at dksX4_begins_0 11 rfl rfl)
theorem dX4_begins_13 : decode cX4_begins 13 = .ok (.if_icmp .ge 77, 3) := dk_162 0 77 (dk_at dksX4_begins_0 13 rfl rfl)
theorem dX4_begins_16 : decode cX4_begins 16 = .ok (.bipush 51, 2) := dk_16 51 (dk_at dksX4_begins_0 16 rfl rfl)
theorem dX4_begins_18 : decode cX4_begins 18 = .ok (.iconst 4, 1) := dk_7 (dk_at dksX4_begins_0 18 rfl rfl)
theorem dX4_begins_19 : decode cX4_begins 19 = .ok (.iload_n 1, 1) := dk_27 (dk_at dksX4_begins_0 19 rfl rfl)
theorem dX4_begins_20 : decode cX4_begins 20 = .ok (.imul, 1) := dk_104 (dk_at dksX4_begins_0 20 rfl rfl)
theorem dX4_begins_21 : decode cX4_begins 21 = .ok (.iadd, 1) := dk_96 (dk_at dksX4_begins_0 21 rfl rfl)
theorem dX4_begins_22 : decode cX4_begins 22 = .ok (.istore_n 2, 1) := dk_61 (dk_at dksX4_begins_0 22 rfl rfl)
theorem dX4_begins_23 : decode cX4_begins 23 = .ok (.aload_n 0, 1) := dk_42 (dk_at dksX4_begins_0 23 rfl rfl)
theorem dX4_begins_24 : decode cX4_begins 24 = .ok (.iload_n 1, 1) := dk_27 (dk_at dksX4_begins_1 0 rfl rfl)
theorem dX4_begins_25 : decode cX4_begins 25 = .ok (.iconst 0, 1) := dk_3 (dk_at dksX4_begins_1 1 rfl rfl)
theorem dX4_begins_26 : decode cX4_begins 26 = .ok (.aload_n 0, 1) := dk_42 (dk_at dksX4_begins_1 2 rfl rfl)
theorem dX4_begins_27 : decode cX4_begins 27 = .ok (.getfield 39, 3) := dk_180 0 39 (dk_at dksX4_begins_1 3 rfl rfl)
theorem dX4_begins_30 : decode cX4_begins 30 = .ok (.iload_n 2, 1) := dk_28 (dk_at dksX4_begins_1 6 rfl rfl)
theorem dX4_begins_31 : decode cX4_begins 31 = .ok (.iaload, 1) := dk_46 (dk_at dksX4_begins_1 7 rfl rfl)
theorem dX4_begins_32 : decode cX4_begins 32 = .ok (.invokevirtual 299, 3) := dk_182 1 43 (dk_at dksX4_begins_1 8 rfl rfl)
theorem dX4_begins_35 : decode cX4_begins 35 = .ok (.aload_n 0, 1) := dk_42 (dk_at dksX4_begins_1 11 rfl rfl)
theorem dX4_begins_36 : decode cX4_begins 36 = .ok (.iload_n 1, 1) := dk_27 (dk_at dksX4_begins_1 12 rfl rfl)
theorem dX4_begins_37 : decode cX4_begins 37 = .ok (.iconst 1, 1) := dk_4 (dk_at dksX4_begins_1 13 rfl rfl)
theorem dX4_begins_38 : decode cX4_begins 38 = .ok (.aload_n 0, 1) := dk_42 (dk_at dksX4_begins_1 14 rfl rfl)
theorem dX4_begins_39 : decode cX4_begins 39 = .ok (.getfield 39, 3) := dk_180 0 39 (dk_at dksX4_begins_1 15 rfl rfl)
theorem dX4_begins_42 : decode cX4_begins 42 = .ok (.iload_n 2, 1) := dk_28 (dk_at dksX4_begins_1 18 rfl rfl)
theorem dX4_begins_43 : decode cX4_begins 43 = .ok (.iconst 1, 1) := dk_4 (dk_at dksX4_begins_1 19 rfl rfl)
theorem dX4_begins_44 : decode cX4_begins 44 = .ok (.iadd, 1) := dk_96 (dk_at dksX4_begins_1 20 rfl rfl)
theorem dX4_begins_45 : decode cX4_begins 45 = .ok (.iaload, 1) := dk_46 (dk_at dksX4_begins_1 21 rfl rfl)
theorem dX4_begins_46 : decode cX4_begins 46 = .ok (.invokevirtual 299, 3) := dk_182 1 43 (dk_at dksX4_begins_2 0 rfl rfl)
theorem dX4_begins_49 : decode cX4_begins 49 = .ok (.aload_n 0, 1) := dk_42 (dk_at dksX4_begins_2 3 rfl rfl)
theorem dX4_begins_50 : decode cX4_begins 50 = .ok (.iload_n 1, 1) := dk_27 (dk_at dksX4_begins_2 4 rfl rfl)
theorem dX4_begins_51 : decode cX4_begins 51 = .ok (.iconst 2, 1) := dk_5 (dk_at dksX4_begins_2 5 rfl rfl)
theorem dX4_begins_52 : decode cX4_begins 52 = .ok (.aload_n 0, 1) := dk_42 (dk_at dksX4_begins_2 6 rfl rfl)
theorem dX4_begins_53 : decode cX4_begins 53 = .ok (.getfield 39, 3) := dk_180 0 39 (dk_at dksX4_begins_2 7 rfl rfl)
theorem dX4_begins_56 : decode cX4_begins 56 = .ok (.iload_n 2, 1) := dk_28 (dk_at dksX4_begins_2 10 rfl rfl)
theorem dX4_begins_57 : decode cX4_begins 57 = .ok (.iconst 3, 1) := dk_6 (dk_at dksX4_begins_2 11 rfl rfl)
theorem dX4_begins_58 : decode cX4_begins 58 = .ok (.iadd, 1) := dk_96 (dk_at dksX4_begins_2 12 rfl rfl)
theorem dX4_begins_59 : decode cX4_begins 59 = .ok (.iaload, 1) := dk_46 (dk_at dksX4_begins_2 13 rfl rfl)
theorem dX4_begins_60 : decode cX4_begins 60 = .ok (.invokevirtual 299, 3) := dk_182 1 43 (dk_at dksX4_begins_2 14 rfl rfl)
theorem dX4_begins_63 : decode cX4_begins 63 = .ok (.aload_n 0, 1) := dk_42 (dk_at dksX4_begins_2 17 rfl rfl)
theorem dX4_begins_64 : decode cX4_begins 64 = .ok (.iload_n 1, 1) := dk_27 (dk_at dksX4_begins_2 18 rfl rfl)
theorem dX4_begins_65 : decode cX4_begins 65 = .ok (.iconst 3, 1) := dk_6 (dk_at dksX4_begins_2 19 rfl rfl)
theorem dX4_begins_66 : decode cX4_begins 66 = .ok (.aload_n 0, 1) := dk_42 (dk_at dksX4_begins_2 20 rfl rfl)
theorem dX4_begins_67 : decode cX4_begins 67 = .ok (.getfield 39, 3) := dk_180 0 39 (dk_at dksX4_begins_2 21 rfl rfl)
theorem dX4_begins_70 : decode cX4_begins 70 = .ok (.iload_n 2, 1) := dk_28 (dk_at dksX4_begins_3 0 rfl rfl)
theorem dX4_begins_71 : decode cX4_begins 71 = .ok (.iconst 2, 1) := dk_5 (dk_at dksX4_begins_3 1 rfl rfl)
theorem dX4_begins_72 : decode cX4_begins 72 = .ok (.iadd, 1) := dk_96 (dk_at dksX4_begins_3 2 rfl rfl)
theorem dX4_begins_73 : decode cX4_begins 73 = .ok (.iaload, 1) := dk_46 (dk_at dksX4_begins_3 3 rfl rfl)
theorem dX4_begins_74 : decode cX4_begins 74 = .ok (.invokevirtual 299, 3) := dk_182 1 43 (dk_at dksX4_begins_3 4 rfl rfl)
theorem dX4_begins_77 : decode cX4_begins 77 = .ok (.aload_n 0, 1) := dk_42 (dk_at dksX4_begins_3 7 rfl rfl)
theorem dX4_begins_78 : decode cX4_begins 78 = .ok (.iload_n 1, 1) := dk_27 (dk_at dksX4_begins_3 8 rfl rfl)
theorem dX4_begins_79 : decode cX4_begins 79 = .ok (.iconst 4, 1) := dk_7 (dk_at dksX4_begins_3 9 rfl rfl)
theorem dX4_begins_80 : decode cX4_begins 80 = .ok (.iconst 1, 1) := dk_4 (dk_at dksX4_begins_3 10 rfl rfl)
theorem dX4_begins_81 : decode cX4_begins 81 = .ok (.invokevirtual 299, 3) := dk_182 1 43 (dk_at dksX4_begins_3 11 rfl rfl)
theorem dX4_begins_84 : decode cX4_begins 84 = .ok (.iinc 1 1, 3) := dk_132 1 1 (dk_at dksX4_begins_3 14 rfl rfl)
theorem dX4_begins_87 : decode cX4_begins 87 = .ok (.goto (-77), 3) := dk_167 255 179 (dk_at dksX4_begins_3 17 rfl rfl)
theorem dX4_begins_90 : decode cX4_begins 90 = .ok (.return_, 1) := dk_177 (dk_at dksX4_begins_3 20 rfl rfl)
abbrev cX4_sets : ByteArray := prog_19_method_49_code
def yX4_sets : MethodName := ⟨RX4, "sets", "(III)V"⟩
def dkwX4_sets_0 : List UInt8 := [42, 180, 0, 39, 16, 11, 8, 27, 104, 96, 28, 96, 29, 79, 177]
abbrev dktX4_sets_0 : List UInt8 := dkwX4_sets_0 ++ []
theorem dksX4_sets_0 : cX4_sets.data.toList.drop 0 = dktX4_sets_0 := by decide +kernel
theorem dX4_sets_0 : decode cX4_sets 0 = .ok (.aload_n 0, 1) := dk_42 (dk_at dksX4_sets_0 0 rfl rfl)
theorem dX4_sets_1 : decode cX4_sets 1 = .ok (.getfield 39, 3) := dk_180 0 39 (dk_at dksX4_sets_0 1 rfl rfl)
theorem dX4_sets_4 : decode cX4_sets 4 = .ok (.bipush 11, 2) := dk_16 11 (dk_at dksX4_sets_0 4 rfl rfl)
theorem dX4_sets_6 : decode cX4_sets 6 = .ok (.iconst 5, 1) := dk_8 (dk_at dksX4_sets_0 6 rfl rfl)
theorem dX4_sets_7 : decode cX4_sets 7 = .ok (.iload_n 1, 1) := dk_27 (dk_at dksX4_sets_0 7 rfl rfl)
theorem dX4_sets_8 : decode cX4_sets 8 = .ok (.imul, 1) := dk_104 (dk_at dksX4_sets_0 8 rfl rfl)
theorem dX4_sets_9 : decode cX4_sets 9 = .ok (.iadd, 1) := dk_96 (dk_at dksX4_sets_0 9 rfl rfl)
theorem dX4_sets_10 : decode cX4_sets 10 = .ok (.iload_n 2, 1) := dk_28 (dk_at dksX4_sets_0 10 rfl rfl)
theorem dX4_sets_11 : decode cX4_sets 11 = .ok (.iadd, 1) := dk_96 (dk_at dksX4_sets_0 11 rfl rfl)
theorem dX4_sets_12 : decode cX4_sets 12 = .ok (.iload_n 3, 1) := dk_29 (dk_at dksX4_sets_0 12 rfl rfl)
theorem dX4_sets_13 : decode cX4_sets 13 = .ok (.iastore, 1) := dk_79 (dk_at dksX4_sets_0 13 rfl rfl)
theorem dX4_sets_14 : decode cX4_sets 14 = .ok (.return_, 1) := dk_177 (dk_at dksX4_sets_0 14 rfl rfl)
abbrev cX4_force : ByteArray := prog_19_method_54_code
def yX4_force : MethodName := ⟨RX4, "force", "(I)I"⟩
def dkwX4_force_1 : List UInt8 := [181, 0, 42, 28, 172]
abbrev dktX4_force_1 : List UInt8 := dkwX4_force_1 ++ []
def dkwX4_force_0 : List UInt8 := [27, 2, 159, 0, 14, 42, 27, 182, 1, 47, 154, 0, 6, 16, 254, 172, 42, 180, 0, 42, 61, 42, 27]
abbrev dktX4_force_0 : List UInt8 := dkwX4_force_0 ++ dktX4_force_1
theorem dksX4_force_0 : cX4_force.data.toList.drop 0 = dktX4_force_0 := by decide +kernel
theorem dksX4_force_1 : cX4_force.data.toList.drop 23 = dktX4_force_1 := dk_seg dksX4_force_0 23 rfl rfl
theorem dX4_force_0 : decode cX4_force 0 = .ok (.iload_n 1, 1) := dk_27 (dk_at dksX4_force_0 0 rfl rfl)
theorem dX4_force_1 : decode cX4_force 1 = .ok (.iconst (-1), 1) := dk_2 (dk_at dksX4_force_0 1 rfl rfl)
theorem dX4_force_2 : decode cX4_force 2 = .ok (.if_icmp .eq 14, 3) := dk_159 0 14 (dk_at dksX4_force_0 2 rfl rfl)
theorem dX4_force_5 : decode cX4_force 5 = .ok (.aload_n 0, 1) := dk_42 (dk_at dksX4_force_0 5 rfl rfl)
theorem dX4_force_6 : decode cX4_force 6 = .ok (.iload_n 1, 1) := dk_27 (dk_at dksX4_force_0 6 rfl rfl)
theorem dX4_force_7 : decode cX4_force 7 = .ok (.invokevirtual 303, 3) := dk_182 1 47 (dk_at dksX4_force_0 7 rfl rfl)
theorem dX4_force_10 : decode cX4_force 10 = .ok (.ifCond .ne 6, 3) := dk_154 0 6 (dk_at dksX4_force_0 10 rfl rfl)
theorem dX4_force_13 : decode cX4_force 13 = .ok (.bipush (-2), 2) := dk_16 254 (dk_at dksX4_force_0 13 rfl rfl)
theorem dX4_force_15 : decode cX4_force 15 = .ok (.ireturn, 1) := dk_172 (dk_at dksX4_force_0 15 rfl rfl)
theorem dX4_force_16 : decode cX4_force 16 = .ok (.aload_n 0, 1) := dk_42 (dk_at dksX4_force_0 16 rfl rfl)
theorem dX4_force_17 : decode cX4_force 17 = .ok (.getfield 42, 3) := dk_180 0 42 (dk_at dksX4_force_0 17 rfl rfl)
theorem dX4_force_20 : decode cX4_force 20 = .ok (.istore_n 2, 1) := dk_61 (dk_at dksX4_force_0 20 rfl rfl)
theorem dX4_force_21 : decode cX4_force 21 = .ok (.aload_n 0, 1) := dk_42 (dk_at dksX4_force_0 21 rfl rfl)
theorem dX4_force_22 : decode cX4_force 22 = .ok (.iload_n 1, 1) := dk_27 (dk_at dksX4_force_0 22 rfl rfl)
theorem dX4_force_23 : decode cX4_force 23 = .ok (.putfield 42, 3) := dk_181 0 42 (dk_at dksX4_force_1 0 rfl rfl)
theorem dX4_force_26 : decode cX4_force 26 = .ok (.iload_n 2, 1) := dk_28 (dk_at dksX4_force_1 3 rfl rfl)
theorem dX4_force_27 : decode cX4_force 27 = .ok (.ireturn, 1) := dk_172 (dk_at dksX4_force_1 4 rfl rfl)
abbrev cX4_isRule : ByteArray := prog_19_method_41_code
def yX4_isRule : MethodName := ⟨RX4, "isRule", "(I)Z"⟩
def dkwX4_isRule_0 : List UInt8 := [27, 155, 0, 15, 27, 42, 180, 1, 6, 162, 0, 7, 4, 167, 0, 4, 3, 172]
abbrev dktX4_isRule_0 : List UInt8 := dkwX4_isRule_0 ++ []
theorem dksX4_isRule_0 : cX4_isRule.data.toList.drop 0 = dktX4_isRule_0 := by decide +kernel
theorem dX4_isRule_0 : decode cX4_isRule 0 = .ok (.iload_n 1, 1) := dk_27 (dk_at dksX4_isRule_0 0 rfl rfl)
theorem dX4_isRule_1 : decode cX4_isRule 1 = .ok (.ifCond .lt 15, 3) := dk_155 0 15 (dk_at dksX4_isRule_0 1 rfl rfl)
theorem dX4_isRule_4 : decode cX4_isRule 4 = .ok (.iload_n 1, 1) := dk_27 (dk_at dksX4_isRule_0 4 rfl rfl)
theorem dX4_isRule_5 : decode cX4_isRule 5 = .ok (.aload_n 0, 1) := dk_42 (dk_at dksX4_isRule_0 5 rfl rfl)
theorem dX4_isRule_6 : decode cX4_isRule 6 = .ok (.getfield 262, 3) := dk_180 1 6 (dk_at dksX4_isRule_0 6 rfl rfl)
theorem dX4_isRule_9 : decode cX4_isRule 9 = .ok (.if_icmp .ge 7, 3) := dk_162 0 7 (dk_at dksX4_isRule_0 9 rfl rfl)
theorem dX4_isRule_12 : decode cX4_isRule 12 = .ok (.iconst 1, 1) := dk_4 (dk_at dksX4_isRule_0 12 rfl rfl)
theorem dX4_isRule_13 : decode cX4_isRule 13 = .ok (.goto 4, 3) := dk_167 0 4 (dk_at dksX4_isRule_0 13 rfl rfl)
theorem dX4_isRule_16 : decode cX4_isRule 16 = .ok (.iconst 0, 1) := dk_3 (dk_at dksX4_isRule_0 16 rfl rfl)
theorem dX4_isRule_17 : decode cX4_isRule 17 = .ok (.ireturn, 1) := dk_172 (dk_at dksX4_isRule_0 17 rfl rfl)
abbrev cX4_conker : ByteArray := prog_19_method_55_code
def yX4_conker : MethodName := ⟨RX4, "conker", "(II)I"⟩
def dkwX4_conker_1 : List UInt8 := [182, 1, 36, 167, 0, 4, 2, 172]
abbrev dktX4_conker_1 : List UInt8 := dkwX4_conker_1 ++ []
def dkwX4_conker_0 : List UInt8 := [42, 27, 182, 1, 33, 153, 0, 24, 28, 133, 9, 20, 1, 50, 184, 0, 124, 153, 0, 12, 42, 27, 28]
abbrev dktX4_conker_0 : List UInt8 := dkwX4_conker_0 ++ dktX4_conker_1
theorem dksX4_conker_0 : cX4_conker.data.toList.drop 0 = dktX4_conker_0 := by decide +kernel
theorem dksX4_conker_1 : cX4_conker.data.toList.drop 23 = dktX4_conker_1 := dk_seg dksX4_conker_0 23 rfl rfl
theorem dX4_conker_0 : decode cX4_conker 0 = .ok (.aload_n 0, 1) := dk_42 (dk_at dksX4_conker_0 0 rfl rfl)
theorem dX4_conker_1 : decode cX4_conker 1 = .ok (.iload_n 1, 1) := dk_27 (dk_at dksX4_conker_0 1 rfl rfl)
theorem dX4_conker_2 : decode cX4_conker 2 = .ok (.invokevirtual 289, 3) := dk_182 1 33 (dk_at dksX4_conker_0 2 rfl rfl)
theorem dX4_conker_5 : decode cX4_conker 5 = .ok (.ifCond .eq 24, 3) := dk_153 0 24 (dk_at dksX4_conker_0 5 rfl rfl)
theorem dX4_conker_8 : decode cX4_conker 8 = .ok (.iload_n 2, 1) := dk_28 (dk_at dksX4_conker_0 8 rfl rfl)
theorem dX4_conker_9 : decode cX4_conker 9 = .ok (.i2l, 1) := dk_133 (dk_at dksX4_conker_0 9 rfl rfl)
theorem dX4_conker_10 : decode cX4_conker 10 = .ok (.lconst 0, 1) := dk_9 (dk_at dksX4_conker_0 10 rfl rfl)
theorem dX4_conker_11 : decode cX4_conker 11 = .ok (.ldc2_w 306, 3) := dk_20 1 50 (dk_at dksX4_conker_0 11 rfl rfl)
theorem dX4_conker_14 : decode cX4_conker 14 = .ok (.invokestatic 124, 3) := dk_184 0 124 (dk_at dksX4_conker_0 14 rfl rfl)
theorem dX4_conker_17 : decode cX4_conker 17 = .ok (.ifCond .eq 12, 3) := dk_153 0 12 (dk_at dksX4_conker_0 17 rfl rfl)
theorem dX4_conker_20 : decode cX4_conker 20 = .ok (.aload_n 0, 1) := dk_42 (dk_at dksX4_conker_0 20 rfl rfl)
theorem dX4_conker_21 : decode cX4_conker 21 = .ok (.iload_n 1, 1) := dk_27 (dk_at dksX4_conker_0 21 rfl rfl)
theorem dX4_conker_22 : decode cX4_conker 22 = .ok (.iload_n 2, 1) := dk_28 (dk_at dksX4_conker_0 22 rfl rfl)
theorem dX4_conker_23 : decode cX4_conker 23 = .ok (.invokevirtual 292, 3) := dk_182 1 36 (dk_at dksX4_conker_1 0 rfl rfl)
theorem dX4_conker_26 : decode cX4_conker 26 = .ok (.goto 4, 3) := dk_167 0 4 (dk_at dksX4_conker_1 3 rfl rfl)
theorem dX4_conker_29 : decode cX4_conker 29 = .ok (.iconst (-1), 1) := dk_2 (dk_at dksX4_conker_1 6 rfl rfl)
theorem dX4_conker_30 : decode cX4_conker 30 = .ok (.ireturn, 1) := dk_172 (dk_at dksX4_conker_1 7 rfl rfl)
abbrev cX4_isConker : ByteArray := prog_19_method_47_code
def yX4_isConker : MethodName := ⟨RX4, "isConker", "(I)Z"⟩
def dkwX4_isConker_0 : List UInt8 := [27, 155, 0, 17, 27, 42, 180, 0, 39, 5, 46, 162, 0, 7, 4, 167, 0, 4, 3, 172]
abbrev dktX4_isConker_0 : List UInt8 := dkwX4_isConker_0 ++ []
theorem dksX4_isConker_0 : cX4_isConker.data.toList.drop 0 = dktX4_isConker_0 := by decide +kernel
theorem dX4_isConker_0 : decode cX4_isConker 0 = .ok (.iload_n 1, 1) := dk_27 (dk_at dksX4_isConker_0 0 rfl rfl)
theorem dX4_isConker_1 : decode cX4_isConker 1 = .ok (.ifCond .lt 17, 3) := dk_155 0 17 (dk_at dksX4_isConker_0 1 rfl rfl)
theorem dX4_isConker_4 : decode cX4_isConker 4 = .ok (.iload_n 1, 1) := dk_27 (dk_at dksX4_isConker_0 4 rfl rfl)
theorem dX4_isConker_5 : decode cX4_isConker 5 = .ok (.aload_n 0, 1) := dk_42 (dk_at dksX4_isConker_0 5 rfl rfl)
theorem dX4_isConker_6 : decode cX4_isConker 6 = .ok (.getfield 39, 3) := dk_180 0 39 (dk_at dksX4_isConker_0 6 rfl rfl)
theorem dX4_isConker_9 : decode cX4_isConker 9 = .ok (.iconst 2, 1) := dk_5 (dk_at dksX4_isConker_0 9 rfl rfl)
theorem dX4_isConker_10 : decode cX4_isConker 10 = .ok (.iaload, 1) := dk_46 (dk_at dksX4_isConker_0 10 rfl rfl)
theorem dX4_isConker_11 : decode cX4_isConker 11 = .ok (.if_icmp .ge 7, 3) := dk_162 0 7 (dk_at dksX4_isConker_0 11 rfl rfl)
theorem dX4_isConker_14 : decode cX4_isConker 14 = .ok (.iconst 1, 1) := dk_4 (dk_at dksX4_isConker_0 14 rfl rfl)
theorem dX4_isConker_15 : decode cX4_isConker 15 = .ok (.goto 4, 3) := dk_167 0 4 (dk_at dksX4_isConker_0 15 rfl rfl)
theorem dX4_isConker_18 : decode cX4_isConker 18 = .ok (.iconst 0, 1) := dk_3 (dk_at dksX4_isConker_0 18 rfl rfl)
theorem dX4_isConker_19 : decode cX4_isConker 19 = .ok (.ireturn, 1) := dk_172 (dk_at dksX4_isConker_0 19 rfl rfl)
abbrev cX4_has : ByteArray := prog_19_method_48_code
def yX4_has : MethodName := ⟨RX4, "has", "(II)I"⟩
def dkwX4_has_0 : List UInt8 := [42, 180, 0, 39, 16, 11, 8, 27, 104, 96, 28, 96, 46, 172]
abbrev dktX4_has_0 : List UInt8 := dkwX4_has_0 ++ []
theorem dksX4_has_0 : cX4_has.data.toList.drop 0 = dktX4_has_0 := by decide +kernel
theorem dX4_has_0 : decode cX4_has 0 = .ok (.aload_n 0, 1) := dk_42 (dk_at dksX4_has_0 0 rfl rfl)
theorem dX4_has_1 : decode cX4_has 1 = .ok (.getfield 39, 3) := dk_180 0 39 (dk_at dksX4_has_0 1 rfl rfl)
theorem dX4_has_4 : decode cX4_has 4 = .ok (.bipush 11, 2) := dk_16 11 (dk_at dksX4_has_0 4 rfl rfl)
theorem dX4_has_6 : decode cX4_has 6 = .ok (.iconst 5, 1) := dk_8 (dk_at dksX4_has_0 6 rfl rfl)
theorem dX4_has_7 : decode cX4_has 7 = .ok (.iload_n 1, 1) := dk_27 (dk_at dksX4_has_0 7 rfl rfl)
theorem dX4_has_8 : decode cX4_has 8 = .ok (.imul, 1) := dk_104 (dk_at dksX4_has_0 8 rfl rfl)
theorem dX4_has_9 : decode cX4_has 9 = .ok (.iadd, 1) := dk_96 (dk_at dksX4_has_0 9 rfl rfl)
theorem dX4_has_10 : decode cX4_has 10 = .ok (.iload_n 2, 1) := dk_28 (dk_at dksX4_has_0 10 rfl rfl)
theorem dX4_has_11 : decode cX4_has 11 = .ok (.iadd, 1) := dk_96 (dk_at dksX4_has_0 11 rfl rfl)
theorem dX4_has_12 : decode cX4_has 12 = .ok (.iaload, 1) := dk_46 (dk_at dksX4_has_0 12 rfl rfl)
theorem dX4_has_13 : decode cX4_has 13 = .ok (.ireturn, 1) := dk_172 (dk_at dksX4_has_0 13 rfl rfl)
abbrev cX4_undo : ByteArray := prog_19_method_67_code
def yX4_undo : MethodName := ⟨RX4, "undo", "()I"⟩
def dkwX4_undo_2 : List UInt8 := [46, 79, 132, 1, 1, 167, 255, 224, 42, 180, 1, 15, 172]
abbrev dktX4_undo_2 : List UInt8 := dkwX4_undo_2 ++ []
def dkwX4_undo_1 : List UInt8 := [162, 0, 32, 42, 180, 0, 39, 16, 10, 27, 96, 42, 180, 0, 46, 16, 41, 42, 180, 1, 15, 104, 27, 96]
abbrev dktX4_undo_1 : List UInt8 := dkwX4_undo_1 ++ dktX4_undo_2
def dkwX4_undo_0 : List UInt8 := [42, 180, 1, 15, 154, 0, 5, 2, 172, 42, 89, 180, 1, 15, 4, 100, 181, 1, 15, 3, 60, 27, 16, 41]
abbrev dktX4_undo_0 : List UInt8 := dkwX4_undo_0 ++ dktX4_undo_1
theorem dksX4_undo_0 : cX4_undo.data.toList.drop 0 = dktX4_undo_0 := by decide +kernel
theorem dksX4_undo_1 : cX4_undo.data.toList.drop 24 = dktX4_undo_1 := dk_seg dksX4_undo_0 24 rfl rfl
theorem dksX4_undo_2 : cX4_undo.data.toList.drop 48 = dktX4_undo_2 := dk_seg dksX4_undo_1 24 rfl rfl
theorem dX4_undo_0 : decode cX4_undo 0 = .ok (.aload_n 0, 1) := dk_42 (dk_at dksX4_undo_0 0 rfl rfl)
theorem dX4_undo_1 : decode cX4_undo 1 = .ok (.getfield 271, 3) := dk_180 1 15 (dk_at dksX4_undo_0 1 rfl rfl)
theorem dX4_undo_4 : decode cX4_undo 4 = .ok (.ifCond .ne 5, 3) := dk_154 0 5 (dk_at dksX4_undo_0 4 rfl rfl)
theorem dX4_undo_7 : decode cX4_undo 7 = .ok (.iconst (-1), 1) := dk_2 (dk_at dksX4_undo_0 7 rfl rfl)
theorem dX4_undo_8 : decode cX4_undo 8 = .ok (.ireturn, 1) := dk_172 (dk_at dksX4_undo_0 8 rfl rfl)
theorem dX4_undo_9 : decode cX4_undo 9 = .ok (.aload_n 0, 1) := dk_42 (dk_at dksX4_undo_0 9 rfl rfl)
theorem dX4_undo_10 : decode cX4_undo 10 = .ok (.dup, 1) := dk_89 (dk_at dksX4_undo_0 10 rfl rfl)
theorem dX4_undo_11 : decode cX4_undo 11 = .ok (.getfield 271, 3) := dk_180 1 15 (dk_at dksX4_undo_0 11 rfl rfl)
theorem dX4_undo_14 : decode cX4_undo 14 = .ok (.iconst 1, 1) := dk_4 (dk_at dksX4_undo_0 14 rfl rfl)
theorem dX4_undo_15 : decode cX4_undo 15 = .ok (.isub, 1) := dk_100 (dk_at dksX4_undo_0 15 rfl rfl)
theorem dX4_undo_16 : decode cX4_undo 16 = .ok (.putfield 271, 3) := dk_181 1 15 (dk_at dksX4_undo_0 16 rfl rfl)
theorem dX4_undo_19 : decode cX4_undo 19 = .ok (.iconst 0, 1) := dk_3 (dk_at dksX4_undo_0 19 rfl rfl)
theorem dX4_undo_20 : decode cX4_undo 20 = .ok (.istore_n 1, 1) := dk_60 (dk_at dksX4_undo_0 20 rfl rfl)
theorem dX4_undo_21 : decode cX4_undo 21 = .ok (.iload_n 1, 1) := dk_27 (dk_at dksX4_undo_0 21 rfl rfl)
theorem dX4_undo_22 : decode cX4_undo 22 = .ok (.bipush 41, 2) := dk_16 41 (dk_at dksX4_undo_0 22 rfl rfl)
theorem dX4_undo_24 : decode cX4_undo 24 = .ok (.if_icmp .ge 32, 3) := dk_162 0 32 (dk_at dksX4_undo_1 0 rfl rfl)
theorem dX4_undo_27 : decode cX4_undo 27 = .ok (.aload_n 0, 1) := dk_42 (dk_at dksX4_undo_1 3 rfl rfl)
theorem dX4_undo_28 : decode cX4_undo 28 = .ok (.getfield 39, 3) := dk_180 0 39 (dk_at dksX4_undo_1 4 rfl rfl)
theorem dX4_undo_31 : decode cX4_undo 31 = .ok (.bipush 10, 2) := dk_16 10 (dk_at dksX4_undo_1 7 rfl rfl)
theorem dX4_undo_33 : decode cX4_undo 33 = .ok (.iload_n 1, 1) := dk_27 (dk_at dksX4_undo_1 9 rfl rfl)
theorem dX4_undo_34 : decode cX4_undo 34 = .ok (.iadd, 1) := dk_96 (dk_at dksX4_undo_1 10 rfl rfl)
theorem dX4_undo_35 : decode cX4_undo 35 = .ok (.aload_n 0, 1) := dk_42 (dk_at dksX4_undo_1 11 rfl rfl)
theorem dX4_undo_36 : decode cX4_undo 36 = .ok (.getfield 46, 3) := dk_180 0 46 (dk_at dksX4_undo_1 12 rfl rfl)
theorem dX4_undo_39 : decode cX4_undo 39 = .ok (.bipush 41, 2) := dk_16 41 (dk_at dksX4_undo_1 15 rfl rfl)
theorem dX4_undo_41 : decode cX4_undo 41 = .ok (.aload_n 0, 1) := dk_42 (dk_at dksX4_undo_1 17 rfl rfl)
theorem dX4_undo_42 : decode cX4_undo 42 = .ok (.getfield 271, 3) := dk_180 1 15 (dk_at dksX4_undo_1 18 rfl rfl)
theorem dX4_undo_45 : decode cX4_undo 45 = .ok (.imul, 1) := dk_104 (dk_at dksX4_undo_1 21 rfl rfl)
theorem dX4_undo_46 : decode cX4_undo 46 = .ok (.iload_n 1, 1) := dk_27 (dk_at dksX4_undo_1 22 rfl rfl)
theorem dX4_undo_47 : decode cX4_undo 47 = .ok (.iadd, 1) := dk_96 (dk_at dksX4_undo_1 23 rfl rfl)
theorem dX4_undo_48 : decode cX4_undo 48 = .ok (.iaload, 1) := dk_46 (dk_at dksX4_undo_2 0 rfl rfl)
theorem dX4_undo_49 : decode cX4_undo 49 = .ok (.iastore, 1) := dk_79 (dk_at dksX4_undo_2 1 rfl rfl)
theorem dX4_undo_50 : decode cX4_undo 50 = .ok (.iinc 1 1, 3) := dk_132 1 1 (dk_at dksX4_undo_2 2 rfl rfl)
theorem dX4_undo_53 : decode cX4_undo 53 = .ok (.goto (-32), 3) := dk_167 255 224 (dk_at dksX4_undo_2 5 rfl rfl)
theorem dX4_undo_56 : decode cX4_undo 56 = .ok (.aload_n 0, 1) := dk_42 (dk_at dksX4_undo_2 8 rfl rfl)
theorem dX4_undo_57 : decode cX4_undo 57 = .ok (.getfield 271, 3) := dk_180 1 15 (dk_at dksX4_undo_2 9 rfl rfl)
theorem dX4_undo_60 : decode cX4_undo 60 = .ok (.ireturn, 1) := dk_172 (dk_at dksX4_undo_2 12 rfl rfl)
abbrev cX4_round : ByteArray := prog_19_method_68_code
def yX4_round : MethodName := ⟨RX4, "round", "()I"⟩
def dkwX4_round_2 : List UInt8 := [172]
abbrev dktX4_round_2 : List UInt8 := dkwX4_round_2 ++ []
def dkwX4_round_1 : List UInt8 := [182, 1, 109, 42, 182, 1, 103, 87, 42, 180, 1, 84, 156, 0, 8, 16, 254, 167, 0, 7, 42, 180, 1, 84]
abbrev dktX4_round_1 : List UInt8 := dkwX4_round_1 ++ dktX4_round_2
def dkwX4_round_0 : List UInt8 := [42, 182, 1, 106, 153, 0, 16, 42, 180, 0, 39, 16, 10, 46, 17, 3, 231, 160, 0, 5, 2, 172, 42]
abbrev dktX4_round_0 : List UInt8 := dkwX4_round_0 ++ dktX4_round_1
theorem dksX4_round_0 : cX4_round.data.toList.drop 0 = dktX4_round_0 := by decide +kernel
theorem dksX4_round_1 : cX4_round.data.toList.drop 23 = dktX4_round_1 := dk_seg dksX4_round_0 23 rfl rfl
theorem dksX4_round_2 : cX4_round.data.toList.drop 47 = dktX4_round_2 := dk_seg dksX4_round_1 24 rfl rfl
theorem dX4_round_0 : decode cX4_round 0 = .ok (.aload_n 0, 1) := dk_42 (dk_at dksX4_round_0 0 rfl rfl)
theorem dX4_round_1 : decode cX4_round 1 = .ok (.invokevirtual 362, 3) := dk_182 1 106 (dk_at dksX4_round_0 1 rfl rfl)
theorem dX4_round_4 : decode cX4_round 4 = .ok (.ifCond .eq 16, 3) := dk_153 0 16 (dk_at dksX4_round_0 4 rfl rfl)
theorem dX4_round_7 : decode cX4_round 7 = .ok (.aload_n 0, 1) := dk_42 (dk_at dksX4_round_0 7 rfl rfl)
theorem dX4_round_8 : decode cX4_round 8 = .ok (.getfield 39, 3) := dk_180 0 39 (dk_at dksX4_round_0 8 rfl rfl)
theorem dX4_round_11 : decode cX4_round 11 = .ok (.bipush 10, 2) := dk_16 10 (dk_at dksX4_round_0 11 rfl rfl)
theorem dX4_round_13 : decode cX4_round 13 = .ok (.iaload, 1) := dk_46 (dk_at dksX4_round_0 13 rfl rfl)
theorem dX4_round_14 : decode cX4_round 14 = .ok (.sipush 999, 3) := dk_17 3 231 (dk_at dksX4_round_0 14 rfl rfl)
theorem dX4_round_17 : decode cX4_round 17 = .ok (.if_icmp .ne 5, 3) := dk_160 0 5 (dk_at dksX4_round_0 17 rfl rfl)
theorem dX4_round_20 : decode cX4_round 20 = .ok (.iconst (-1), 1) := dk_2 (dk_at dksX4_round_0 20 rfl rfl)
theorem dX4_round_21 : decode cX4_round 21 = .ok (.ireturn, 1) := dk_172 (dk_at dksX4_round_0 21 rfl rfl)
theorem dX4_round_22 : decode cX4_round 22 = .ok (.aload_n 0, 1) := dk_42 (dk_at dksX4_round_0 22 rfl rfl)
theorem dX4_round_23 : decode cX4_round 23 = .ok (.invokevirtual 365, 3) := dk_182 1 109 (dk_at dksX4_round_1 0 rfl rfl)
theorem dX4_round_26 : decode cX4_round 26 = .ok (.aload_n 0, 1) := dk_42 (dk_at dksX4_round_1 3 rfl rfl)
theorem dX4_round_27 : decode cX4_round 27 = .ok (.invokevirtual 359, 3) := dk_182 1 103 (dk_at dksX4_round_1 4 rfl rfl)
theorem dX4_round_30 : decode cX4_round 30 = .ok (.pop, 1) := dk_87 (dk_at dksX4_round_1 7 rfl rfl)
theorem dX4_round_31 : decode cX4_round 31 = .ok (.aload_n 0, 1) := dk_42 (dk_at dksX4_round_1 8 rfl rfl)
theorem dX4_round_32 : decode cX4_round 32 = .ok (.getfield 340, 3) := dk_180 1 84 (dk_at dksX4_round_1 9 rfl rfl)
theorem dX4_round_35 : decode cX4_round 35 = .ok (.ifCond .ge 8, 3) := dk_156 0 8 (dk_at dksX4_round_1 12 rfl rfl)
theorem dX4_round_38 : decode cX4_round 38 = .ok (.bipush (-2), 2) := dk_16 254 (dk_at dksX4_round_1 15 rfl rfl)
theorem dX4_round_40 : decode cX4_round 40 = .ok (.goto 7, 3) := dk_167 0 7 (dk_at dksX4_round_1 17 rfl rfl)
theorem dX4_round_43 : decode cX4_round 43 = .ok (.aload_n 0, 1) := dk_42 (dk_at dksX4_round_1 20 rfl rfl)
theorem dX4_round_44 : decode cX4_round 44 = .ok (.getfield 340, 3) := dk_180 1 84 (dk_at dksX4_round_1 21 rfl rfl)
theorem dX4_round_47 : decode cX4_round 47 = .ok (.ireturn, 1) := dk_172 (dk_at dksX4_round_2 0 rfl rfl)
abbrev cX4_isYard : ByteArray := prog_19_method_46_code
def yX4_isYard : MethodName := ⟨RX4, "isYard", "()Z"⟩
def dkwX4_isYard_0 : List UInt8 := [42, 180, 0, 39, 3, 46, 4, 160, 0, 7, 4, 167, 0, 4, 3, 172]
abbrev dktX4_isYard_0 : List UInt8 := dkwX4_isYard_0 ++ []
theorem dksX4_isYard_0 : cX4_isYard.data.toList.drop 0 = dktX4_isYard_0 := by decide +kernel
theorem dX4_isYard_0 : decode cX4_isYard 0 = .ok (.aload_n 0, 1) := dk_42 (dk_at dksX4_isYard_0 0 rfl rfl)
theorem dX4_isYard_1 : decode cX4_isYard 1 = .ok (.getfield 39, 3) := dk_180 0 39 (dk_at dksX4_isYard_0 1 rfl rfl)
theorem dX4_isYard_4 : decode cX4_isYard 4 = .ok (.iconst 0, 1) := dk_3 (dk_at dksX4_isYard_0 4 rfl rfl)
theorem dX4_isYard_5 : decode cX4_isYard 5 = .ok (.iaload, 1) := dk_46 (dk_at dksX4_isYard_0 5 rfl rfl)
theorem dX4_isYard_6 : decode cX4_isYard 6 = .ok (.iconst 1, 1) := dk_4 (dk_at dksX4_isYard_0 6 rfl rfl)
theorem dX4_isYard_7 : decode cX4_isYard 7 = .ok (.if_icmp .ne 7, 3) := dk_160 0 7 (dk_at dksX4_isYard_0 7 rfl rfl)
theorem dX4_isYard_10 : decode cX4_isYard 10 = .ok (.iconst 1, 1) := dk_4 (dk_at dksX4_isYard_0 10 rfl rfl)
theorem dX4_isYard_11 : decode cX4_isYard 11 = .ok (.goto 4, 3) := dk_167 0 4 (dk_at dksX4_isYard_0 11 rfl rfl)
theorem dX4_isYard_14 : decode cX4_isYard 14 = .ok (.iconst 0, 1) := dk_3 (dk_at dksX4_isYard_0 14 rfl rfl)
theorem dX4_isYard_15 : decode cX4_isYard 15 = .ok (.ireturn, 1) := dk_172 (dk_at dksX4_isYard_0 15 rfl rfl)
abbrev cX4_keepsAct : ByteArray := prog_19_method_66_code
def yX4_keepsAct : MethodName := ⟨RX4, "keepsAct", "()V"⟩
def dkwX4_keepsAct_4 : List UInt8 := [181, 1, 15, 177]
abbrev dktX4_keepsAct_4 : List UInt8 := dkwX4_keepsAct_4 ++ []
def dkwX4_keepsAct_3 : List UInt8 := [42, 180, 0, 39, 16, 10, 27, 96, 46, 79, 132, 1, 1, 167, 255, 224, 42, 89, 180, 1, 15, 4, 96]
abbrev dktX4_keepsAct_3 : List UInt8 := dkwX4_keepsAct_3 ++ dktX4_keepsAct_4
def dkwX4_keepsAct_2 : List UInt8 := [181, 1, 15, 3, 60, 27, 16, 41, 162, 0, 32, 42, 180, 0, 46, 16, 41, 42, 180, 1, 15, 104, 27, 96]
abbrev dktX4_keepsAct_2 : List UInt8 := dkwX4_keepsAct_2 ++ dktX4_keepsAct_3
def dkwX4_keepsAct_1 : List UInt8 := [16, 41, 100, 42, 180, 0, 46, 27, 46, 79, 132, 1, 1, 167, 255, 231, 42, 89, 180, 1, 15, 4, 100]
abbrev dktX4_keepsAct_1 : List UInt8 := dkwX4_keepsAct_1 ++ dktX4_keepsAct_2
def dkwX4_keepsAct_0 : List UInt8 := [42, 180, 1, 15, 16, 20, 160, 0, 44, 16, 41, 60, 27, 17, 3, 52, 162, 0, 24, 42, 180, 0, 46, 27]
abbrev dktX4_keepsAct_0 : List UInt8 := dkwX4_keepsAct_0 ++ dktX4_keepsAct_1
theorem dksX4_keepsAct_0 : cX4_keepsAct.data.toList.drop 0 = dktX4_keepsAct_0 := by decide +kernel
theorem dksX4_keepsAct_1 : cX4_keepsAct.data.toList.drop 24 = dktX4_keepsAct_1 := dk_seg dksX4_keepsAct_0 24 rfl rfl
theorem dksX4_keepsAct_2 : cX4_keepsAct.data.toList.drop 47 = dktX4_keepsAct_2 := dk_seg dksX4_keepsAct_1 23 rfl rfl
theorem dksX4_keepsAct_3 : cX4_keepsAct.data.toList.drop 71 = dktX4_keepsAct_3 := dk_seg dksX4_keepsAct_2 24 rfl rfl
theorem dksX4_keepsAct_4 : cX4_keepsAct.data.toList.drop 94 = dktX4_keepsAct_4 := dk_seg dksX4_keepsAct_3 23 rfl rfl
theorem dX4_keepsAct_0 : decode cX4_keepsAct 0 = .ok (.aload_n 0, 1) := dk_42 (dk_at dksX4_keepsAct_0 0 rfl rfl)
theorem dX4_keepsAct_1 : decode cX4_keepsAct 1 = .ok (.getfield 271, 3) := dk_180 1 15 (dk_at dksX4_keepsAct_0 1 rfl rfl)
theorem dX4_keepsAct_4 : decode cX4_keepsAct 4 = .ok (.bipush 20, 2) := dk_16 20 (dk_at dksX4_keepsAct_0 4 rfl rfl)
theorem dX4_keepsAct_6 : decode cX4_keepsAct 6 = .ok (.if_icmp .ne 44, 3) := dk_160 0 44 (dk_at dksX4_keepsAct_0 6 rfl rfl)
theorem dX4_keepsAct_9 : decode cX4_keepsAct 9 = .ok (.bipush 41, 2) := dk_16 41 (dk_at dksX4_keepsAct_0 9 rfl rfl)
theorem dX4_keepsAct_11 : decode cX4_keepsAct 11 = .ok (.istore_n 1, 1) := dk_60 (dk_at dksX4_keepsAct_0 11 rfl rfl)
theorem dX4_keepsAct_12 : decode cX4_keepsAct 12 = .ok (.iload_n 1, 1) := dk_27 (dk_at dksX4_keepsAct_0 12 rfl rfl)
theorem dX4_keepsAct_13 : decode cX4_keepsAct 13 = .ok (.sipush 820, 3) := dk_17 3 52 (dk_at dksX4_keepsAct_0 13 rfl rfl)
theorem dX4_keepsAct_16 : decode cX4_keepsAct 16 = .ok (.if_icmp .ge 24, 3) := dk_162 0 24 (dk_at dksX4_keepsAct_0 16 rfl rfl)
theorem dX4_keepsAct_19 : decode cX4_keepsAct 19 = .ok (.aload_n 0, 1) := dk_42 (dk_at dksX4_keepsAct_0 19 rfl rfl)
theorem dX4_keepsAct_20 : decode cX4_keepsAct 20 = .ok (.getfield 46, 3) := dk_180 0 46 (dk_at dksX4_keepsAct_0 20 rfl rfl)
theorem dX4_keepsAct_23 : decode cX4_keepsAct 23 = .ok (.iload_n 1, 1) := dk_27 (dk_at dksX4_keepsAct_0 23 rfl rfl)
theorem dX4_keepsAct_24 : decode cX4_keepsAct 24 = .ok (.bipush 41, 2) := dk_16 41 (dk_at dksX4_keepsAct_1 0 rfl rfl)
theorem dX4_keepsAct_26 : decode cX4_keepsAct 26 = .ok (.isub, 1) := dk_100 (dk_at dksX4_keepsAct_1 2 rfl rfl)
theorem dX4_keepsAct_27 : decode cX4_keepsAct 27 = .ok (.aload_n 0, 1) := dk_42 (dk_at dksX4_keepsAct_1 3 rfl rfl)
theorem dX4_keepsAct_28 : decode cX4_keepsAct 28 = .ok (.getfield 46, 3) := dk_180 0 46 (dk_at dksX4_keepsAct_1 4 rfl rfl)
theorem dX4_keepsAct_31 : decode cX4_keepsAct 31 = .ok (.iload_n 1, 1) := dk_27 (dk_at dksX4_keepsAct_1 7 rfl rfl)
theorem dX4_keepsAct_32 : decode cX4_keepsAct 32 = .ok (.iaload, 1) := dk_46 (dk_at dksX4_keepsAct_1 8 rfl rfl)
theorem dX4_keepsAct_33 : decode cX4_keepsAct 33 = .ok (.iastore, 1) := dk_79 (dk_at dksX4_keepsAct_1 9 rfl rfl)
theorem dX4_keepsAct_34 : decode cX4_keepsAct 34 = .ok (.iinc 1 1, 3) := dk_132 1 1 (dk_at dksX4_keepsAct_1 10 rfl rfl)
theorem dX4_keepsAct_37 : decode cX4_keepsAct 37 = .ok (.goto (-25), 3) := dk_167 255 231 (dk_at dksX4_keepsAct_1 13 rfl rfl)
theorem dX4_keepsAct_40 : decode cX4_keepsAct 40 = .ok (.aload_n 0, 1) := dk_42 (dk_at dksX4_keepsAct_1 16 rfl rfl)
theorem dX4_keepsAct_41 : decode cX4_keepsAct 41 = .ok (.dup, 1) := dk_89 (dk_at dksX4_keepsAct_1 17 rfl rfl)
theorem dX4_keepsAct_42 : decode cX4_keepsAct 42 = .ok (.getfield 271, 3) := dk_180 1 15 (dk_at dksX4_keepsAct_1 18 rfl rfl)
theorem dX4_keepsAct_45 : decode cX4_keepsAct 45 = .ok (.iconst 1, 1) := dk_4 (dk_at dksX4_keepsAct_1 21 rfl rfl)
theorem dX4_keepsAct_46 : decode cX4_keepsAct 46 = .ok (.isub, 1) := dk_100 (dk_at dksX4_keepsAct_1 22 rfl rfl)
theorem dX4_keepsAct_47 : decode cX4_keepsAct 47 = .ok (.putfield 271, 3) := dk_181 1 15 (dk_at dksX4_keepsAct_2 0 rfl rfl)
theorem dX4_keepsAct_50 : decode cX4_keepsAct 50 = .ok (.iconst 0, 1) := dk_3 (dk_at dksX4_keepsAct_2 3 rfl rfl)
theorem dX4_keepsAct_51 : decode cX4_keepsAct 51 = .ok (.istore_n 1, 1) := dk_60 (dk_at dksX4_keepsAct_2 4 rfl rfl)
theorem dX4_keepsAct_52 : decode cX4_keepsAct 52 = .ok (.iload_n 1, 1) := dk_27 (dk_at dksX4_keepsAct_2 5 rfl rfl)
theorem dX4_keepsAct_53 : decode cX4_keepsAct 53 = .ok (.bipush 41, 2) := dk_16 41 (dk_at dksX4_keepsAct_2 6 rfl rfl)
theorem dX4_keepsAct_55 : decode cX4_keepsAct 55 = .ok (.if_icmp .ge 32, 3) := dk_162 0 32 (dk_at dksX4_keepsAct_2 8 rfl rfl)
theorem dX4_keepsAct_58 : decode cX4_keepsAct 58 = .ok (.aload_n 0, 1) := dk_42 (dk_at dksX4_keepsAct_2 11 rfl rfl)
theorem dX4_keepsAct_59 : decode cX4_keepsAct 59 = .ok (.getfield 46, 3) := dk_180 0 46 (dk_at dksX4_keepsAct_2 12 rfl rfl)
theorem dX4_keepsAct_62 : decode cX4_keepsAct 62 = .ok (.bipush 41, 2) := dk_16 41 (dk_at dksX4_keepsAct_2 15 rfl rfl)
theorem dX4_keepsAct_64 : decode cX4_keepsAct 64 = .ok (.aload_n 0, 1) := dk_42 (dk_at dksX4_keepsAct_2 17 rfl rfl)
theorem dX4_keepsAct_65 : decode cX4_keepsAct 65 = .ok (.getfield 271, 3) := dk_180 1 15 (dk_at dksX4_keepsAct_2 18 rfl rfl)
theorem dX4_keepsAct_68 : decode cX4_keepsAct 68 = .ok (.imul, 1) := dk_104 (dk_at dksX4_keepsAct_2 21 rfl rfl)
theorem dX4_keepsAct_69 : decode cX4_keepsAct 69 = .ok (.iload_n 1, 1) := dk_27 (dk_at dksX4_keepsAct_2 22 rfl rfl)
theorem dX4_keepsAct_70 : decode cX4_keepsAct 70 = .ok (.iadd, 1) := dk_96 (dk_at dksX4_keepsAct_2 23 rfl rfl)
theorem dX4_keepsAct_71 : decode cX4_keepsAct 71 = .ok (.aload_n 0, 1) := dk_42 (dk_at dksX4_keepsAct_3 0 rfl rfl)
theorem dX4_keepsAct_72 : decode cX4_keepsAct 72 = .ok (.getfield 39, 3) := dk_180 0 39 (dk_at dksX4_keepsAct_3 1 rfl rfl)
theorem dX4_keepsAct_75 : decode cX4_keepsAct 75 = .ok (.bipush 10, 2) := dk_16 10 (dk_at dksX4_keepsAct_3 4 rfl rfl)
theorem dX4_keepsAct_77 : decode cX4_keepsAct 77 = .ok (.iload_n 1, 1) := dk_27 (dk_at dksX4_keepsAct_3 6 rfl rfl)
theorem dX4_keepsAct_78 : decode cX4_keepsAct 78 = .ok (.iadd, 1) := dk_96 (dk_at dksX4_keepsAct_3 7 rfl rfl)
theorem dX4_keepsAct_79 : decode cX4_keepsAct 79 = .ok (.iaload, 1) := dk_46 (dk_at dksX4_keepsAct_3 8 rfl rfl)
theorem dX4_keepsAct_80 : decode cX4_keepsAct 80 = .ok (.iastore, 1) := dk_79 (dk_at dksX4_keepsAct_3 9 rfl rfl)
theorem dX4_keepsAct_81 : decode cX4_keepsAct 81 = .ok (.iinc 1 1, 3) := dk_132 1 1 (dk_at dksX4_keepsAct_3 10 rfl rfl)
theorem dX4_keepsAct_84 : decode cX4_keepsAct 84 = .ok (.goto (-32), 3) := dk_167 255 224 (dk_at dksX4_keepsAct_3 13 rfl rfl)
theorem dX4_keepsAct_87 : decode cX4_keepsAct 87 = .ok (.aload_n 0, 1) := dk_42 (dk_at dksX4_keepsAct_3 16 rfl rfl)
theorem dX4_keepsAct_88 : decode cX4_keepsAct 88 = .ok (.dup, 1) := dk_89 (dk_at dksX4_keepsAct_3 17 rfl rfl)
theorem dX4_keepsAct_89 : decode cX4_keepsAct 89 = .ok (.getfield 271, 3) := dk_180 1 15 (dk_at dksX4_keepsAct_3 18 rfl rfl)
theorem dX4_keepsAct_92 : decode cX4_keepsAct 92 = .ok (.iconst 1, 1) := dk_4 (dk_at dksX4_keepsAct_3 21 rfl rfl)
theorem dX4_keepsAct_93 : decode cX4_keepsAct 93 = .ok (.iadd, 1) := dk_96 (dk_at dksX4_keepsAct_3 22 rfl rfl)
theorem dX4_keepsAct_94 : decode cX4_keepsAct 94 = .ok (.putfield 271, 3) := dk_181 1 15 (dk_at dksX4_keepsAct_4 0 rfl rfl)
theorem dX4_keepsAct_97 : decode cX4_keepsAct 97 = .ok (.return_, 1) := dk_177 (dk_at dksX4_keepsAct_4 3 rfl rfl)
abbrev cX4_passes : ByteArray := prog_19_method_64_code
def yX4_passes : MethodName := ⟨RX4, "passes", "()I"⟩
def dkwX4_passes_4 : List UInt8 := [4, 100, 182, 1, 43, 132, 2, 1, 167, 255, 196, 42, 180, 0, 39, 16, 10, 92, 46, 4, 96, 79, 27, 172]
abbrev dktX4_passes_4 : List UInt8 := dkwX4_passes_4 ++ []
def dkwX4_passes_3 : List UInt8 := [180, 1, 87, 159, 0, 26, 42, 28, 5, 182, 1, 36, 158, 0, 17, 42, 28, 5, 42, 28, 5, 182, 1, 36]
abbrev dktX4_passes_3 : List UInt8 := dkwX4_passes_3 ++ dktX4_passes_4
def dkwX4_passes_2 : List UInt8 := [46, 162, 0, 56, 42, 28, 182, 1, 40, 153, 0, 42, 28, 42, 180, 1, 84, 159, 0, 34, 28, 42]
abbrev dktX4_passes_2 : List UInt8 := dkwX4_passes_2 ++ dktX4_passes_3
def dkwX4_passes_1 : List UInt8 := [155, 0, 16, 42, 42, 180, 1, 84, 42, 180, 1, 87, 182, 1, 100, 60, 3, 61, 28, 42, 180, 0, 39, 5]
abbrev dktX4_passes_1 : List UInt8 := dkwX4_passes_1 ++ dktX4_passes_2
def dkwX4_passes_0 : List UInt8 := [2, 60, 42, 180, 0, 42, 156, 0, 10, 42, 182, 1, 94, 167, 0, 7, 42, 182, 1, 97, 42, 180, 1, 84]
abbrev dktX4_passes_0 : List UInt8 := dkwX4_passes_0 ++ dktX4_passes_1
theorem dksX4_passes_0 : cX4_passes.data.toList.drop 0 = dktX4_passes_0 := by decide +kernel
theorem dksX4_passes_1 : cX4_passes.data.toList.drop 24 = dktX4_passes_1 := dk_seg dksX4_passes_0 24 rfl rfl
theorem dksX4_passes_2 : cX4_passes.data.toList.drop 48 = dktX4_passes_2 := dk_seg dksX4_passes_1 24 rfl rfl
theorem dksX4_passes_3 : cX4_passes.data.toList.drop 70 = dktX4_passes_3 := dk_seg dksX4_passes_2 22 rfl rfl
theorem dksX4_passes_4 : cX4_passes.data.toList.drop 94 = dktX4_passes_4 := dk_seg dksX4_passes_3 24 rfl rfl
theorem dX4_passes_0 : decode cX4_passes 0 = .ok (.iconst (-1), 1) := dk_2 (dk_at dksX4_passes_0 0 rfl rfl)
theorem dX4_passes_1 : decode cX4_passes 1 = .ok (.istore_n 1, 1) := dk_60 (dk_at dksX4_passes_0 1 rfl rfl)
theorem dX4_passes_2 : decode cX4_passes 2 = .ok (.aload_n 0, 1) := dk_42 (dk_at dksX4_passes_0 2 rfl rfl)
theorem dX4_passes_3 : decode cX4_passes 3 = .ok (.getfield 42, 3) := dk_180 0 42 (dk_at dksX4_passes_0 3 rfl rfl)
theorem dX4_passes_6 : decode cX4_passes 6 = .ok (.ifCond .ge 10, 3) := dk_156 0 10 (dk_at dksX4_passes_0 6 rfl rfl)
theorem dX4_passes_9 : decode cX4_passes 9 = .ok (.aload_n 0, 1) := dk_42 (dk_at dksX4_passes_0 9 rfl rfl)
theorem dX4_passes_10 : decode cX4_passes 10 = .ok (.invokevirtual 350, 3) := dk_182 1 94 (dk_at dksX4_passes_0 10 rfl rfl)
theorem dX4_passes_13 : decode cX4_passes 13 = .ok (.goto 7, 3) := dk_167 0 7 (dk_at dksX4_passes_0 13 rfl rfl)
theorem dX4_passes_16 : decode cX4_passes 16 = .ok (.aload_n 0, 1) := dk_42 (dk_at dksX4_passes_0 16 rfl rfl)
theorem dX4_passes_17 : decode cX4_passes 17 = .ok (.invokevirtual 353, 3) := dk_182 1 97 (dk_at dksX4_passes_0 17 rfl rfl)
theorem dX4_passes_20 : decode cX4_passes 20 = .ok (.aload_n 0, 1) := dk_42 (dk_at dksX4_passes_0 20 rfl rfl)
theorem dX4_passes_21 : decode cX4_passes 21 = .ok (.getfield 340, 3) := dk_180 1 84 (dk_at dksX4_passes_0 21 rfl rfl)
theorem dX4_passes_24 : decode cX4_passes 24 = .ok (.ifCond .lt 16, 3) := dk_155 0 16 (dk_at dksX4_passes_1 0 rfl rfl)
theorem dX4_passes_27 : decode cX4_passes 27 = .ok (.aload_n 0, 1) := dk_42 (dk_at dksX4_passes_1 3 rfl rfl)
theorem dX4_passes_28 : decode cX4_passes 28 = .ok (.aload_n 0, 1) := dk_42 (dk_at dksX4_passes_1 4 rfl rfl)
theorem dX4_passes_29 : decode cX4_passes 29 = .ok (.getfield 340, 3) := dk_180 1 84 (dk_at dksX4_passes_1 5 rfl rfl)
theorem dX4_passes_32 : decode cX4_passes 32 = .ok (.aload_n 0, 1) := dk_42 (dk_at dksX4_passes_1 8 rfl rfl)
theorem dX4_passes_33 : decode cX4_passes 33 = .ok (.getfield 343, 3) := dk_180 1 87 (dk_at dksX4_passes_1 9 rfl rfl)
theorem dX4_passes_36 : decode cX4_passes 36 = .ok (.invokevirtual 356, 3) := dk_182 1 100 (dk_at dksX4_passes_1 12 rfl rfl)
theorem dX4_passes_39 : decode cX4_passes 39 = .ok (.istore_n 1, 1) := dk_60 (dk_at dksX4_passes_1 15 rfl rfl)
theorem dX4_passes_40 : decode cX4_passes 40 = .ok (.iconst 0, 1) := dk_3 (dk_at dksX4_passes_1 16 rfl rfl)
theorem dX4_passes_41 : decode cX4_passes 41 = .ok (.istore_n 2, 1) := dk_61 (dk_at dksX4_passes_1 17 rfl rfl)
theorem dX4_passes_42 : decode cX4_passes 42 = .ok (.iload_n 2, 1) := dk_28 (dk_at dksX4_passes_1 18 rfl rfl)
theorem dX4_passes_43 : decode cX4_passes 43 = .ok (.aload_n 0, 1) := dk_42 (dk_at dksX4_passes_1 19 rfl rfl)
theorem dX4_passes_44 : decode cX4_passes 44 = .ok (.getfield 39, 3) := dk_180 0 39 (dk_at dksX4_passes_1 20 rfl rfl)
theorem dX4_passes_47 : decode cX4_passes 47 = .ok (.iconst 2, 1) := dk_5 (dk_at dksX4_passes_1 23 rfl rfl)
theorem dX4_passes_48 : decode cX4_passes 48 = .ok (.iaload, 1) := dk_46 (dk_at dksX4_passes_2 0 rfl rfl)
theorem dX4_passes_49 : decode cX4_passes 49 = .ok (.if_icmp .ge 56, 3) := dk_162 0 56 (dk_at dksX4_passes_2 1 rfl rfl)
theorem dX4_passes_52 : decode cX4_passes 52 = .ok (.aload_n 0, 1) := dk_42 (dk_at dksX4_passes_2 4 rfl rfl)
theorem dX4_passes_53 : decode cX4_passes 53 = .ok (.iload_n 2, 1) := dk_28 (dk_at dksX4_passes_2 5 rfl rfl)
theorem dX4_passes_54 : decode cX4_passes 54 = .ok (.invokevirtual 296, 3) := dk_182 1 40 (dk_at dksX4_passes_2 6 rfl rfl)
theorem dX4_passes_57 : decode cX4_passes 57 = .ok (.ifCond .eq 42, 3) := dk_153 0 42 (dk_at dksX4_passes_2 9 rfl rfl)
theorem dX4_passes_60 : decode cX4_passes 60 = .ok (.iload_n 2, 1) := dk_28 (dk_at dksX4_passes_2 12 rfl rfl)
theorem dX4_passes_61 : decode cX4_passes 61 = .ok (.aload_n 0, 1) := dk_42 (dk_at dksX4_passes_2 13 rfl rfl)
theorem dX4_passes_62 : decode cX4_passes 62 = .ok (.getfield 340, 3) := dk_180 1 84 (dk_at dksX4_passes_2 14 rfl rfl)
theorem dX4_passes_65 : decode cX4_passes 65 = .ok (.if_icmp .eq 34, 3) := dk_159 0 34 (dk_at dksX4_passes_2 17 rfl rfl)
theorem dX4_passes_68 : decode cX4_passes 68 = .ok (.iload_n 2, 1) := dk_28 (dk_at dksX4_passes_2 20 rfl rfl)
theorem dX4_passes_69 : decode cX4_passes 69 = .ok (.aload_n 0, 1) := dk_42 (dk_at dksX4_passes_2 21 rfl rfl)
theorem dX4_passes_70 : decode cX4_passes 70 = .ok (.getfield 343, 3) := dk_180 1 87 (dk_at dksX4_passes_3 0 rfl rfl)
theorem dX4_passes_73 : decode cX4_passes 73 = .ok (.if_icmp .eq 26, 3) := dk_159 0 26 (dk_at dksX4_passes_3 3 rfl rfl)
theorem dX4_passes_76 : decode cX4_passes 76 = .ok (.aload_n 0, 1) := dk_42 (dk_at dksX4_passes_3 6 rfl rfl)
theorem dX4_passes_77 : decode cX4_passes 77 = .ok (.iload_n 2, 1) := dk_28 (dk_at dksX4_passes_3 7 rfl rfl)
theorem dX4_passes_78 : decode cX4_passes 78 = .ok (.iconst 2, 1) := dk_5 (dk_at dksX4_passes_3 8 rfl rfl)
theorem dX4_passes_79 : decode cX4_passes 79 = .ok (.invokevirtual 292, 3) := dk_182 1 36 (dk_at dksX4_passes_3 9 rfl rfl)
theorem dX4_passes_82 : decode cX4_passes 82 = .ok (.ifCond .le 17, 3) := dk_158 0 17 (dk_at dksX4_passes_3 12 rfl rfl)
theorem dX4_passes_85 : decode cX4_passes 85 = .ok (.aload_n 0, 1) := dk_42 (dk_at dksX4_passes_3 15 rfl rfl)
theorem dX4_passes_86 : decode cX4_passes 86 = .ok (.iload_n 2, 1) := dk_28 (dk_at dksX4_passes_3 16 rfl rfl)
theorem dX4_passes_87 : decode cX4_passes 87 = .ok (.iconst 2, 1) := dk_5 (dk_at dksX4_passes_3 17 rfl rfl)
theorem dX4_passes_88 : decode cX4_passes 88 = .ok (.aload_n 0, 1) := dk_42 (dk_at dksX4_passes_3 18 rfl rfl)
theorem dX4_passes_89 : decode cX4_passes 89 = .ok (.iload_n 2, 1) := dk_28 (dk_at dksX4_passes_3 19 rfl rfl)
theorem dX4_passes_90 : decode cX4_passes 90 = .ok (.iconst 2, 1) := dk_5 (dk_at dksX4_passes_3 20 rfl rfl)
theorem dX4_passes_91 : decode cX4_passes 91 = .ok (.invokevirtual 292, 3) := dk_182 1 36 (dk_at dksX4_passes_3 21 rfl rfl)
theorem dX4_passes_94 : decode cX4_passes 94 = .ok (.iconst 1, 1) := dk_4 (dk_at dksX4_passes_4 0 rfl rfl)
theorem dX4_passes_95 : decode cX4_passes 95 = .ok (.isub, 1) := dk_100 (dk_at dksX4_passes_4 1 rfl rfl)
theorem dX4_passes_96 : decode cX4_passes 96 = .ok (.invokevirtual 299, 3) := dk_182 1 43 (dk_at dksX4_passes_4 2 rfl rfl)
theorem dX4_passes_99 : decode cX4_passes 99 = .ok (.iinc 2 1, 3) := dk_132 2 1 (dk_at dksX4_passes_4 5 rfl rfl)
theorem dX4_passes_102 : decode cX4_passes 102 = .ok (.goto (-60), 3) := dk_167 255 196 (dk_at dksX4_passes_4 8 rfl rfl)
theorem dX4_passes_105 : decode cX4_passes 105 = .ok (.aload_n 0, 1) := dk_42 (dk_at dksX4_passes_4 11 rfl rfl)
theorem dX4_passes_106 : decode cX4_passes 106 = .ok (.getfield 39, 3) := dk_180 0 39 (dk_at dksX4_passes_4 12 rfl rfl)
theorem dX4_passes_109 : decode cX4_passes 109 = .ok (.bipush 10, 2) := dk_16 10 (dk_at dksX4_passes_4 15 rfl rfl)
theorem dX4_passes_111 : decode cX4_passes 111 = .ok (.dup2, 1) := dk_92 (dk_at dksX4_passes_4 17 rfl rfl)
theorem dX4_passes_112 : decode cX4_passes 112 = .ok (.iaload, 1) := dk_46 (dk_at dksX4_passes_4 18 rfl rfl)
theorem dX4_passes_113 : decode cX4_passes 113 = .ok (.iconst 1, 1) := dk_4 (dk_at dksX4_passes_4 19 rfl rfl)
theorem dX4_passes_114 : decode cX4_passes 114 = .ok (.iadd, 1) := dk_96 (dk_at dksX4_passes_4 20 rfl rfl)
theorem dX4_passes_115 : decode cX4_passes 115 = .ok (.iastore, 1) := dk_79 (dk_at dksX4_passes_4 21 rfl rfl)
theorem dX4_passes_116 : decode cX4_passes 116 = .ok (.iload_n 1, 1) := dk_27 (dk_at dksX4_passes_4 22 rfl rfl)
theorem dX4_passes_117 : decode cX4_passes 117 = .ok (.ireturn, 1) := dk_172 (dk_at dksX4_passes_4 23 rfl rfl)
abbrev cX4_choosesPlain : ByteArray := prog_19_method_62_code
def yX4_choosesPlain : MethodName := ⟨RX4, "choosesPlain", "()V"⟩
def dkwX4_choosesPlain_1 : List UInt8 := [180, 1, 84, 4, 96, 182, 1, 81, 181, 1, 87, 42, 180, 1, 87, 156, 0, 8, 42, 2, 181, 1, 84, 177]
abbrev dktX4_choosesPlain_1 : List UInt8 := dkwX4_choosesPlain_1 ++ []
def dkwX4_choosesPlain_0 : List UInt8 := [42, 42, 3, 182, 1, 81, 181, 1, 84, 42, 42, 180, 1, 84, 156, 0, 7, 2, 167, 0, 13, 42, 42]
abbrev dktX4_choosesPlain_0 : List UInt8 := dkwX4_choosesPlain_0 ++ dktX4_choosesPlain_1
theorem dksX4_choosesPlain_0 : cX4_choosesPlain.data.toList.drop 0 = dktX4_choosesPlain_0 := by decide +kernel
theorem dksX4_choosesPlain_1 : cX4_choosesPlain.data.toList.drop 23 = dktX4_choosesPlain_1 := dk_seg dksX4_choosesPlain_0 23 rfl rfl
theorem dX4_choosesPlain_0 : decode cX4_choosesPlain 0 = .ok (.aload_n 0, 1) := dk_42 (dk_at dksX4_choosesPlain_0 0 rfl rfl)
theorem dX4_choosesPlain_1 : decode cX4_choosesPlain 1 = .ok (.aload_n 0, 1) := dk_42 (dk_at dksX4_choosesPlain_0 1 rfl rfl)
theorem dX4_choosesPlain_2 : decode cX4_choosesPlain 2 = .ok (.iconst 0, 1) := dk_3 (dk_at dksX4_choosesPlain_0 2 rfl rfl)
theorem dX4_choosesPlain_3 : decode cX4_choosesPlain 3 = .ok (.invokevirtual 337, 3) := dk_182 1 81 (dk_at dksX4_choosesPlain_0 3 rfl rfl)
theorem dX4_choosesPlain_6 : decode cX4_choosesPlain 6 = .ok (.putfield 340, 3) := dk_181 1 84 (dk_at dksX4_choosesPlain_0 6 rfl rfl)
theorem dX4_choosesPlain_9 : decode cX4_choosesPlain 9 = .ok (.aload_n 0, 1) := dk_42 (dk_at dksX4_choosesPlain_0 9 rfl rfl)
theorem dX4_choosesPlain_10 : decode cX4_choosesPlain 10 = .ok (.aload_n 0, 1) := dk_42 (dk_at dksX4_choosesPlain_0 10 rfl rfl)
theorem dX4_choosesPlain_11 : decode cX4_choosesPlain 11 = .ok (.getfield 340, 3) := dk_180 1 84 (dk_at dksX4_choosesPlain_0 11 rfl rfl)
theorem dX4_choosesPlain_14 : decode cX4_choosesPlain 14 = .ok (.ifCond .ge 7, 3) := dk_156 0 7 (dk_at dksX4_choosesPlain_0 14 rfl rfl)
theorem dX4_choosesPlain_17 : decode cX4_choosesPlain 17 = .ok (.iconst (-1), 1) := dk_2 (dk_at dksX4_choosesPlain_0 17 rfl rfl)
theorem dX4_choosesPlain_18 : decode cX4_choosesPlain 18 = .ok (.goto 13, 3) := dk_167 0 13 (dk_at dksX4_choosesPlain_0 18 rfl rfl)
theorem dX4_choosesPlain_21 : decode cX4_choosesPlain 21 = .ok (.aload_n 0, 1) := dk_42 (dk_at dksX4_choosesPlain_0 21 rfl rfl)
theorem dX4_choosesPlain_22 : decode cX4_choosesPlain 22 = .ok (.aload_n 0, 1) := dk_42 (dk_at dksX4_choosesPlain_0 22 rfl rfl)
theorem dX4_choosesPlain_23 : decode cX4_choosesPlain 23 = .ok (.getfield 340, 3) := dk_180 1 84 (dk_at dksX4_choosesPlain_1 0 rfl rfl)
theorem dX4_choosesPlain_26 : decode cX4_choosesPlain 26 = .ok (.iconst 1, 1) := dk_4 (dk_at dksX4_choosesPlain_1 3 rfl rfl)
theorem dX4_choosesPlain_27 : decode cX4_choosesPlain 27 = .ok (.iadd, 1) := dk_96 (dk_at dksX4_choosesPlain_1 4 rfl rfl)
theorem dX4_choosesPlain_28 : decode cX4_choosesPlain 28 = .ok (.invokevirtual 337, 3) := dk_182 1 81 (dk_at dksX4_choosesPlain_1 5 rfl rfl)
theorem dX4_choosesPlain_31 : decode cX4_choosesPlain 31 = .ok (.putfield 343, 3) := dk_181 1 87 (dk_at dksX4_choosesPlain_1 8 rfl rfl)
theorem dX4_choosesPlain_34 : decode cX4_choosesPlain 34 = .ok (.aload_n 0, 1) := dk_42 (dk_at dksX4_choosesPlain_1 11 rfl rfl)
theorem dX4_choosesPlain_35 : decode cX4_choosesPlain 35 = .ok (.getfield 343, 3) := dk_180 1 87 (dk_at dksX4_choosesPlain_1 12 rfl rfl)
theorem dX4_choosesPlain_38 : decode cX4_choosesPlain 38 = .ok (.ifCond .ge 8, 3) := dk_156 0 8 (dk_at dksX4_choosesPlain_1 15 rfl rfl)
theorem dX4_choosesPlain_41 : decode cX4_choosesPlain 41 = .ok (.aload_n 0, 1) := dk_42 (dk_at dksX4_choosesPlain_1 18 rfl rfl)
theorem dX4_choosesPlain_42 : decode cX4_choosesPlain 42 = .ok (.iconst (-1), 1) := dk_2 (dk_at dksX4_choosesPlain_1 19 rfl rfl)
theorem dX4_choosesPlain_43 : decode cX4_choosesPlain 43 = .ok (.putfield 340, 3) := dk_181 1 84 (dk_at dksX4_choosesPlain_1 20 rfl rfl)
theorem dX4_choosesPlain_46 : decode cX4_choosesPlain 46 = .ok (.return_, 1) := dk_177 (dk_at dksX4_choosesPlain_1 23 rfl rfl)
abbrev cX4_nextWhole : ByteArray := prog_19_method_61_code
def yX4_nextWhole : MethodName := ⟨RX4, "nextWhole", "(I)I"⟩
def dkwX4_nextWhole_1 : List UInt8 := [132, 2, 1, 167, 255, 233, 2, 172]
abbrev dktX4_nextWhole_1 : List UInt8 := dkwX4_nextWhole_1 ++ []
def dkwX4_nextWhole_0 : List UInt8 := [27, 61, 28, 42, 180, 0, 39, 5, 46, 162, 0, 19, 42, 28, 182, 1, 40, 153, 0, 5, 28, 172]
abbrev dktX4_nextWhole_0 : List UInt8 := dkwX4_nextWhole_0 ++ dktX4_nextWhole_1
theorem dksX4_nextWhole_0 : cX4_nextWhole.data.toList.drop 0 = dktX4_nextWhole_0 := by decide +kernel
theorem dksX4_nextWhole_1 : cX4_nextWhole.data.toList.drop 22 = dktX4_nextWhole_1 := dk_seg dksX4_nextWhole_0 22 rfl rfl
theorem dX4_nextWhole_0 : decode cX4_nextWhole 0 = .ok (.iload_n 1, 1) := dk_27 (dk_at dksX4_nextWhole_0 0 rfl rfl)
theorem dX4_nextWhole_1 : decode cX4_nextWhole 1 = .ok (.istore_n 2, 1) := dk_61 (dk_at dksX4_nextWhole_0 1 rfl rfl)
theorem dX4_nextWhole_2 : decode cX4_nextWhole 2 = .ok (.iload_n 2, 1) := dk_28 (dk_at dksX4_nextWhole_0 2 rfl rfl)
theorem dX4_nextWhole_3 : decode cX4_nextWhole 3 = .ok (.aload_n 0, 1) := dk_42 (dk_at dksX4_nextWhole_0 3 rfl rfl)
theorem dX4_nextWhole_4 : decode cX4_nextWhole 4 = .ok (.getfield 39, 3) := dk_180 0 39 (dk_at dksX4_nextWhole_0 4 rfl rfl)
theorem dX4_nextWhole_7 : decode cX4_nextWhole 7 = .ok (.iconst 2, 1) := dk_5 (dk_at dksX4_nextWhole_0 7 rfl rfl)
theorem dX4_nextWhole_8 : decode cX4_nextWhole 8 = .ok (.iaload, 1) := dk_46 (dk_at dksX4_nextWhole_0 8 rfl rfl)
theorem dX4_nextWhole_9 : decode cX4_nextWhole 9 = .ok (.if_icmp .ge 19, 3) := dk_162 0 19 (dk_at dksX4_nextWhole_0 9 rfl rfl)
theorem dX4_nextWhole_12 : decode cX4_nextWhole 12 = .ok (.aload_n 0, 1) := dk_42 (dk_at dksX4_nextWhole_0 12 rfl rfl)
theorem dX4_nextWhole_13 : decode cX4_nextWhole 13 = .ok (.iload_n 2, 1) := dk_28 (dk_at dksX4_nextWhole_0 13 rfl rfl)
theorem dX4_nextWhole_14 : decode cX4_nextWhole 14 = .ok (.invokevirtual 296, 3) := dk_182 1 40 (dk_at dksX4_nextWhole_0 14 rfl rfl)
theorem dX4_nextWhole_17 : decode cX4_nextWhole 17 = .ok (.ifCond .eq 5, 3) := dk_153 0 5 (dk_at dksX4_nextWhole_0 17 rfl rfl)
theorem dX4_nextWhole_20 : decode cX4_nextWhole 20 = .ok (.iload_n 2, 1) := dk_28 (dk_at dksX4_nextWhole_0 20 rfl rfl)
theorem dX4_nextWhole_21 : decode cX4_nextWhole 21 = .ok (.ireturn, 1) := dk_172 (dk_at dksX4_nextWhole_0 21 rfl rfl)
theorem dX4_nextWhole_22 : decode cX4_nextWhole 22 = .ok (.iinc 2 1, 3) := dk_132 2 1 (dk_at dksX4_nextWhole_1 0 rfl rfl)
theorem dX4_nextWhole_25 : decode cX4_nextWhole 25 = .ok (.goto (-23), 3) := dk_167 255 233 (dk_at dksX4_nextWhole_1 3 rfl rfl)
theorem dX4_nextWhole_28 : decode cX4_nextWhole 28 = .ok (.iconst (-1), 1) := dk_2 (dk_at dksX4_nextWhole_1 6 rfl rfl)
theorem dX4_nextWhole_29 : decode cX4_nextWhole 29 = .ok (.ireturn, 1) := dk_172 (dk_at dksX4_nextWhole_1 7 rfl rfl)
abbrev cX4_isWhole : ByteArray := prog_19_method_50_code
def yX4_isWhole : MethodName := ⟨RX4, "isWhole", "(I)Z"⟩
def dkwX4_isWhole_0 : List UInt8 := [42, 27, 182, 1, 33, 153, 0, 17, 42, 27, 7, 182, 1, 36, 4, 160, 0, 7, 4, 167, 0, 4, 3, 172]
abbrev dktX4_isWhole_0 : List UInt8 := dkwX4_isWhole_0 ++ []
theorem dksX4_isWhole_0 : cX4_isWhole.data.toList.drop 0 = dktX4_isWhole_0 := by decide +kernel
theorem dX4_isWhole_0 : decode cX4_isWhole 0 = .ok (.aload_n 0, 1) := dk_42 (dk_at dksX4_isWhole_0 0 rfl rfl)
theorem dX4_isWhole_1 : decode cX4_isWhole 1 = .ok (.iload_n 1, 1) := dk_27 (dk_at dksX4_isWhole_0 1 rfl rfl)
theorem dX4_isWhole_2 : decode cX4_isWhole 2 = .ok (.invokevirtual 289, 3) := dk_182 1 33 (dk_at dksX4_isWhole_0 2 rfl rfl)
theorem dX4_isWhole_5 : decode cX4_isWhole 5 = .ok (.ifCond .eq 17, 3) := dk_153 0 17 (dk_at dksX4_isWhole_0 5 rfl rfl)
theorem dX4_isWhole_8 : decode cX4_isWhole 8 = .ok (.aload_n 0, 1) := dk_42 (dk_at dksX4_isWhole_0 8 rfl rfl)
theorem dX4_isWhole_9 : decode cX4_isWhole 9 = .ok (.iload_n 1, 1) := dk_27 (dk_at dksX4_isWhole_0 9 rfl rfl)
theorem dX4_isWhole_10 : decode cX4_isWhole 10 = .ok (.iconst 4, 1) := dk_7 (dk_at dksX4_isWhole_0 10 rfl rfl)
theorem dX4_isWhole_11 : decode cX4_isWhole 11 = .ok (.invokevirtual 292, 3) := dk_182 1 36 (dk_at dksX4_isWhole_0 11 rfl rfl)
theorem dX4_isWhole_14 : decode cX4_isWhole 14 = .ok (.iconst 1, 1) := dk_4 (dk_at dksX4_isWhole_0 14 rfl rfl)
theorem dX4_isWhole_15 : decode cX4_isWhole 15 = .ok (.if_icmp .ne 7, 3) := dk_160 0 7 (dk_at dksX4_isWhole_0 15 rfl rfl)
theorem dX4_isWhole_18 : decode cX4_isWhole 18 = .ok (.iconst 1, 1) := dk_4 (dk_at dksX4_isWhole_0 18 rfl rfl)
theorem dX4_isWhole_19 : decode cX4_isWhole 19 = .ok (.goto 4, 3) := dk_167 0 4 (dk_at dksX4_isWhole_0 19 rfl rfl)
theorem dX4_isWhole_22 : decode cX4_isWhole 22 = .ok (.iconst 0, 1) := dk_3 (dk_at dksX4_isWhole_0 22 rfl rfl)
theorem dX4_isWhole_23 : decode cX4_isWhole 23 = .ok (.ireturn, 1) := dk_172 (dk_at dksX4_isWhole_0 23 rfl rfl)
abbrev cX4_chooses : ByteArray := prog_19_method_63_code
def yX4_chooses : MethodName := ⟨RX4, "chooses", "()V"⟩
def dkwX4_chooses_4 : List UInt8 := [181, 1, 87, 22, 5, 64, 132, 4, 1, 167, 255, 183, 132, 3, 1, 167, 255, 164, 177]
abbrev dktX4_chooses_4 : List UInt8 := dkwX4_chooses_4 ++ []
def dkwX4_chooses_3 : List UInt8 := [182, 1, 90, 55, 5, 22, 5, 31, 148, 157, 0, 6, 167, 0, 17, 42, 29, 181, 1, 84, 42, 21, 4]
abbrev dktX4_chooses_3 : List UInt8 := dkwX4_chooses_3 ++ dktX4_chooses_4
def dkwX4_chooses_2 : List UInt8 := [182, 1, 40, 153, 0, 48, 42, 21, 4, 182, 1, 40, 154, 0, 6, 167, 0, 36, 42, 29, 21, 4]
abbrev dktX4_chooses_2 : List UInt8 := dkwX4_chooses_2 ++ dktX4_chooses_3
def dkwX4_chooses_1 : List UInt8 := [3, 54, 4, 21, 4, 42, 180, 0, 39, 5, 46, 162, 0, 68, 29, 21, 4, 159, 0, 56, 42, 29]
abbrev dktX4_chooses_1 : List UInt8 := dkwX4_chooses_1 ++ dktX4_chooses_2
def dkwX4_chooses_0 : List UInt8 := [9, 64, 42, 2, 181, 1, 84, 42, 2, 181, 1, 87, 3, 62, 29, 42, 180, 0, 39, 5, 46, 162, 0, 88]
abbrev dktX4_chooses_0 : List UInt8 := dkwX4_chooses_0 ++ dktX4_chooses_1
theorem dksX4_chooses_0 : cX4_chooses.data.toList.drop 0 = dktX4_chooses_0 := by decide +kernel
theorem dksX4_chooses_1 : cX4_chooses.data.toList.drop 24 = dktX4_chooses_1 := dk_seg dksX4_chooses_0 24 rfl rfl
theorem dksX4_chooses_2 : cX4_chooses.data.toList.drop 46 = dktX4_chooses_2 := dk_seg dksX4_chooses_1 22 rfl rfl
theorem dksX4_chooses_3 : cX4_chooses.data.toList.drop 68 = dktX4_chooses_3 := dk_seg dksX4_chooses_2 22 rfl rfl
theorem dksX4_chooses_4 : cX4_chooses.data.toList.drop 91 = dktX4_chooses_4 := dk_seg dksX4_chooses_3 23 rfl rfl
theorem dX4_chooses_0 : decode cX4_chooses 0 = .ok (.lconst 0, 1) := dk_9 (dk_at dksX4_chooses_0 0 rfl rfl)
theorem dX4_chooses_1 : decode cX4_chooses 1 = .ok (.lstore_n 1, 1) := dk_64 (dk_at dksX4_chooses_0 1 rfl rfl)
theorem dX4_chooses_2 : decode cX4_chooses 2 = .ok (.aload_n 0, 1) := dk_42 (dk_at dksX4_chooses_0 2 rfl rfl)
theorem dX4_chooses_3 : decode cX4_chooses 3 = .ok (.iconst (-1), 1) := dk_2 (dk_at dksX4_chooses_0 3 rfl rfl)
theorem dX4_chooses_4 : decode cX4_chooses 4 = .ok (.putfield 340, 3) := dk_181 1 84 (dk_at dksX4_chooses_0 4 rfl rfl)
theorem dX4_chooses_7 : decode cX4_chooses 7 = .ok (.aload_n 0, 1) := dk_42 (dk_at dksX4_chooses_0 7 rfl rfl)
theorem dX4_chooses_8 : decode cX4_chooses 8 = .ok (.iconst (-1), 1) := dk_2 (dk_at dksX4_chooses_0 8 rfl rfl)
theorem dX4_chooses_9 : decode cX4_chooses 9 = .ok (.putfield 343, 3) := dk_181 1 87 (dk_at dksX4_chooses_0 9 rfl rfl)
theorem dX4_chooses_12 : decode cX4_chooses 12 = .ok (.iconst 0, 1) := dk_3 (dk_at dksX4_chooses_0 12 rfl rfl)
theorem dX4_chooses_13 : decode cX4_chooses 13 = .ok (.istore_n 3, 1) := dk_62 (dk_at dksX4_chooses_0 13 rfl rfl)
theorem dX4_chooses_14 : decode cX4_chooses 14 = .ok (.iload_n 3, 1) := dk_29 (dk_at dksX4_chooses_0 14 rfl rfl)
theorem dX4_chooses_15 : decode cX4_chooses 15 = .ok (.aload_n 0, 1) := dk_42 (dk_at dksX4_chooses_0 15 rfl rfl)
theorem dX4_chooses_16 : decode cX4_chooses 16 = .ok (.getfield 39, 3) := dk_180 0 39 (dk_at dksX4_chooses_0 16 rfl rfl)
theorem dX4_chooses_19 : decode cX4_chooses 19 = .ok (.iconst 2, 1) := dk_5 (dk_at dksX4_chooses_0 19 rfl rfl)
theorem dX4_chooses_20 : decode cX4_chooses 20 = .ok (.iaload, 1) := dk_46 (dk_at dksX4_chooses_0 20 rfl rfl)
theorem dX4_chooses_21 : decode cX4_chooses 21 = .ok (.if_icmp .ge 88, 3) := dk_162 0 88 (dk_at dksX4_chooses_0 21 rfl rfl)
theorem dX4_chooses_24 : decode cX4_chooses 24 = .ok (.iconst 0, 1) := dk_3 (dk_at dksX4_chooses_1 0 rfl rfl)
theorem dX4_chooses_25 : decode cX4_chooses 25 = .ok (.istore 4, 2) := dk_54 4 (dk_at dksX4_chooses_1 1 rfl rfl)
theorem dX4_chooses_27 : decode cX4_chooses 27 = .ok (.iload 4, 2) := dk_21 4 (dk_at dksX4_chooses_1 3 rfl rfl)
theorem dX4_chooses_29 : decode cX4_chooses 29 = .ok (.aload_n 0, 1) := dk_42 (dk_at dksX4_chooses_1 5 rfl rfl)
theorem dX4_chooses_30 : decode cX4_chooses 30 = .ok (.getfield 39, 3) := dk_180 0 39 (dk_at dksX4_chooses_1 6 rfl rfl)
theorem dX4_chooses_33 : decode cX4_chooses 33 = .ok (.iconst 2, 1) := dk_5 (dk_at dksX4_chooses_1 9 rfl rfl)
theorem dX4_chooses_34 : decode cX4_chooses 34 = .ok (.iaload, 1) := dk_46 (dk_at dksX4_chooses_1 10 rfl rfl)
theorem dX4_chooses_35 : decode cX4_chooses 35 = .ok (.if_icmp .ge 68, 3) := dk_162 0 68 (dk_at dksX4_chooses_1 11 rfl rfl)
theorem dX4_chooses_38 : decode cX4_chooses 38 = .ok (.iload_n 3, 1) := dk_29 (dk_at dksX4_chooses_1 14 rfl rfl)
theorem dX4_chooses_39 : decode cX4_chooses 39 = .ok (.iload 4, 2) := dk_21 4 (dk_at dksX4_chooses_1 15 rfl rfl)
theorem dX4_chooses_41 : decode cX4_chooses 41 = .ok (.if_icmp .eq 56, 3) := dk_159 0 56 (dk_at dksX4_chooses_1 17 rfl rfl)
theorem dX4_chooses_44 : decode cX4_chooses 44 = .ok (.aload_n 0, 1) := dk_42 (dk_at dksX4_chooses_1 20 rfl rfl)
theorem dX4_chooses_45 : decode cX4_chooses 45 = .ok (.iload_n 3, 1) := dk_29 (dk_at dksX4_chooses_1 21 rfl rfl)
theorem dX4_chooses_46 : decode cX4_chooses 46 = .ok (.invokevirtual 296, 3) := dk_182 1 40 (dk_at dksX4_chooses_2 0 rfl rfl)
theorem dX4_chooses_49 : decode cX4_chooses 49 = .ok (.ifCond .eq 48, 3) := dk_153 0 48 (dk_at dksX4_chooses_2 3 rfl rfl)
theorem dX4_chooses_52 : decode cX4_chooses 52 = .ok (.aload_n 0, 1) := dk_42 (dk_at dksX4_chooses_2 6 rfl rfl)
theorem dX4_chooses_53 : decode cX4_chooses 53 = .ok (.iload 4, 2) := dk_21 4 (dk_at dksX4_chooses_2 7 rfl rfl)
theorem dX4_chooses_55 : decode cX4_chooses 55 = .ok (.invokevirtual 296, 3) := dk_182 1 40 (dk_at dksX4_chooses_2 9 rfl rfl)
theorem dX4_chooses_58 : decode cX4_chooses 58 = .ok (.ifCond .ne 6, 3) := dk_154 0 6 (dk_at dksX4_chooses_2 12 rfl rfl)
theorem dX4_chooses_61 : decode cX4_chooses 61 = .ok (.goto 36, 3) := dk_167 0 36 (dk_at dksX4_chooses_2 15 rfl rfl)
theorem dX4_chooses_64 : decode cX4_chooses 64 = .ok (.aload_n 0, 1) := dk_42 (dk_at dksX4_chooses_2 18 rfl rfl)
theorem dX4_chooses_65 : decode cX4_chooses 65 = .ok (.iload_n 3, 1) := dk_29 (dk_at dksX4_chooses_2 19 rfl rfl)
theorem dX4_chooses_66 : decode cX4_chooses 66 = .ok (.iload 4, 2) := dk_21 4 (dk_at dksX4_chooses_2 20 rfl rfl)
theorem dX4_chooses_68 : decode cX4_chooses 68 = .ok (.invokevirtual 346, 3) := dk_182 1 90 (dk_at dksX4_chooses_3 0 rfl rfl)
theorem dX4_chooses_71 : decode cX4_chooses 71 = .ok (.lstore 5, 2) := dk_55 5 (dk_at dksX4_chooses_3 3 rfl rfl)
theorem dX4_chooses_73 : decode cX4_chooses 73 = .ok (.lload 5, 2) := dk_22 5 (dk_at dksX4_chooses_3 5 rfl rfl)
theorem dX4_chooses_75 : decode cX4_chooses 75 = .ok (.lload_n 1, 1) := dk_31 (dk_at dksX4_chooses_3 7 rfl rfl)
theorem dX4_chooses_76 : decode cX4_chooses 76 = .ok (.lcmp, 1) := dk_148 (dk_at dksX4_chooses_3 8 rfl rfl)
theorem dX4_chooses_77 : decode cX4_chooses 77 = .ok (.ifCond .gt 6, 3) := dk_157 0 6 (dk_at dksX4_chooses_3 9 rfl rfl)
theorem dX4_chooses_80 : decode cX4_chooses 80 = .ok (.goto 17, 3) := dk_167 0 17 (dk_at dksX4_chooses_3 12 rfl rfl)
theorem dX4_chooses_83 : decode cX4_chooses 83 = .ok (.aload_n 0, 1) := dk_42 (dk_at dksX4_chooses_3 15 rfl rfl)
theorem dX4_chooses_84 : decode cX4_chooses 84 = .ok (.iload_n 3, 1) := dk_29 (dk_at dksX4_chooses_3 16 rfl rfl)
theorem dX4_chooses_85 : decode cX4_chooses 85 = .ok (.putfield 340, 3) := dk_181 1 84 (dk_at dksX4_chooses_3 17 rfl rfl)
theorem dX4_chooses_88 : decode cX4_chooses 88 = .ok (.aload_n 0, 1) := dk_42 (dk_at dksX4_chooses_3 20 rfl rfl)
theorem dX4_chooses_89 : decode cX4_chooses 89 = .ok (.iload 4, 2) := dk_21 4 (dk_at dksX4_chooses_3 21 rfl rfl)
theorem dX4_chooses_91 : decode cX4_chooses 91 = .ok (.putfield 343, 3) := dk_181 1 87 (dk_at dksX4_chooses_4 0 rfl rfl)
theorem dX4_chooses_94 : decode cX4_chooses 94 = .ok (.lload 5, 2) := dk_22 5 (dk_at dksX4_chooses_4 3 rfl rfl)
theorem dX4_chooses_96 : decode cX4_chooses 96 = .ok (.lstore_n 1, 1) := dk_64 (dk_at dksX4_chooses_4 5 rfl rfl)
theorem dX4_chooses_97 : decode cX4_chooses 97 = .ok (.iinc 4 1, 3) := dk_132 4 1 (dk_at dksX4_chooses_4 6 rfl rfl)
theorem dX4_chooses_100 : decode cX4_chooses 100 = .ok (.goto (-73), 3) := dk_167 255 183 (dk_at dksX4_chooses_4 9 rfl rfl)
theorem dX4_chooses_103 : decode cX4_chooses 103 = .ok (.iinc 3 1, 3) := dk_132 3 1 (dk_at dksX4_chooses_4 12 rfl rfl)
theorem dX4_chooses_106 : decode cX4_chooses 106 = .ok (.goto (-92), 3) := dk_167 255 164 (dk_at dksX4_chooses_4 15 rfl rfl)
theorem dX4_chooses_109 : decode cX4_chooses 109 = .ok (.return_, 1) := dk_177 (dk_at dksX4_chooses_4 18 rfl rfl)
abbrev cX4_sumOf : ByteArray := prog_19_method_60_code
def yX4_sumOf : MethodName := ⟨RX4, "sumOf", "(II)J"⟩
def dkwX4_sumOf_4 : List UInt8 := [16, 12, 42, 180, 0, 39, 16, 10, 46, 133, 80, 42, 42, 180, 0, 42, 182, 1, 77, 173]
abbrev dktX4_sumOf_4 : List UInt8 := dkwX4_sumOf_4 ++ []
def dkwX4_sumOf_3 : List UInt8 := [184, 1, 74, 133, 80, 42, 180, 0, 36, 16, 11, 42, 180, 0, 39, 4, 46, 133, 80, 42, 180, 0, 36]
abbrev dktX4_sumOf_3 : List UInt8 := dkwX4_sumOf_3 ++ dktX4_sumOf_4
def dkwX4_sumOf_2 : List UInt8 := [29, 182, 1, 36, 133, 80, 132, 3, 1, 167, 255, 217, 42, 180, 0, 36, 16, 10, 42, 182, 1, 71]
abbrev dktX4_sumOf_2 : List UInt8 := dkwX4_sumOf_2 ++ dktX4_sumOf_3
def dkwX4_sumOf_1 : List UInt8 := [180, 0, 36, 5, 29, 96, 42, 27, 29, 182, 1, 36, 133, 80, 42, 180, 0, 36, 16, 6, 29, 96, 42, 28]
abbrev dktX4_sumOf_1 : List UInt8 := dkwX4_sumOf_1 ++ dktX4_sumOf_2
def dkwX4_sumOf_0 : List UInt8 := [42, 180, 0, 36, 3, 27, 133, 80, 42, 180, 0, 36, 4, 28, 133, 80, 3, 62, 29, 7, 162, 0, 40, 42]
abbrev dktX4_sumOf_0 : List UInt8 := dkwX4_sumOf_0 ++ dktX4_sumOf_1
theorem dksX4_sumOf_0 : cX4_sumOf.data.toList.drop 0 = dktX4_sumOf_0 := by decide +kernel
theorem dksX4_sumOf_1 : cX4_sumOf.data.toList.drop 24 = dktX4_sumOf_1 := dk_seg dksX4_sumOf_0 24 rfl rfl
theorem dksX4_sumOf_2 : cX4_sumOf.data.toList.drop 48 = dktX4_sumOf_2 := dk_seg dksX4_sumOf_1 24 rfl rfl
theorem dksX4_sumOf_3 : cX4_sumOf.data.toList.drop 70 = dktX4_sumOf_3 := dk_seg dksX4_sumOf_2 22 rfl rfl
theorem dksX4_sumOf_4 : cX4_sumOf.data.toList.drop 93 = dktX4_sumOf_4 := dk_seg dksX4_sumOf_3 23 rfl rfl
theorem dX4_sumOf_0 : decode cX4_sumOf 0 = .ok (.aload_n 0, 1) := dk_42 (dk_at dksX4_sumOf_0 0 rfl rfl)
theorem dX4_sumOf_1 : decode cX4_sumOf 1 = .ok (.getfield 36, 3) := dk_180 0 36 (dk_at dksX4_sumOf_0 1 rfl rfl)
theorem dX4_sumOf_4 : decode cX4_sumOf 4 = .ok (.iconst 0, 1) := dk_3 (dk_at dksX4_sumOf_0 4 rfl rfl)
theorem dX4_sumOf_5 : decode cX4_sumOf 5 = .ok (.iload_n 1, 1) := dk_27 (dk_at dksX4_sumOf_0 5 rfl rfl)
theorem dX4_sumOf_6 : decode cX4_sumOf 6 = .ok (.i2l, 1) := dk_133 (dk_at dksX4_sumOf_0 6 rfl rfl)
theorem dX4_sumOf_7 : decode cX4_sumOf 7 = .ok (.lastore, 1) := dk_80 (dk_at dksX4_sumOf_0 7 rfl rfl)
theorem dX4_sumOf_8 : decode cX4_sumOf 8 = .ok (.aload_n 0, 1) := dk_42 (dk_at dksX4_sumOf_0 8 rfl rfl)
theorem dX4_sumOf_9 : decode cX4_sumOf 9 = .ok (.getfield 36, 3) := dk_180 0 36 (dk_at dksX4_sumOf_0 9 rfl rfl)
theorem dX4_sumOf_12 : decode cX4_sumOf 12 = .ok (.iconst 1, 1) := dk_4 (dk_at dksX4_sumOf_0 12 rfl rfl)
theorem dX4_sumOf_13 : decode cX4_sumOf 13 = .ok (.iload_n 2, 1) := dk_28 (dk_at dksX4_sumOf_0 13 rfl rfl)
theorem dX4_sumOf_14 : decode cX4_sumOf 14 = .ok (.i2l, 1) := dk_133 (dk_at dksX4_sumOf_0 14 rfl rfl)
theorem dX4_sumOf_15 : decode cX4_sumOf 15 = .ok (.lastore, 1) := dk_80 (dk_at dksX4_sumOf_0 15 rfl rfl)
theorem dX4_sumOf_16 : decode cX4_sumOf 16 = .ok (.iconst 0, 1) := dk_3 (dk_at dksX4_sumOf_0 16 rfl rfl)
theorem dX4_sumOf_17 : decode cX4_sumOf 17 = .ok (.istore_n 3, 1) := dk_62 (dk_at dksX4_sumOf_0 17 rfl rfl)
theorem dX4_sumOf_18 : decode cX4_sumOf 18 = .ok (.iload_n 3, 1) := dk_29 (dk_at dksX4_sumOf_0 18 rfl rfl)
theorem dX4_sumOf_19 : decode cX4_sumOf 19 = .ok (.iconst 4, 1) := dk_7 (dk_at dksX4_sumOf_0 19 rfl rfl)
theorem dX4_sumOf_20 : decode cX4_sumOf 20 = .ok (.if_icmp .ge 40, 3) := dk_162 0 40 (dk_at dksX4_sumOf_0 20 rfl rfl)
theorem dX4_sumOf_23 : decode cX4_sumOf 23 = .ok (.aload_n 0, 1) := dk_42 (dk_at dksX4_sumOf_0 23 rfl rfl)
theorem dX4_sumOf_24 : decode cX4_sumOf 24 = .ok (.getfield 36, 3) := dk_180 0 36 (dk_at dksX4_sumOf_1 0 rfl rfl)
theorem dX4_sumOf_27 : decode cX4_sumOf 27 = .ok (.iconst 2, 1) := dk_5 (dk_at dksX4_sumOf_1 3 rfl rfl)
theorem dX4_sumOf_28 : decode cX4_sumOf 28 = .ok (.iload_n 3, 1) := dk_29 (dk_at dksX4_sumOf_1 4 rfl rfl)
theorem dX4_sumOf_29 : decode cX4_sumOf 29 = .ok (.iadd, 1) := dk_96 (dk_at dksX4_sumOf_1 5 rfl rfl)
theorem dX4_sumOf_30 : decode cX4_sumOf 30 = .ok (.aload_n 0, 1) := dk_42 (dk_at dksX4_sumOf_1 6 rfl rfl)
theorem dX4_sumOf_31 : decode cX4_sumOf 31 = .ok (.iload_n 1, 1) := dk_27 (dk_at dksX4_sumOf_1 7 rfl rfl)
theorem dX4_sumOf_32 : decode cX4_sumOf 32 = .ok (.iload_n 3, 1) := dk_29 (dk_at dksX4_sumOf_1 8 rfl rfl)
theorem dX4_sumOf_33 : decode cX4_sumOf 33 = .ok (.invokevirtual 292, 3) := dk_182 1 36 (dk_at dksX4_sumOf_1 9 rfl rfl)
theorem dX4_sumOf_36 : decode cX4_sumOf 36 = .ok (.i2l, 1) := dk_133 (dk_at dksX4_sumOf_1 12 rfl rfl)
theorem dX4_sumOf_37 : decode cX4_sumOf 37 = .ok (.lastore, 1) := dk_80 (dk_at dksX4_sumOf_1 13 rfl rfl)
theorem dX4_sumOf_38 : decode cX4_sumOf 38 = .ok (.aload_n 0, 1) := dk_42 (dk_at dksX4_sumOf_1 14 rfl rfl)
theorem dX4_sumOf_39 : decode cX4_sumOf 39 = .ok (.getfield 36, 3) := dk_180 0 36 (dk_at dksX4_sumOf_1 15 rfl rfl)
theorem dX4_sumOf_42 : decode cX4_sumOf 42 = .ok (.bipush 6, 2) := dk_16 6 (dk_at dksX4_sumOf_1 18 rfl rfl)
theorem dX4_sumOf_44 : decode cX4_sumOf 44 = .ok (.iload_n 3, 1) := dk_29 (dk_at dksX4_sumOf_1 20 rfl rfl)
theorem dX4_sumOf_45 : decode cX4_sumOf 45 = .ok (.iadd, 1) := dk_96 (dk_at dksX4_sumOf_1 21 rfl rfl)
theorem dX4_sumOf_46 : decode cX4_sumOf 46 = .ok (.aload_n 0, 1) := dk_42 (dk_at dksX4_sumOf_1 22 rfl rfl)
theorem dX4_sumOf_47 : decode cX4_sumOf 47 = .ok (.iload_n 2, 1) := dk_28 (dk_at dksX4_sumOf_1 23 rfl rfl)
theorem dX4_sumOf_48 : decode cX4_sumOf 48 = .ok (.iload_n 3, 1) := dk_29 (dk_at dksX4_sumOf_2 0 rfl rfl)
theorem dX4_sumOf_49 : decode cX4_sumOf 49 = .ok (.invokevirtual 292, 3) := dk_182 1 36 (dk_at dksX4_sumOf_2 1 rfl rfl)
theorem dX4_sumOf_52 : decode cX4_sumOf 52 = .ok (.i2l, 1) := dk_133 (dk_at dksX4_sumOf_2 4 rfl rfl)
theorem dX4_sumOf_53 : decode cX4_sumOf 53 = .ok (.lastore, 1) := dk_80 (dk_at dksX4_sumOf_2 5 rfl rfl)
theorem dX4_sumOf_54 : decode cX4_sumOf 54 = .ok (.iinc 3 1, 3) := dk_132 3 1 (dk_at dksX4_sumOf_2 6 rfl rfl)
theorem dX4_sumOf_57 : decode cX4_sumOf 57 = .ok (.goto (-39), 3) := dk_167 255 217 (dk_at dksX4_sumOf_2 9 rfl rfl)
theorem dX4_sumOf_60 : decode cX4_sumOf 60 = .ok (.aload_n 0, 1) := dk_42 (dk_at dksX4_sumOf_2 12 rfl rfl)
theorem dX4_sumOf_61 : decode cX4_sumOf 61 = .ok (.getfield 36, 3) := dk_180 0 36 (dk_at dksX4_sumOf_2 13 rfl rfl)
theorem dX4_sumOf_64 : decode cX4_sumOf 64 = .ok (.bipush 10, 2) := dk_16 10 (dk_at dksX4_sumOf_2 16 rfl rfl)
theorem dX4_sumOf_66 : decode cX4_sumOf 66 = .ok (.aload_n 0, 1) := dk_42 (dk_at dksX4_sumOf_2 18 rfl rfl)
theorem dX4_sumOf_67 : decode cX4_sumOf 67 = .ok (.invokevirtual 327, 3) := dk_182 1 71 (dk_at dksX4_sumOf_2 19 rfl rfl)
theorem dX4_sumOf_70 : decode cX4_sumOf 70 = .ok (.invokestatic 330, 3) := dk_184 1 74 (dk_at dksX4_sumOf_3 0 rfl rfl)
theorem dX4_sumOf_73 : decode cX4_sumOf 73 = .ok (.i2l, 1) := dk_133 (dk_at dksX4_sumOf_3 3 rfl rfl)
theorem dX4_sumOf_74 : decode cX4_sumOf 74 = .ok (.lastore, 1) := dk_80 (dk_at dksX4_sumOf_3 4 rfl rfl)
theorem dX4_sumOf_75 : decode cX4_sumOf 75 = .ok (.aload_n 0, 1) := dk_42 (dk_at dksX4_sumOf_3 5 rfl rfl)
theorem dX4_sumOf_76 : decode cX4_sumOf 76 = .ok (.getfield 36, 3) := dk_180 0 36 (dk_at dksX4_sumOf_3 6 rfl rfl)
theorem dX4_sumOf_79 : decode cX4_sumOf 79 = .ok (.bipush 11, 2) := dk_16 11 (dk_at dksX4_sumOf_3 9 rfl rfl)
theorem dX4_sumOf_81 : decode cX4_sumOf 81 = .ok (.aload_n 0, 1) := dk_42 (dk_at dksX4_sumOf_3 11 rfl rfl)
theorem dX4_sumOf_82 : decode cX4_sumOf 82 = .ok (.getfield 39, 3) := dk_180 0 39 (dk_at dksX4_sumOf_3 12 rfl rfl)
theorem dX4_sumOf_85 : decode cX4_sumOf 85 = .ok (.iconst 1, 1) := dk_4 (dk_at dksX4_sumOf_3 15 rfl rfl)
theorem dX4_sumOf_86 : decode cX4_sumOf 86 = .ok (.iaload, 1) := dk_46 (dk_at dksX4_sumOf_3 16 rfl rfl)
theorem dX4_sumOf_87 : decode cX4_sumOf 87 = .ok (.i2l, 1) := dk_133 (dk_at dksX4_sumOf_3 17 rfl rfl)
theorem dX4_sumOf_88 : decode cX4_sumOf 88 = .ok (.lastore, 1) := dk_80 (dk_at dksX4_sumOf_3 18 rfl rfl)
theorem dX4_sumOf_89 : decode cX4_sumOf 89 = .ok (.aload_n 0, 1) := dk_42 (dk_at dksX4_sumOf_3 19 rfl rfl)
theorem dX4_sumOf_90 : decode cX4_sumOf 90 = .ok (.getfield 36, 3) := dk_180 0 36 (dk_at dksX4_sumOf_3 20 rfl rfl)
theorem dX4_sumOf_93 : decode cX4_sumOf 93 = .ok (.bipush 12, 2) := dk_16 12 (dk_at dksX4_sumOf_4 0 rfl rfl)
theorem dX4_sumOf_95 : decode cX4_sumOf 95 = .ok (.aload_n 0, 1) := dk_42 (dk_at dksX4_sumOf_4 2 rfl rfl)
theorem dX4_sumOf_96 : decode cX4_sumOf 96 = .ok (.getfield 39, 3) := dk_180 0 39 (dk_at dksX4_sumOf_4 3 rfl rfl)
theorem dX4_sumOf_99 : decode cX4_sumOf 99 = .ok (.bipush 10, 2) := dk_16 10 (dk_at dksX4_sumOf_4 6 rfl rfl)
theorem dX4_sumOf_101 : decode cX4_sumOf 101 = .ok (.iaload, 1) := dk_46 (dk_at dksX4_sumOf_4 8 rfl rfl)
theorem dX4_sumOf_102 : decode cX4_sumOf 102 = .ok (.i2l, 1) := dk_133 (dk_at dksX4_sumOf_4 9 rfl rfl)
theorem dX4_sumOf_103 : decode cX4_sumOf 103 = .ok (.lastore, 1) := dk_80 (dk_at dksX4_sumOf_4 10 rfl rfl)
theorem dX4_sumOf_104 : decode cX4_sumOf 104 = .ok (.aload_n 0, 1) := dk_42 (dk_at dksX4_sumOf_4 11 rfl rfl)
theorem dX4_sumOf_105 : decode cX4_sumOf 105 = .ok (.aload_n 0, 1) := dk_42 (dk_at dksX4_sumOf_4 12 rfl rfl)
theorem dX4_sumOf_106 : decode cX4_sumOf 106 = .ok (.getfield 42, 3) := dk_180 0 42 (dk_at dksX4_sumOf_4 13 rfl rfl)
theorem dX4_sumOf_109 : decode cX4_sumOf 109 = .ok (.invokevirtual 333, 3) := dk_182 1 77 (dk_at dksX4_sumOf_4 16 rfl rfl)
theorem dX4_sumOf_112 : decode cX4_sumOf 112 = .ok (.lreturn, 1) := dk_173 (dk_at dksX4_sumOf_4 19 rfl rfl)
abbrev cX4_wholeOnes : ByteArray := prog_19_method_51_code
def yX4_wholeOnes : MethodName := ⟨RX4, "wholeOnes", "()I"⟩
def dkwX4_wholeOnes_1 : List UInt8 := [28, 120, 167, 0, 4, 3, 128, 60, 132, 2, 1, 167, 255, 225, 27, 172]
abbrev dktX4_wholeOnes_1 : List UInt8 := dkwX4_wholeOnes_1 ++ []
def dkwX4_wholeOnes_0 : List UInt8 := [3, 60, 3, 61, 28, 42, 180, 0, 39, 5, 46, 162, 0, 27, 27, 42, 28, 182, 1, 40, 153, 0, 9, 4]
abbrev dktX4_wholeOnes_0 : List UInt8 := dkwX4_wholeOnes_0 ++ dktX4_wholeOnes_1
theorem dksX4_wholeOnes_0 : cX4_wholeOnes.data.toList.drop 0 = dktX4_wholeOnes_0 := by decide +kernel
theorem dksX4_wholeOnes_1 : cX4_wholeOnes.data.toList.drop 24 = dktX4_wholeOnes_1 := dk_seg dksX4_wholeOnes_0 24 rfl rfl
theorem dX4_wholeOnes_0 : decode cX4_wholeOnes 0 = .ok (.iconst 0, 1) := dk_3 (dk_at dksX4_wholeOnes_0 0 rfl rfl)
theorem dX4_wholeOnes_1 : decode cX4_wholeOnes 1 = .ok (.istore_n 1, 1) := dk_60 (dk_at dksX4_wholeOnes_0 1 rfl rfl)
theorem dX4_wholeOnes_2 : decode cX4_wholeOnes 2 = .ok (.iconst 0, 1) := dk_3 (dk_at dksX4_wholeOnes_0 2 rfl rfl)
theorem dX4_wholeOnes_3 : decode cX4_wholeOnes 3 = .ok (.istore_n 2, 1) := dk_61 (dk_at dksX4_wholeOnes_0 3 rfl rfl)
theorem dX4_wholeOnes_4 : decode cX4_wholeOnes 4 = .ok (.iload_n 2, 1) := dk_28 (dk_at dksX4_wholeOnes_0 4 rfl rfl)
theorem dX4_wholeOnes_5 : decode cX4_wholeOnes 5 = .ok (.aload_n 0, 1) := dk_42 (dk_at dksX4_wholeOnes_0 5 rfl rfl)
theorem dX4_wholeOnes_6 : decode cX4_wholeOnes 6 = .ok (.getfield 39, 3) := dk_180 0 39 (dk_at dksX4_wholeOnes_0 6 rfl rfl)
theorem dX4_wholeOnes_9 : decode cX4_wholeOnes 9 = .ok (.iconst 2, 1) := dk_5 (dk_at dksX4_wholeOnes_0 9 rfl rfl)
theorem dX4_wholeOnes_10 : decode cX4_wholeOnes 10 = .ok (.iaload, 1) := dk_46 (dk_at dksX4_wholeOnes_0 10 rfl rfl)
theorem dX4_wholeOnes_11 : decode cX4_wholeOnes 11 = .ok (.if_icmp .ge 27, 3) := dk_162 0 27 (dk_at dksX4_wholeOnes_0 11 rfl rfl)
theorem dX4_wholeOnes_14 : decode cX4_wholeOnes 14 = .ok (.iload_n 1, 1) := dk_27 (dk_at dksX4_wholeOnes_0 14 rfl rfl)
theorem dX4_wholeOnes_15 : decode cX4_wholeOnes 15 = .ok (.aload_n 0, 1) := dk_42 (dk_at dksX4_wholeOnes_0 15 rfl rfl)
theorem dX4_wholeOnes_16 : decode cX4_wholeOnes 16 = .ok (.iload_n 2, 1) := dk_28 (dk_at dksX4_wholeOnes_0 16 rfl rfl)
theorem dX4_wholeOnes_17 : decode cX4_wholeOnes 17 = .ok (.invokevirtual 296, 3) := dk_182 1 40 (dk_at dksX4_wholeOnes_0 17 rfl rfl)
theorem dX4_wholeOnes_20 : decode cX4_wholeOnes 20 = .ok (.ifCond .eq 9, 3) := dk_153 0 9 (dk_at dksX4_wholeOnes_0 20 rfl rfl)
theorem dX4_wholeOnes_23 : decode cX4_wholeOnes 23 = .ok (.iconst 1, 1) := dk_4 (dk_at dksX4_wholeOnes_0 23 rfl rfl)
theorem dX4_wholeOnes_24 : decode cX4_wholeOnes 24 = .ok (.iload_n 2, 1) := dk_28 (dk_at dksX4_wholeOnes_1 0 rfl rfl)
theorem dX4_wholeOnes_25 : decode cX4_wholeOnes 25 = .ok (.ishl, 1) := dk_120 (dk_at dksX4_wholeOnes_1 1 rfl rfl)
theorem dX4_wholeOnes_26 : decode cX4_wholeOnes 26 = .ok (.goto 4, 3) := dk_167 0 4 (dk_at dksX4_wholeOnes_1 2 rfl rfl)
theorem dX4_wholeOnes_29 : decode cX4_wholeOnes 29 = .ok (.iconst 0, 1) := dk_3 (dk_at dksX4_wholeOnes_1 5 rfl rfl)
theorem dX4_wholeOnes_30 : decode cX4_wholeOnes 30 = .ok (.ior, 1) := dk_128 (dk_at dksX4_wholeOnes_1 6 rfl rfl)
theorem dX4_wholeOnes_31 : decode cX4_wholeOnes 31 = .ok (.istore_n 1, 1) := dk_60 (dk_at dksX4_wholeOnes_1 7 rfl rfl)
theorem dX4_wholeOnes_32 : decode cX4_wholeOnes 32 = .ok (.iinc 2 1, 3) := dk_132 2 1 (dk_at dksX4_wholeOnes_1 8 rfl rfl)
theorem dX4_wholeOnes_35 : decode cX4_wholeOnes 35 = .ok (.goto (-31), 3) := dk_167 255 225 (dk_at dksX4_wholeOnes_1 11 rfl rfl)
theorem dX4_wholeOnes_38 : decode cX4_wholeOnes 38 = .ok (.iload_n 1, 1) := dk_27 (dk_at dksX4_wholeOnes_1 14 rfl rfl)
theorem dX4_wholeOnes_39 : decode cX4_wholeOnes 39 = .ok (.ireturn, 1) := dk_172 (dk_at dksX4_wholeOnes_1 15 rfl rfl)
abbrev cX4_bits : ByteArray := prog_19_method_4_code
def yX4_bits : MethodName := ⟨RX4, "bits", "(I)I"⟩
def dkwX4_bits_0 : List UInt8 := [3, 60, 26, 61, 28, 153, 0, 15, 132, 1, 1, 28, 28, 4, 100, 126, 61, 167, 255, 243, 27, 172]
abbrev dktX4_bits_0 : List UInt8 := dkwX4_bits_0 ++ []
theorem dksX4_bits_0 : cX4_bits.data.toList.drop 0 = dktX4_bits_0 := by decide +kernel
theorem dX4_bits_0 : decode cX4_bits 0 = .ok (.iconst 0, 1) := dk_3 (dk_at dksX4_bits_0 0 rfl rfl)
theorem dX4_bits_1 : decode cX4_bits 1 = .ok (.istore_n 1, 1) := dk_60 (dk_at dksX4_bits_0 1 rfl rfl)
theorem dX4_bits_2 : decode cX4_bits 2 = .ok (.iload_n 0, 1) := dk_26 (dk_at dksX4_bits_0 2 rfl rfl)
theorem dX4_bits_3 : decode cX4_bits 3 = .ok (.istore_n 2, 1) := dk_61 (dk_at dksX4_bits_0 3 rfl rfl)
theorem dX4_bits_4 : decode cX4_bits 4 = .ok (.iload_n 2, 1) := dk_28 (dk_at dksX4_bits_0 4 rfl rfl)
theorem dX4_bits_5 : decode cX4_bits 5 = .ok (.ifCond .eq 15, 3) := dk_153 0 15 (dk_at dksX4_bits_0 5 rfl rfl)
theorem dX4_bits_8 : decode cX4_bits 8 = .ok (.iinc 1 1, 3) := dk_132 1 1 (dk_at dksX4_bits_0 8 rfl rfl)
theorem dX4_bits_11 : decode cX4_bits 11 = .ok (.iload_n 2, 1) := dk_28 (dk_at dksX4_bits_0 11 rfl rfl)
theorem dX4_bits_12 : decode cX4_bits 12 = .ok (.iload_n 2, 1) := dk_28 (dk_at dksX4_bits_0 12 rfl rfl)
theorem dX4_bits_13 : decode cX4_bits 13 = .ok (.iconst 1, 1) := dk_4 (dk_at dksX4_bits_0 13 rfl rfl)
theorem dX4_bits_14 : decode cX4_bits 14 = .ok (.isub, 1) := dk_100 (dk_at dksX4_bits_0 14 rfl rfl)
theorem dX4_bits_15 : decode cX4_bits 15 = .ok (.iand, 1) := dk_126 (dk_at dksX4_bits_0 15 rfl rfl)
theorem dX4_bits_16 : decode cX4_bits 16 = .ok (.istore_n 2, 1) := dk_61 (dk_at dksX4_bits_0 16 rfl rfl)
theorem dX4_bits_17 : decode cX4_bits 17 = .ok (.goto (-13), 3) := dk_167 255 243 (dk_at dksX4_bits_0 17 rfl rfl)
theorem dX4_bits_20 : decode cX4_bits 20 = .ok (.iload_n 1, 1) := dk_27 (dk_at dksX4_bits_0 20 rfl rfl)
theorem dX4_bits_21 : decode cX4_bits 21 = .ok (.ireturn, 1) := dk_172 (dk_at dksX4_bits_0 21 rfl rfl)
abbrev cX4_summedBy : ByteArray := prog_19_method_59_code
def yX4_summedBy : MethodName := ⟨RX4, "summedBy", "(I)J"⟩
def dkwX4_summedBy_3 : List UInt8 := [29, 4, 96, 46, 182, 1, 67, 173, 132, 2, 1, 167, 255, 177, 9, 173]
abbrev dktX4_summedBy_3 : List UInt8 := dkwX4_summedBy_3 ++ []
def dkwX4_summedBy_2 : List UInt8 := [29, 6, 96, 46, 182, 1, 67, 10, 148, 154, 0, 23, 42, 27, 42, 180, 0, 20, 29, 46, 42, 180, 0, 20]
abbrev dktX4_summedBy_2 : List UInt8 := dkwX4_summedBy_2 ++ dktX4_summedBy_3
def dkwX4_summedBy_1 : List UInt8 := [180, 0, 20, 29, 5, 96, 46, 155, 0, 29, 42, 27, 42, 180, 0, 20, 29, 5, 96, 46, 42, 180, 0, 20]
abbrev dktX4_summedBy_1 : List UInt8 := dkwX4_summedBy_1 ++ dktX4_summedBy_2
def dkwX4_summedBy_0 : List UInt8 := [3, 61, 28, 42, 180, 0, 23, 27, 46, 162, 0, 75, 16, 48, 27, 104, 7, 28, 104, 96, 62, 42]
abbrev dktX4_summedBy_0 : List UInt8 := dkwX4_summedBy_0 ++ dktX4_summedBy_1
theorem dksX4_summedBy_0 : cX4_summedBy.data.toList.drop 0 = dktX4_summedBy_0 := by decide +kernel
theorem dksX4_summedBy_1 : cX4_summedBy.data.toList.drop 22 = dktX4_summedBy_1 := dk_seg dksX4_summedBy_0 22 rfl rfl
theorem dksX4_summedBy_2 : cX4_summedBy.data.toList.drop 46 = dktX4_summedBy_2 := dk_seg dksX4_summedBy_1 24 rfl rfl
theorem dksX4_summedBy_3 : cX4_summedBy.data.toList.drop 70 = dktX4_summedBy_3 := dk_seg dksX4_summedBy_2 24 rfl rfl
theorem dX4_summedBy_0 : decode cX4_summedBy 0 = .ok (.iconst 0, 1) := dk_3 (dk_at dksX4_summedBy_0 0 rfl rfl)
theorem dX4_summedBy_1 : decode cX4_summedBy 1 = .ok (.istore_n 2, 1) := dk_61 (dk_at dksX4_summedBy_0 1 rfl rfl)
theorem dX4_summedBy_2 : decode cX4_summedBy 2 = .ok (.iload_n 2, 1) := dk_28 (dk_at dksX4_summedBy_0 2 rfl rfl)
theorem dX4_summedBy_3 : decode cX4_summedBy 3 = .ok (.aload_n 0, 1) := dk_42 (dk_at dksX4_summedBy_0 3 rfl rfl)
theorem dX4_summedBy_4 : decode cX4_summedBy 4 = .ok (.getfield 23, 3) := dk_180 0 23 (dk_at dksX4_summedBy_0 4 rfl rfl)
theorem dX4_summedBy_7 : decode cX4_summedBy 7 = .ok (.iload_n 1, 1) := dk_27 (dk_at dksX4_summedBy_0 7 rfl rfl)
theorem dX4_summedBy_8 : decode cX4_summedBy 8 = .ok (.iaload, 1) := dk_46 (dk_at dksX4_summedBy_0 8 rfl rfl)
theorem dX4_summedBy_9 : decode cX4_summedBy 9 = .ok (.if_icmp .ge 75, 3) := dk_162 0 75 (dk_at dksX4_summedBy_0 9 rfl rfl)
theorem dX4_summedBy_12 : decode cX4_summedBy 12 = .ok (.bipush 48, 2) := dk_16 48 (dk_at dksX4_summedBy_0 12 rfl rfl)
theorem dX4_summedBy_14 : decode cX4_summedBy 14 = .ok (.iload_n 1, 1) := dk_27 (dk_at dksX4_summedBy_0 14 rfl rfl)
theorem dX4_summedBy_15 : decode cX4_summedBy 15 = .ok (.imul, 1) := dk_104 (dk_at dksX4_summedBy_0 15 rfl rfl)
theorem dX4_summedBy_16 : decode cX4_summedBy 16 = .ok (.iconst 4, 1) := dk_7 (dk_at dksX4_summedBy_0 16 rfl rfl)
theorem dX4_summedBy_17 : decode cX4_summedBy 17 = .ok (.iload_n 2, 1) := dk_28 (dk_at dksX4_summedBy_0 17 rfl rfl)
theorem dX4_summedBy_18 : decode cX4_summedBy 18 = .ok (.imul, 1) := dk_104 (dk_at dksX4_summedBy_0 18 rfl rfl)
theorem dX4_summedBy_19 : decode cX4_summedBy 19 = .ok (.iadd, 1) := dk_96 (dk_at dksX4_summedBy_0 19 rfl rfl)
theorem dX4_summedBy_20 : decode cX4_summedBy 20 = .ok (.istore_n 3, 1) := dk_62 (dk_at dksX4_summedBy_0 20 rfl rfl)
theorem dX4_summedBy_21 : decode cX4_summedBy 21 = .ok (.aload_n 0, 1) := dk_42 (dk_at dksX4_summedBy_0 21 rfl rfl)
theorem dX4_summedBy_22 : decode cX4_summedBy 22 = .ok (.getfield 20, 3) := dk_180 0 20 (dk_at dksX4_summedBy_1 0 rfl rfl)
theorem dX4_summedBy_25 : decode cX4_summedBy 25 = .ok (.iload_n 3, 1) := dk_29 (dk_at dksX4_summedBy_1 3 rfl rfl)
theorem dX4_summedBy_26 : decode cX4_summedBy 26 = .ok (.iconst 2, 1) := dk_5 (dk_at dksX4_summedBy_1 4 rfl rfl)
theorem dX4_summedBy_27 : decode cX4_summedBy 27 = .ok (.iadd, 1) := dk_96 (dk_at dksX4_summedBy_1 5 rfl rfl)
theorem dX4_summedBy_28 : decode cX4_summedBy 28 = .ok (.iaload, 1) := dk_46 (dk_at dksX4_summedBy_1 6 rfl rfl)
theorem dX4_summedBy_29 : decode cX4_summedBy 29 = .ok (.ifCond .lt 29, 3) := dk_155 0 29 (dk_at dksX4_summedBy_1 7 rfl rfl)
theorem dX4_summedBy_32 : decode cX4_summedBy 32 = .ok (.aload_n 0, 1) := dk_42 (dk_at dksX4_summedBy_1 10 rfl rfl)
theorem dX4_summedBy_33 : decode cX4_summedBy 33 = .ok (.iload_n 1, 1) := dk_27 (dk_at dksX4_summedBy_1 11 rfl rfl)
theorem dX4_summedBy_34 : decode cX4_summedBy 34 = .ok (.aload_n 0, 1) := dk_42 (dk_at dksX4_summedBy_1 12 rfl rfl)
theorem dX4_summedBy_35 : decode cX4_summedBy 35 = .ok (.getfield 20, 3) := dk_180 0 20 (dk_at dksX4_summedBy_1 13 rfl rfl)
theorem dX4_summedBy_38 : decode cX4_summedBy 38 = .ok (.iload_n 3, 1) := dk_29 (dk_at dksX4_summedBy_1 16 rfl rfl)
theorem dX4_summedBy_39 : decode cX4_summedBy 39 = .ok (.iconst 2, 1) := dk_5 (dk_at dksX4_summedBy_1 17 rfl rfl)
theorem dX4_summedBy_40 : decode cX4_summedBy 40 = .ok (.iadd, 1) := dk_96 (dk_at dksX4_summedBy_1 18 rfl rfl)
theorem dX4_summedBy_41 : decode cX4_summedBy 41 = .ok (.iaload, 1) := dk_46 (dk_at dksX4_summedBy_1 19 rfl rfl)
theorem dX4_summedBy_42 : decode cX4_summedBy 42 = .ok (.aload_n 0, 1) := dk_42 (dk_at dksX4_summedBy_1 20 rfl rfl)
theorem dX4_summedBy_43 : decode cX4_summedBy 43 = .ok (.getfield 20, 3) := dk_180 0 20 (dk_at dksX4_summedBy_1 21 rfl rfl)
theorem dX4_summedBy_46 : decode cX4_summedBy 46 = .ok (.iload_n 3, 1) := dk_29 (dk_at dksX4_summedBy_2 0 rfl rfl)
theorem dX4_summedBy_47 : decode cX4_summedBy 47 = .ok (.iconst 3, 1) := dk_6 (dk_at dksX4_summedBy_2 1 rfl rfl)
theorem dX4_summedBy_48 : decode cX4_summedBy 48 = .ok (.iadd, 1) := dk_96 (dk_at dksX4_summedBy_2 2 rfl rfl)
theorem dX4_summedBy_49 : decode cX4_summedBy 49 = .ok (.iaload, 1) := dk_46 (dk_at dksX4_summedBy_2 3 rfl rfl)
theorem dX4_summedBy_50 : decode cX4_summedBy 50 = .ok (.invokevirtual 323, 3) := dk_182 1 67 (dk_at dksX4_summedBy_2 4 rfl rfl)
theorem dX4_summedBy_53 : decode cX4_summedBy 53 = .ok (.lconst 1, 1) := dk_10 (dk_at dksX4_summedBy_2 7 rfl rfl)
theorem dX4_summedBy_54 : decode cX4_summedBy 54 = .ok (.lcmp, 1) := dk_148 (dk_at dksX4_summedBy_2 8 rfl rfl)
theorem dX4_summedBy_55 : decode cX4_summedBy 55 = .ok (.ifCond .ne 23, 3) := dk_154 0 23 (dk_at dksX4_summedBy_2 9 rfl rfl)
theorem dX4_summedBy_58 : decode cX4_summedBy 58 = .ok (.aload_n 0, 1) := dk_42 (dk_at dksX4_summedBy_2 12 rfl rfl)
theorem dX4_summedBy_59 : decode cX4_summedBy 59 = .ok (.iload_n 1, 1) := dk_27 (dk_at dksX4_summedBy_2 13 rfl rfl)
theorem dX4_summedBy_60 : decode cX4_summedBy 60 = .ok (.aload_n 0, 1) := dk_42 (dk_at dksX4_summedBy_2 14 rfl rfl)
theorem dX4_summedBy_61 : decode cX4_summedBy 61 = .ok (.getfield 20, 3) := dk_180 0 20 (dk_at dksX4_summedBy_2 15 rfl rfl)
theorem dX4_summedBy_64 : decode cX4_summedBy 64 = .ok (.iload_n 3, 1) := dk_29 (dk_at dksX4_summedBy_2 18 rfl rfl)
theorem dX4_summedBy_65 : decode cX4_summedBy 65 = .ok (.iaload, 1) := dk_46 (dk_at dksX4_summedBy_2 19 rfl rfl)
theorem dX4_summedBy_66 : decode cX4_summedBy 66 = .ok (.aload_n 0, 1) := dk_42 (dk_at dksX4_summedBy_2 20 rfl rfl)
theorem dX4_summedBy_67 : decode cX4_summedBy 67 = .ok (.getfield 20, 3) := dk_180 0 20 (dk_at dksX4_summedBy_2 21 rfl rfl)
theorem dX4_summedBy_70 : decode cX4_summedBy 70 = .ok (.iload_n 3, 1) := dk_29 (dk_at dksX4_summedBy_3 0 rfl rfl)
theorem dX4_summedBy_71 : decode cX4_summedBy 71 = .ok (.iconst 1, 1) := dk_4 (dk_at dksX4_summedBy_3 1 rfl rfl)
theorem dX4_summedBy_72 : decode cX4_summedBy 72 = .ok (.iadd, 1) := dk_96 (dk_at dksX4_summedBy_3 2 rfl rfl)
theorem dX4_summedBy_73 : decode cX4_summedBy 73 = .ok (.iaload, 1) := dk_46 (dk_at dksX4_summedBy_3 3 rfl rfl)
theorem dX4_summedBy_74 : decode cX4_summedBy 74 = .ok (.invokevirtual 323, 3) := dk_182 1 67 (dk_at dksX4_summedBy_3 4 rfl rfl)
theorem dX4_summedBy_77 : decode cX4_summedBy 77 = .ok (.lreturn, 1) := dk_173 (dk_at dksX4_summedBy_3 7 rfl rfl)
theorem dX4_summedBy_78 : decode cX4_summedBy 78 = .ok (.iinc 2 1, 3) := dk_132 2 1 (dk_at dksX4_summedBy_3 8 rfl rfl)
theorem dX4_summedBy_81 : decode cX4_summedBy 81 = .ok (.goto (-79), 3) := dk_167 255 177 (dk_at dksX4_summedBy_3 11 rfl rfl)
theorem dX4_summedBy_84 : decode cX4_summedBy 84 = .ok (.lconst 0, 1) := dk_9 (dk_at dksX4_summedBy_3 14 rfl rfl)
theorem dX4_summedBy_85 : decode cX4_summedBy 85 = .ok (.lreturn, 1) := dk_173 (dk_at dksX4_summedBy_3 15 rfl rfl)
abbrev cX4_reckons : ByteArray := prog_19_method_45_code
def yX4_reckons : MethodName := ⟨RX4, "reckons", "(III)J"⟩
def dkwX4_reckons_5 : List UInt8 := [21, 5, 22, 9, 22, 7, 184, 1, 29, 182, 1, 21, 132, 4, 1, 167, 255, 132, 42, 182, 1, 25, 173]
abbrev dktX4_reckons_5 : List UInt8 := dkwX4_reckons_5 ++ []
def dkwX4_reckons_4 : List UInt8 := [182, 1, 25, 101, 182, 1, 21, 167, 0, 28, 42, 182, 1, 25, 55, 7, 42, 182, 1, 25, 55, 9, 42]
abbrev dktX4_reckons_4 : List UInt8 := dkwX4_reckons_4 ++ dktX4_reckons_5
def dkwX4_reckons_3 : List UInt8 := [42, 180, 0, 36, 21, 6, 47, 182, 1, 21, 167, 0, 48, 21, 5, 16, 11, 160, 0, 16, 42, 10, 42]
abbrev dktX4_reckons_3 : List UInt8 := dkwX4_reckons_3 ++ dktX4_reckons_4
def dkwX4_reckons_2 : List UInt8 := [54, 6, 21, 5, 154, 0, 13, 42, 21, 6, 133, 182, 1, 21, 167, 0, 68, 21, 5, 4, 160, 0, 17, 42]
abbrev dktX4_reckons_2 : List UInt8 := dkwX4_reckons_2 ++ dktX4_reckons_3
def dkwX4_reckons_1 : List UInt8 := [21, 4, 96, 46, 16, 15, 126, 54, 5, 42, 180, 0, 13, 17, 1, 144, 27, 104, 21, 4, 96, 46, 7, 122]
abbrev dktX4_reckons_1 : List UInt8 := dkwX4_reckons_1 ++ dktX4_reckons_2
def dkwX4_reckons_0 : List UInt8 := [42, 3, 181, 1, 18, 28, 54, 4, 21, 4, 29, 162, 0, 124, 42, 180, 0, 13, 17, 1, 144, 27, 104]
abbrev dktX4_reckons_0 : List UInt8 := dkwX4_reckons_0 ++ dktX4_reckons_1
theorem dksX4_reckons_0 : cX4_reckons.data.toList.drop 0 = dktX4_reckons_0 := by decide +kernel
theorem dksX4_reckons_1 : cX4_reckons.data.toList.drop 23 = dktX4_reckons_1 := dk_seg dksX4_reckons_0 23 rfl rfl
theorem dksX4_reckons_2 : cX4_reckons.data.toList.drop 47 = dktX4_reckons_2 := dk_seg dksX4_reckons_1 24 rfl rfl
theorem dksX4_reckons_3 : cX4_reckons.data.toList.drop 71 = dktX4_reckons_3 := dk_seg dksX4_reckons_2 24 rfl rfl
theorem dksX4_reckons_4 : cX4_reckons.data.toList.drop 94 = dktX4_reckons_4 := dk_seg dksX4_reckons_3 23 rfl rfl
theorem dksX4_reckons_5 : cX4_reckons.data.toList.drop 117 = dktX4_reckons_5 := dk_seg dksX4_reckons_4 23 rfl rfl
theorem dX4_reckons_0 : decode cX4_reckons 0 = .ok (.aload_n 0, 1) := dk_42 (dk_at dksX4_reckons_0 0 rfl rfl)
theorem dX4_reckons_1 : decode cX4_reckons 1 = .ok (.iconst 0, 1) := dk_3 (dk_at dksX4_reckons_0 1 rfl rfl)
theorem dX4_reckons_2 : decode cX4_reckons 2 = .ok (.putfield 274, 3) := dk_181 1 18 (dk_at dksX4_reckons_0 2 rfl rfl)
theorem dX4_reckons_5 : decode cX4_reckons 5 = .ok (.iload_n 2, 1) := dk_28 (dk_at dksX4_reckons_0 5 rfl rfl)
theorem dX4_reckons_6 : decode cX4_reckons 6 = .ok (.istore 4, 2) := dk_54 4 (dk_at dksX4_reckons_0 6 rfl rfl)
theorem dX4_reckons_8 : decode cX4_reckons 8 = .ok (.iload 4, 2) := dk_21 4 (dk_at dksX4_reckons_0 8 rfl rfl)
theorem dX4_reckons_10 : decode cX4_reckons 10 = .ok (.iload_n 3, 1) := dk_29 (dk_at dksX4_reckons_0 10 rfl rfl)
theorem dX4_reckons_11 : decode cX4_reckons 11 = .ok (.if_icmp .ge 124, 3) := dk_162 0 124 (dk_at dksX4_reckons_0 11 rfl rfl)
theorem dX4_reckons_14 : decode cX4_reckons 14 = .ok (.aload_n 0, 1) := dk_42 (dk_at dksX4_reckons_0 14 rfl rfl)
theorem dX4_reckons_15 : decode cX4_reckons 15 = .ok (.getfield 13, 3) := dk_180 0 13 (dk_at dksX4_reckons_0 15 rfl rfl)
theorem dX4_reckons_18 : decode cX4_reckons 18 = .ok (.sipush 400, 3) := dk_17 1 144 (dk_at dksX4_reckons_0 18 rfl rfl)
theorem dX4_reckons_21 : decode cX4_reckons 21 = .ok (.iload_n 1, 1) := dk_27 (dk_at dksX4_reckons_0 21 rfl rfl)
theorem dX4_reckons_22 : decode cX4_reckons 22 = .ok (.imul, 1) := dk_104 (dk_at dksX4_reckons_0 22 rfl rfl)
theorem dX4_reckons_23 : decode cX4_reckons 23 = .ok (.iload 4, 2) := dk_21 4 (dk_at dksX4_reckons_1 0 rfl rfl)
theorem dX4_reckons_25 : decode cX4_reckons 25 = .ok (.iadd, 1) := dk_96 (dk_at dksX4_reckons_1 2 rfl rfl)
theorem dX4_reckons_26 : decode cX4_reckons 26 = .ok (.iaload, 1) := dk_46 (dk_at dksX4_reckons_1 3 rfl rfl)
theorem dX4_reckons_27 : decode cX4_reckons 27 = .ok (.bipush 15, 2) := dk_16 15 (dk_at dksX4_reckons_1 4 rfl rfl)
theorem dX4_reckons_29 : decode cX4_reckons 29 = .ok (.iand, 1) := dk_126 (dk_at dksX4_reckons_1 6 rfl rfl)
theorem dX4_reckons_30 : decode cX4_reckons 30 = .ok (.istore 5, 2) := dk_54 5 (dk_at dksX4_reckons_1 7 rfl rfl)
theorem dX4_reckons_32 : decode cX4_reckons 32 = .ok (.aload_n 0, 1) := dk_42 (dk_at dksX4_reckons_1 9 rfl rfl)
theorem dX4_reckons_33 : decode cX4_reckons 33 = .ok (.getfield 13, 3) := dk_180 0 13 (dk_at dksX4_reckons_1 10 rfl rfl)
theorem dX4_reckons_36 : decode cX4_reckons 36 = .ok (.sipush 400, 3) := dk_17 1 144 (dk_at dksX4_reckons_1 13 rfl rfl)
theorem dX4_reckons_39 : decode cX4_reckons 39 = .ok (.iload_n 1, 1) := dk_27 (dk_at dksX4_reckons_1 16 rfl rfl)
theorem dX4_reckons_40 : decode cX4_reckons 40 = .ok (.imul, 1) := dk_104 (dk_at dksX4_reckons_1 17 rfl rfl)
theorem dX4_reckons_41 : decode cX4_reckons 41 = .ok (.iload 4, 2) := dk_21 4 (dk_at dksX4_reckons_1 18 rfl rfl)
theorem dX4_reckons_43 : decode cX4_reckons 43 = .ok (.iadd, 1) := dk_96 (dk_at dksX4_reckons_1 20 rfl rfl)
theorem dX4_reckons_44 : decode cX4_reckons 44 = .ok (.iaload, 1) := dk_46 (dk_at dksX4_reckons_1 21 rfl rfl)
theorem dX4_reckons_45 : decode cX4_reckons 45 = .ok (.iconst 4, 1) := dk_7 (dk_at dksX4_reckons_1 22 rfl rfl)
theorem dX4_reckons_46 : decode cX4_reckons 46 = .ok (.ishr, 1) := dk_122 (dk_at dksX4_reckons_1 23 rfl rfl)
theorem dX4_reckons_47 : decode cX4_reckons 47 = .ok (.istore 6, 2) := dk_54 6 (dk_at dksX4_reckons_2 0 rfl rfl)
theorem dX4_reckons_49 : decode cX4_reckons 49 = .ok (.iload 5, 2) := dk_21 5 (dk_at dksX4_reckons_2 2 rfl rfl)
theorem dX4_reckons_51 : decode cX4_reckons 51 = .ok (.ifCond .ne 13, 3) := dk_154 0 13 (dk_at dksX4_reckons_2 4 rfl rfl)
theorem dX4_reckons_54 : decode cX4_reckons 54 = .ok (.aload_n 0, 1) := dk_42 (dk_at dksX4_reckons_2 7 rfl rfl)
theorem dX4_reckons_55 : decode cX4_reckons 55 = .ok (.iload 6, 2) := dk_21 6 (dk_at dksX4_reckons_2 8 rfl rfl)
theorem dX4_reckons_57 : decode cX4_reckons 57 = .ok (.i2l, 1) := dk_133 (dk_at dksX4_reckons_2 10 rfl rfl)
theorem dX4_reckons_58 : decode cX4_reckons 58 = .ok (.invokevirtual 277, 3) := dk_182 1 21 (dk_at dksX4_reckons_2 11 rfl rfl)
theorem dX4_reckons_61 : decode cX4_reckons 61 = .ok (.goto 68, 3) := dk_167 0 68 (dk_at dksX4_reckons_2 14 rfl rfl)
theorem dX4_reckons_64 : decode cX4_reckons 64 = .ok (.iload 5, 2) := dk_21 5 (dk_at dksX4_reckons_2 17 rfl rfl)
theorem dX4_reckons_66 : decode cX4_reckons 66 = .ok (.iconst 1, 1) := dk_4 (dk_at dksX4_reckons_2 19 rfl rfl)
theorem dX4_reckons_67 : decode cX4_reckons 67 = .ok (.if_icmp .ne 17, 3) := dk_160 0 17 (dk_at dksX4_reckons_2 20 rfl rfl)
theorem dX4_reckons_70 : decode cX4_reckons 70 = .ok (.aload_n 0, 1) := dk_42 (dk_at dksX4_reckons_2 23 rfl rfl)
theorem dX4_reckons_71 : decode cX4_reckons 71 = .ok (.aload_n 0, 1) := dk_42 (dk_at dksX4_reckons_3 0 rfl rfl)
theorem dX4_reckons_72 : decode cX4_reckons 72 = .ok (.getfield 36, 3) := dk_180 0 36 (dk_at dksX4_reckons_3 1 rfl rfl)
theorem dX4_reckons_75 : decode cX4_reckons 75 = .ok (.iload 6, 2) := dk_21 6 (dk_at dksX4_reckons_3 4 rfl rfl)
theorem dX4_reckons_77 : decode cX4_reckons 77 = .ok (.laload, 1) := dk_47 (dk_at dksX4_reckons_3 6 rfl rfl)
theorem dX4_reckons_78 : decode cX4_reckons 78 = .ok (.invokevirtual 277, 3) := dk_182 1 21 (dk_at dksX4_reckons_3 7 rfl rfl)
theorem dX4_reckons_81 : decode cX4_reckons 81 = .ok (.goto 48, 3) := dk_167 0 48 (dk_at dksX4_reckons_3 10 rfl rfl)
theorem dX4_reckons_84 : decode cX4_reckons 84 = .ok (.iload 5, 2) := dk_21 5 (dk_at dksX4_reckons_3 13 rfl rfl)
theorem dX4_reckons_86 : decode cX4_reckons 86 = .ok (.bipush 11, 2) := dk_16 11 (dk_at dksX4_reckons_3 15 rfl rfl)
theorem dX4_reckons_88 : decode cX4_reckons 88 = .ok (.if_icmp .ne 16, 3) := dk_160 0 16 (dk_at dksX4_reckons_3 17 rfl rfl)
theorem dX4_reckons_91 : decode cX4_reckons 91 = .ok (.aload_n 0, 1) := dk_42 (dk_at dksX4_reckons_3 20 rfl rfl)
theorem dX4_reckons_92 : decode cX4_reckons 92 = .ok (.lconst 1, 1) := dk_10 (dk_at dksX4_reckons_3 21 rfl rfl)
theorem dX4_reckons_93 : decode cX4_reckons 93 = .ok (.aload_n 0, 1) := dk_42 (dk_at dksX4_reckons_3 22 rfl rfl)
theorem dX4_reckons_94 : decode cX4_reckons 94 = .ok (.invokevirtual 281, 3) := dk_182 1 25 (dk_at dksX4_reckons_4 0 rfl rfl)
theorem dX4_reckons_97 : decode cX4_reckons 97 = .ok (.lsub, 1) := dk_101 (dk_at dksX4_reckons_4 3 rfl rfl)
theorem dX4_reckons_98 : decode cX4_reckons 98 = .ok (.invokevirtual 277, 3) := dk_182 1 21 (dk_at dksX4_reckons_4 4 rfl rfl)
theorem dX4_reckons_101 : decode cX4_reckons 101 = .ok (.goto 28, 3) := dk_167 0 28 (dk_at dksX4_reckons_4 7 rfl rfl)
theorem dX4_reckons_104 : decode cX4_reckons 104 = .ok (.aload_n 0, 1) := dk_42 (dk_at dksX4_reckons_4 10 rfl rfl)
theorem dX4_reckons_105 : decode cX4_reckons 105 = .ok (.invokevirtual 281, 3) := dk_182 1 25 (dk_at dksX4_reckons_4 11 rfl rfl)
theorem dX4_reckons_108 : decode cX4_reckons 108 = .ok (.lstore 7, 2) := dk_55 7 (dk_at dksX4_reckons_4 14 rfl rfl)
theorem dX4_reckons_110 : decode cX4_reckons 110 = .ok (.aload_n 0, 1) := dk_42 (dk_at dksX4_reckons_4 16 rfl rfl)
theorem dX4_reckons_111 : decode cX4_reckons 111 = .ok (.invokevirtual 281, 3) := dk_182 1 25 (dk_at dksX4_reckons_4 17 rfl rfl)
theorem dX4_reckons_114 : decode cX4_reckons 114 = .ok (.lstore 9, 2) := dk_55 9 (dk_at dksX4_reckons_4 20 rfl rfl)
theorem dX4_reckons_116 : decode cX4_reckons 116 = .ok (.aload_n 0, 1) := dk_42 (dk_at dksX4_reckons_4 22 rfl rfl)
theorem dX4_reckons_117 : decode cX4_reckons 117 = .ok (.iload 5, 2) := dk_21 5 (dk_at dksX4_reckons_5 0 rfl rfl)
theorem dX4_reckons_119 : decode cX4_reckons 119 = .ok (.lload 9, 2) := dk_22 9 (dk_at dksX4_reckons_5 2 rfl rfl)
theorem dX4_reckons_121 : decode cX4_reckons 121 = .ok (.lload 7, 2) := dk_22 7 (dk_at dksX4_reckons_5 4 rfl rfl)
theorem dX4_reckons_123 : decode cX4_reckons 123 = .ok (.invokestatic 285, 3) := dk_184 1 29 (dk_at dksX4_reckons_5 6 rfl rfl)
theorem dX4_reckons_126 : decode cX4_reckons 126 = .ok (.invokevirtual 277, 3) := dk_182 1 21 (dk_at dksX4_reckons_5 9 rfl rfl)
theorem dX4_reckons_129 : decode cX4_reckons 129 = .ok (.iinc 4 1, 3) := dk_132 4 1 (dk_at dksX4_reckons_5 12 rfl rfl)
theorem dX4_reckons_132 : decode cX4_reckons 132 = .ok (.goto (-124), 3) := dk_167 255 132 (dk_at dksX4_reckons_5 15 rfl rfl)
theorem dX4_reckons_135 : decode cX4_reckons 135 = .ok (.aload_n 0, 1) := dk_42 (dk_at dksX4_reckons_5 18 rfl rfl)
theorem dX4_reckons_136 : decode cX4_reckons 136 = .ok (.invokevirtual 281, 3) := dk_182 1 25 (dk_at dksX4_reckons_5 19 rfl rfl)
theorem dX4_reckons_139 : decode cX4_reckons 139 = .ok (.lreturn, 1) := dk_173 (dk_at dksX4_reckons_5 22 rfl rfl)
abbrev cX4_push : ByteArray := prog_19_method_42_code
def yX4_push : MethodName := ⟨RX4, "push", "(J)V"⟩
def dkwX4_push_0 : List UInt8 := [42, 180, 0, 32, 42, 180, 1, 18, 31, 80, 42, 89, 180, 1, 18, 4, 96, 181, 1, 18, 177]
abbrev dktX4_push_0 : List UInt8 := dkwX4_push_0 ++ []
theorem dksX4_push_0 : cX4_push.data.toList.drop 0 = dktX4_push_0 := by decide +kernel
theorem dX4_push_0 : decode cX4_push 0 = .ok (.aload_n 0, 1) := dk_42 (dk_at dksX4_push_0 0 rfl rfl)
theorem dX4_push_1 : decode cX4_push 1 = .ok (.getfield 32, 3) := dk_180 0 32 (dk_at dksX4_push_0 1 rfl rfl)
theorem dX4_push_4 : decode cX4_push 4 = .ok (.aload_n 0, 1) := dk_42 (dk_at dksX4_push_0 4 rfl rfl)
theorem dX4_push_5 : decode cX4_push 5 = .ok (.getfield 274, 3) := dk_180 1 18 (dk_at dksX4_push_0 5 rfl rfl)
theorem dX4_push_8 : decode cX4_push 8 = .ok (.lload_n 1, 1) := dk_31 (dk_at dksX4_push_0 8 rfl rfl)
theorem dX4_push_9 : decode cX4_push 9 = .ok (.lastore, 1) := dk_80 (dk_at dksX4_push_0 9 rfl rfl)
theorem dX4_push_10 : decode cX4_push 10 = .ok (.aload_n 0, 1) := dk_42 (dk_at dksX4_push_0 10 rfl rfl)
theorem dX4_push_11 : decode cX4_push 11 = .ok (.dup, 1) := dk_89 (dk_at dksX4_push_0 11 rfl rfl)
theorem dX4_push_12 : decode cX4_push 12 = .ok (.getfield 274, 3) := dk_180 1 18 (dk_at dksX4_push_0 12 rfl rfl)
theorem dX4_push_15 : decode cX4_push 15 = .ok (.iconst 1, 1) := dk_4 (dk_at dksX4_push_0 15 rfl rfl)
theorem dX4_push_16 : decode cX4_push 16 = .ok (.iadd, 1) := dk_96 (dk_at dksX4_push_0 16 rfl rfl)
theorem dX4_push_17 : decode cX4_push 17 = .ok (.putfield 274, 3) := dk_181 1 18 (dk_at dksX4_push_0 17 rfl rfl)
theorem dX4_push_20 : decode cX4_push 20 = .ok (.return_, 1) := dk_177 (dk_at dksX4_push_0 20 rfl rfl)
abbrev cX4_pop : ByteArray := prog_19_method_43_code
def yX4_pop : MethodName := ⟨RX4, "pop", "()J"⟩
def dkwX4_pop_0 : List UInt8 := [42, 89, 180, 1, 18, 4, 100, 181, 1, 18, 42, 180, 0, 32, 42, 180, 1, 18, 47, 173]
abbrev dktX4_pop_0 : List UInt8 := dkwX4_pop_0 ++ []
theorem dksX4_pop_0 : cX4_pop.data.toList.drop 0 = dktX4_pop_0 := by decide +kernel
theorem dX4_pop_0 : decode cX4_pop 0 = .ok (.aload_n 0, 1) := dk_42 (dk_at dksX4_pop_0 0 rfl rfl)
theorem dX4_pop_1 : decode cX4_pop 1 = .ok (.dup, 1) := dk_89 (dk_at dksX4_pop_0 1 rfl rfl)
theorem dX4_pop_2 : decode cX4_pop 2 = .ok (.getfield 274, 3) := dk_180 1 18 (dk_at dksX4_pop_0 2 rfl rfl)
theorem dX4_pop_5 : decode cX4_pop 5 = .ok (.iconst 1, 1) := dk_4 (dk_at dksX4_pop_0 5 rfl rfl)
theorem dX4_pop_6 : decode cX4_pop 6 = .ok (.isub, 1) := dk_100 (dk_at dksX4_pop_0 6 rfl rfl)
theorem dX4_pop_7 : decode cX4_pop 7 = .ok (.putfield 274, 3) := dk_181 1 18 (dk_at dksX4_pop_0 7 rfl rfl)
theorem dX4_pop_10 : decode cX4_pop 10 = .ok (.aload_n 0, 1) := dk_42 (dk_at dksX4_pop_0 10 rfl rfl)
theorem dX4_pop_11 : decode cX4_pop 11 = .ok (.getfield 32, 3) := dk_180 0 32 (dk_at dksX4_pop_0 11 rfl rfl)
theorem dX4_pop_14 : decode cX4_pop 14 = .ok (.aload_n 0, 1) := dk_42 (dk_at dksX4_pop_0 14 rfl rfl)
theorem dX4_pop_15 : decode cX4_pop 15 = .ok (.getfield 274, 3) := dk_180 1 18 (dk_at dksX4_pop_0 15 rfl rfl)
theorem dX4_pop_18 : decode cX4_pop 18 = .ok (.laload, 1) := dk_47 (dk_at dksX4_pop_0 18 rfl rfl)
theorem dX4_pop_19 : decode cX4_pop 19 = .ok (.lreturn, 1) := dk_173 (dk_at dksX4_pop_0 19 rfl rfl)
abbrev cX4_one : ByteArray := prog_19_method_44_code
def yX4_one : MethodName := ⟨RX4, "one", "(IJJ)J"⟩
def dkwX4_one_6 : List UInt8 := [167, 0, 4, 9, 173, 31, 33, 127, 173, 31, 33, 129, 173]
abbrev dktX4_one_6 : List UInt8 := dkwX4_one_6 ++ []
def dkwX4_one_5 : List UInt8 := [167, 0, 4, 9, 173, 31, 33, 148, 155, 0, 7, 10, 167, 0, 4, 9, 173, 31, 33, 148, 158, 0, 7, 10]
abbrev dktX4_one_5 : List UInt8 := dkwX4_one_5 ++ dktX4_one_6
def dkwX4_one_4 : List UInt8 := [167, 0, 4, 9, 173, 31, 33, 148, 157, 0, 7, 10, 167, 0, 4, 9, 173, 31, 33, 148, 154, 0, 7, 10]
abbrev dktX4_one_4 : List UInt8 := dkwX4_one_4 ++ dktX4_one_5
def dkwX4_one_3 : List UInt8 := [109, 173, 33, 9, 148, 154, 0, 7, 9, 167, 0, 6, 31, 33, 113, 173, 31, 33, 148, 156, 0, 7, 10]
abbrev dktX4_one_3 : List UInt8 := dkwX4_one_3 ++ dktX4_one_4
def dkwX4_one_2 : List UInt8 := [31, 33, 97, 173, 31, 33, 101, 173, 31, 33, 105, 173, 33, 9, 148, 154, 0, 7, 9, 167, 0, 6, 31, 33]
abbrev dktX4_one_2 : List UInt8 := dkwX4_one_2 ++ dktX4_one_3
def dkwX4_one_1 : List UInt8 := [170, 0, 0, 0, 0, 0, 171, 0, 0, 0, 2, 0, 0, 0, 14, 0, 0, 0, 67, 0, 0, 0, 71, 0, 0, 0, 75, 0, 0, 0, 79, 0, 0, 0, 107, 0, 0, 0, 119, 0, 0, 0, 131, 0, 0, 0, 143, 0, 0, 0, 155, 0, 0, 0, 171, 0, 0, 0, 167, 0, 0, 0, 171, 0, 0, 0, 93]
abbrev dktX4_one_1 : List UInt8 := dkwX4_one_1 ++ dktX4_one_2
def dkwX4_one_0 : List UInt8 := [26]
abbrev dktX4_one_0 : List UInt8 := dkwX4_one_0 ++ dktX4_one_1
theorem dksX4_one_0 : cX4_one.data.toList.drop 0 = dktX4_one_0 := by decide +kernel
theorem dksX4_one_1 : cX4_one.data.toList.drop 1 = dktX4_one_1 := dk_seg dksX4_one_0 1 rfl rfl
theorem dksX4_one_2 : cX4_one.data.toList.drop 68 = dktX4_one_2 := dk_seg dksX4_one_1 67 rfl rfl
theorem dksX4_one_3 : cX4_one.data.toList.drop 92 = dktX4_one_3 := dk_seg dksX4_one_2 24 rfl rfl
theorem dksX4_one_4 : cX4_one.data.toList.drop 115 = dktX4_one_4 := dk_seg dksX4_one_3 23 rfl rfl
theorem dksX4_one_5 : cX4_one.data.toList.drop 139 = dktX4_one_5 := dk_seg dksX4_one_4 24 rfl rfl
theorem dksX4_one_6 : cX4_one.data.toList.drop 163 = dktX4_one_6 := dk_seg dksX4_one_5 24 rfl rfl
theorem dX4_one_0 : decode cX4_one 0 = .ok (.iload_n 0, 1) := dk_26 (dk_at dksX4_one_0 0 rfl rfl)
theorem dX4_one_1 : decode cX4_one 1 = .ok (.tableswitch 171 2 14 #[67, 71, 75, 79, 107, 119, 131, 143, 155, 171, 167, 171, 93], 67) := by decide +kernel
theorem dX4_one_68 : decode cX4_one 68 = .ok (.lload_n 1, 1) := dk_31 (dk_at dksX4_one_2 0 rfl rfl)
theorem dX4_one_69 : decode cX4_one 69 = .ok (.lload_n 3, 1) := dk_33 (dk_at dksX4_one_2 1 rfl rfl)
theorem dX4_one_70 : decode cX4_one 70 = .ok (.ladd, 1) := dk_97 (dk_at dksX4_one_2 2 rfl rfl)
theorem dX4_one_71 : decode cX4_one 71 = .ok (.lreturn, 1) := dk_173 (dk_at dksX4_one_2 3 rfl rfl)
theorem dX4_one_72 : decode cX4_one 72 = .ok (.lload_n 1, 1) := dk_31 (dk_at dksX4_one_2 4 rfl rfl)
theorem dX4_one_73 : decode cX4_one 73 = .ok (.lload_n 3, 1) := dk_33 (dk_at dksX4_one_2 5 rfl rfl)
theorem dX4_one_74 : decode cX4_one 74 = .ok (.lsub, 1) := dk_101 (dk_at dksX4_one_2 6 rfl rfl)
theorem dX4_one_75 : decode cX4_one 75 = .ok (.lreturn, 1) := dk_173 (dk_at dksX4_one_2 7 rfl rfl)
theorem dX4_one_76 : decode cX4_one 76 = .ok (.lload_n 1, 1) := dk_31 (dk_at dksX4_one_2 8 rfl rfl)
theorem dX4_one_77 : decode cX4_one 77 = .ok (.lload_n 3, 1) := dk_33 (dk_at dksX4_one_2 9 rfl rfl)
theorem dX4_one_78 : decode cX4_one 78 = .ok (.lmul, 1) := dk_105 (dk_at dksX4_one_2 10 rfl rfl)
theorem dX4_one_79 : decode cX4_one 79 = .ok (.lreturn, 1) := dk_173 (dk_at dksX4_one_2 11 rfl rfl)
theorem dX4_one_80 : decode cX4_one 80 = .ok (.lload_n 3, 1) := dk_33 (dk_at dksX4_one_2 12 rfl rfl)
theorem dX4_one_81 : decode cX4_one 81 = .ok (.lconst 0, 1) := dk_9 (dk_at dksX4_one_2 13 rfl rfl)
theorem dX4_one_82 : decode cX4_one 82 = .ok (.lcmp, 1) := dk_148 (dk_at dksX4_one_2 14 rfl rfl)
theorem dX4_one_83 : decode cX4_one 83 = .ok (.ifCond .ne 7, 3) := dk_154 0 7 (dk_at dksX4_one_2 15 rfl rfl)
theorem dX4_one_86 : decode cX4_one 86 = .ok (.lconst 0, 1) := dk_9 (dk_at dksX4_one_2 18 rfl rfl)
theorem dX4_one_87 : decode cX4_one 87 = .ok (.goto 6, 3) := dk_167 0 6 (dk_at dksX4_one_2 19 rfl rfl)
theorem dX4_one_90 : decode cX4_one 90 = .ok (.lload_n 1, 1) := dk_31 (dk_at dksX4_one_2 22 rfl rfl)
theorem dX4_one_91 : decode cX4_one 91 = .ok (.lload_n 3, 1) := dk_33 (dk_at dksX4_one_2 23 rfl rfl)
theorem dX4_one_92 : decode cX4_one 92 = .ok (.ldiv, 1) := dk_109 (dk_at dksX4_one_3 0 rfl rfl)
theorem dX4_one_93 : decode cX4_one 93 = .ok (.lreturn, 1) := dk_173 (dk_at dksX4_one_3 1 rfl rfl)
theorem dX4_one_94 : decode cX4_one 94 = .ok (.lload_n 3, 1) := dk_33 (dk_at dksX4_one_3 2 rfl rfl)
theorem dX4_one_95 : decode cX4_one 95 = .ok (.lconst 0, 1) := dk_9 (dk_at dksX4_one_3 3 rfl rfl)
theorem dX4_one_96 : decode cX4_one 96 = .ok (.lcmp, 1) := dk_148 (dk_at dksX4_one_3 4 rfl rfl)
theorem dX4_one_97 : decode cX4_one 97 = .ok (.ifCond .ne 7, 3) := dk_154 0 7 (dk_at dksX4_one_3 5 rfl rfl)
theorem dX4_one_100 : decode cX4_one 100 = .ok (.lconst 0, 1) := dk_9 (dk_at dksX4_one_3 8 rfl rfl)
theorem dX4_one_101 : decode cX4_one 101 = .ok (.goto 6, 3) := dk_167 0 6 (dk_at dksX4_one_3 9 rfl rfl)
theorem dX4_one_104 : decode cX4_one 104 = .ok (.lload_n 1, 1) := dk_31 (dk_at dksX4_one_3 12 rfl rfl)
theorem dX4_one_105 : decode cX4_one 105 = .ok (.lload_n 3, 1) := dk_33 (dk_at dksX4_one_3 13 rfl rfl)
theorem dX4_one_106 : decode cX4_one 106 = .ok (.lrem, 1) := dk_113 (dk_at dksX4_one_3 14 rfl rfl)
theorem dX4_one_107 : decode cX4_one 107 = .ok (.lreturn, 1) := dk_173 (dk_at dksX4_one_3 15 rfl rfl)
theorem dX4_one_108 : decode cX4_one 108 = .ok (.lload_n 1, 1) := dk_31 (dk_at dksX4_one_3 16 rfl rfl)
theorem dX4_one_109 : decode cX4_one 109 = .ok (.lload_n 3, 1) := dk_33 (dk_at dksX4_one_3 17 rfl rfl)
theorem dX4_one_110 : decode cX4_one 110 = .ok (.lcmp, 1) := dk_148 (dk_at dksX4_one_3 18 rfl rfl)
theorem dX4_one_111 : decode cX4_one 111 = .ok (.ifCond .ge 7, 3) := dk_156 0 7 (dk_at dksX4_one_3 19 rfl rfl)
theorem dX4_one_114 : decode cX4_one 114 = .ok (.lconst 1, 1) := dk_10 (dk_at dksX4_one_3 22 rfl rfl)
theorem dX4_one_115 : decode cX4_one 115 = .ok (.goto 4, 3) := dk_167 0 4 (dk_at dksX4_one_4 0 rfl rfl)
theorem dX4_one_118 : decode cX4_one 118 = .ok (.lconst 0, 1) := dk_9 (dk_at dksX4_one_4 3 rfl rfl)
theorem dX4_one_119 : decode cX4_one 119 = .ok (.lreturn, 1) := dk_173 (dk_at dksX4_one_4 4 rfl rfl)
theorem dX4_one_120 : decode cX4_one 120 = .ok (.lload_n 1, 1) := dk_31 (dk_at dksX4_one_4 5 rfl rfl)
theorem dX4_one_121 : decode cX4_one 121 = .ok (.lload_n 3, 1) := dk_33 (dk_at dksX4_one_4 6 rfl rfl)
theorem dX4_one_122 : decode cX4_one 122 = .ok (.lcmp, 1) := dk_148 (dk_at dksX4_one_4 7 rfl rfl)
theorem dX4_one_123 : decode cX4_one 123 = .ok (.ifCond .gt 7, 3) := dk_157 0 7 (dk_at dksX4_one_4 8 rfl rfl)
theorem dX4_one_126 : decode cX4_one 126 = .ok (.lconst 1, 1) := dk_10 (dk_at dksX4_one_4 11 rfl rfl)
theorem dX4_one_127 : decode cX4_one 127 = .ok (.goto 4, 3) := dk_167 0 4 (dk_at dksX4_one_4 12 rfl rfl)
theorem dX4_one_130 : decode cX4_one 130 = .ok (.lconst 0, 1) := dk_9 (dk_at dksX4_one_4 15 rfl rfl)
theorem dX4_one_131 : decode cX4_one 131 = .ok (.lreturn, 1) := dk_173 (dk_at dksX4_one_4 16 rfl rfl)
theorem dX4_one_132 : decode cX4_one 132 = .ok (.lload_n 1, 1) := dk_31 (dk_at dksX4_one_4 17 rfl rfl)
theorem dX4_one_133 : decode cX4_one 133 = .ok (.lload_n 3, 1) := dk_33 (dk_at dksX4_one_4 18 rfl rfl)
theorem dX4_one_134 : decode cX4_one 134 = .ok (.lcmp, 1) := dk_148 (dk_at dksX4_one_4 19 rfl rfl)
theorem dX4_one_135 : decode cX4_one 135 = .ok (.ifCond .ne 7, 3) := dk_154 0 7 (dk_at dksX4_one_4 20 rfl rfl)
theorem dX4_one_138 : decode cX4_one 138 = .ok (.lconst 1, 1) := dk_10 (dk_at dksX4_one_4 23 rfl rfl)
theorem dX4_one_139 : decode cX4_one 139 = .ok (.goto 4, 3) := dk_167 0 4 (dk_at dksX4_one_5 0 rfl rfl)
theorem dX4_one_142 : decode cX4_one 142 = .ok (.lconst 0, 1) := dk_9 (dk_at dksX4_one_5 3 rfl rfl)
theorem dX4_one_143 : decode cX4_one 143 = .ok (.lreturn, 1) := dk_173 (dk_at dksX4_one_5 4 rfl rfl)
theorem dX4_one_144 : decode cX4_one 144 = .ok (.lload_n 1, 1) := dk_31 (dk_at dksX4_one_5 5 rfl rfl)
theorem dX4_one_145 : decode cX4_one 145 = .ok (.lload_n 3, 1) := dk_33 (dk_at dksX4_one_5 6 rfl rfl)
theorem dX4_one_146 : decode cX4_one 146 = .ok (.lcmp, 1) := dk_148 (dk_at dksX4_one_5 7 rfl rfl)
theorem dX4_one_147 : decode cX4_one 147 = .ok (.ifCond .lt 7, 3) := dk_155 0 7 (dk_at dksX4_one_5 8 rfl rfl)
theorem dX4_one_150 : decode cX4_one 150 = .ok (.lconst 1, 1) := dk_10 (dk_at dksX4_one_5 11 rfl rfl)
theorem dX4_one_151 : decode cX4_one 151 = .ok (.goto 4, 3) := dk_167 0 4 (dk_at dksX4_one_5 12 rfl rfl)
theorem dX4_one_154 : decode cX4_one 154 = .ok (.lconst 0, 1) := dk_9 (dk_at dksX4_one_5 15 rfl rfl)
theorem dX4_one_155 : decode cX4_one 155 = .ok (.lreturn, 1) := dk_173 (dk_at dksX4_one_5 16 rfl rfl)
theorem dX4_one_156 : decode cX4_one 156 = .ok (.lload_n 1, 1) := dk_31 (dk_at dksX4_one_5 17 rfl rfl)
theorem dX4_one_157 : decode cX4_one 157 = .ok (.lload_n 3, 1) := dk_33 (dk_at dksX4_one_5 18 rfl rfl)
theorem dX4_one_158 : decode cX4_one 158 = .ok (.lcmp, 1) := dk_148 (dk_at dksX4_one_5 19 rfl rfl)
theorem dX4_one_159 : decode cX4_one 159 = .ok (.ifCond .le 7, 3) := dk_158 0 7 (dk_at dksX4_one_5 20 rfl rfl)
theorem dX4_one_162 : decode cX4_one 162 = .ok (.lconst 1, 1) := dk_10 (dk_at dksX4_one_5 23 rfl rfl)
theorem dX4_one_163 : decode cX4_one 163 = .ok (.goto 4, 3) := dk_167 0 4 (dk_at dksX4_one_6 0 rfl rfl)
theorem dX4_one_166 : decode cX4_one 166 = .ok (.lconst 0, 1) := dk_9 (dk_at dksX4_one_6 3 rfl rfl)
theorem dX4_one_167 : decode cX4_one 167 = .ok (.lreturn, 1) := dk_173 (dk_at dksX4_one_6 4 rfl rfl)
theorem dX4_one_168 : decode cX4_one 168 = .ok (.lload_n 1, 1) := dk_31 (dk_at dksX4_one_6 5 rfl rfl)
theorem dX4_one_169 : decode cX4_one 169 = .ok (.lload_n 3, 1) := dk_33 (dk_at dksX4_one_6 6 rfl rfl)
theorem dX4_one_170 : decode cX4_one 170 = .ok (.land, 1) := dk_127 (dk_at dksX4_one_6 7 rfl rfl)
theorem dX4_one_171 : decode cX4_one 171 = .ok (.lreturn, 1) := dk_173 (dk_at dksX4_one_6 8 rfl rfl)
theorem dX4_one_172 : decode cX4_one 172 = .ok (.lload_n 1, 1) := dk_31 (dk_at dksX4_one_6 9 rfl rfl)
theorem dX4_one_173 : decode cX4_one 173 = .ok (.lload_n 3, 1) := dk_33 (dk_at dksX4_one_6 10 rfl rfl)
theorem dX4_one_174 : decode cX4_one 174 = .ok (.lor, 1) := dk_129 (dk_at dksX4_one_6 11 rfl rfl)
theorem dX4_one_175 : decode cX4_one 175 = .ok (.lreturn, 1) := dk_173 (dk_at dksX4_one_6 12 rfl rfl)
abbrev cX4_strikes : ByteArray := prog_19_method_58_code
def yX4_strikes : MethodName := ⟨RX4, "strikes", "(II)I"⟩
def dkwX4_strikes_1 : List UInt8 := [182, 1, 43, 29, 155, 0, 18, 42, 29, 29, 27, 160, 0, 7, 28, 167, 0, 4, 27, 182, 1, 64, 29, 172]
abbrev dktX4_strikes_1 : List UInt8 := dkwX4_strikes_1 ++ []
def dkwX4_strikes_0 : List UInt8 := [42, 27, 28, 182, 1, 61, 62, 42, 27, 5, 42, 180, 1, 52, 182, 1, 43, 42, 28, 5, 42, 180, 1, 55]
abbrev dktX4_strikes_0 : List UInt8 := dkwX4_strikes_0 ++ dktX4_strikes_1
theorem dksX4_strikes_0 : cX4_strikes.data.toList.drop 0 = dktX4_strikes_0 := by decide +kernel
theorem dksX4_strikes_1 : cX4_strikes.data.toList.drop 24 = dktX4_strikes_1 := dk_seg dksX4_strikes_0 24 rfl rfl
theorem dX4_strikes_0 : decode cX4_strikes 0 = .ok (.aload_n 0, 1) := dk_42 (dk_at dksX4_strikes_0 0 rfl rfl)
theorem dX4_strikes_1 : decode cX4_strikes 1 = .ok (.iload_n 1, 1) := dk_27 (dk_at dksX4_strikes_0 1 rfl rfl)
theorem dX4_strikes_2 : decode cX4_strikes 2 = .ok (.iload_n 2, 1) := dk_28 (dk_at dksX4_strikes_0 2 rfl rfl)
theorem dX4_strikes_3 : decode cX4_strikes 3 = .ok (.invokevirtual 317, 3) := dk_182 1 61 (dk_at dksX4_strikes_0 3 rfl rfl)
theorem dX4_strikes_6 : decode cX4_strikes 6 = .ok (.istore_n 3, 1) := dk_62 (dk_at dksX4_strikes_0 6 rfl rfl)
theorem dX4_strikes_7 : decode cX4_strikes 7 = .ok (.aload_n 0, 1) := dk_42 (dk_at dksX4_strikes_0 7 rfl rfl)
theorem dX4_strikes_8 : decode cX4_strikes 8 = .ok (.iload_n 1, 1) := dk_27 (dk_at dksX4_strikes_0 8 rfl rfl)
theorem dX4_strikes_9 : decode cX4_strikes 9 = .ok (.iconst 2, 1) := dk_5 (dk_at dksX4_strikes_0 9 rfl rfl)
theorem dX4_strikes_10 : decode cX4_strikes 10 = .ok (.aload_n 0, 1) := dk_42 (dk_at dksX4_strikes_0 10 rfl rfl)
theorem dX4_strikes_11 : decode cX4_strikes 11 = .ok (.getfield 308, 3) := dk_180 1 52 (dk_at dksX4_strikes_0 11 rfl rfl)
theorem dX4_strikes_14 : decode cX4_strikes 14 = .ok (.invokevirtual 299, 3) := dk_182 1 43 (dk_at dksX4_strikes_0 14 rfl rfl)
theorem dX4_strikes_17 : decode cX4_strikes 17 = .ok (.aload_n 0, 1) := dk_42 (dk_at dksX4_strikes_0 17 rfl rfl)
theorem dX4_strikes_18 : decode cX4_strikes 18 = .ok (.iload_n 2, 1) := dk_28 (dk_at dksX4_strikes_0 18 rfl rfl)
theorem dX4_strikes_19 : decode cX4_strikes 19 = .ok (.iconst 2, 1) := dk_5 (dk_at dksX4_strikes_0 19 rfl rfl)
theorem dX4_strikes_20 : decode cX4_strikes 20 = .ok (.aload_n 0, 1) := dk_42 (dk_at dksX4_strikes_0 20 rfl rfl)
theorem dX4_strikes_21 : decode cX4_strikes 21 = .ok (.getfield 311, 3) := dk_180 1 55 (dk_at dksX4_strikes_0 21 rfl rfl)
theorem dX4_strikes_24 : decode cX4_strikes 24 = .ok (.invokevirtual 299, 3) := dk_182 1 43 (dk_at dksX4_strikes_1 0 rfl rfl)
theorem dX4_strikes_27 : decode cX4_strikes 27 = .ok (.iload_n 3, 1) := dk_29 (dk_at dksX4_strikes_1 3 rfl rfl)
theorem dX4_strikes_28 : decode cX4_strikes 28 = .ok (.ifCond .lt 18, 3) := dk_155 0 18 (dk_at dksX4_strikes_1 4 rfl rfl)
theorem dX4_strikes_31 : decode cX4_strikes 31 = .ok (.aload_n 0, 1) := dk_42 (dk_at dksX4_strikes_1 7 rfl rfl)
theorem dX4_strikes_32 : decode cX4_strikes 32 = .ok (.iload_n 3, 1) := dk_29 (dk_at dksX4_strikes_1 8 rfl rfl)
theorem dX4_strikes_33 : decode cX4_strikes 33 = .ok (.iload_n 3, 1) := dk_29 (dk_at dksX4_strikes_1 9 rfl rfl)
theorem dX4_strikes_34 : decode cX4_strikes 34 = .ok (.iload_n 1, 1) := dk_27 (dk_at dksX4_strikes_1 10 rfl rfl)
theorem dX4_strikes_35 : decode cX4_strikes 35 = .ok (.if_icmp .ne 7, 3) := dk_160 0 7 (dk_at dksX4_strikes_1 11 rfl rfl)
theorem dX4_strikes_38 : decode cX4_strikes 38 = .ok (.iload_n 2, 1) := dk_28 (dk_at dksX4_strikes_1 14 rfl rfl)
theorem dX4_strikes_39 : decode cX4_strikes 39 = .ok (.goto 4, 3) := dk_167 0 4 (dk_at dksX4_strikes_1 15 rfl rfl)
theorem dX4_strikes_42 : decode cX4_strikes 42 = .ok (.iload_n 1, 1) := dk_27 (dk_at dksX4_strikes_1 18 rfl rfl)
theorem dX4_strikes_43 : decode cX4_strikes 43 = .ok (.invokevirtual 320, 3) := dk_182 1 64 (dk_at dksX4_strikes_1 19 rfl rfl)
theorem dX4_strikes_46 : decode cX4_strikes 46 = .ok (.iload_n 3, 1) := dk_29 (dk_at dksX4_strikes_1 22 rfl rfl)
theorem dX4_strikes_47 : decode cX4_strikes 47 = .ok (.ireturn, 1) := dk_172 (dk_at dksX4_strikes_1 23 rfl rfl)
abbrev cX4_smashedOf : ByteArray := prog_19_method_56_code
def yX4_smashedOf : MethodName := ⟨RX4, "smashedOf", "(II)I"⟩
def dkwX4_smashedOf_5 : List UInt8 := [172, 132, 3, 1, 167, 255, 163, 2, 172]
abbrev dktX4_smashedOf_5 : List UInt8 := dkwX4_smashedOf_5 ++ []
def dkwX4_smashedOf_4 : List UInt8 := [42, 28, 4, 182, 1, 36, 96, 181, 1, 52, 42, 180, 1, 52, 42, 27, 3, 182, 1, 36, 161, 0, 5, 27]
abbrev dktX4_smashedOf_4 : List UInt8 := dkwX4_smashedOf_4 ++ dktX4_smashedOf_5
def dkwX4_smashedOf_3 : List UInt8 := [3, 182, 1, 36, 161, 0, 5, 28, 172, 42, 89, 180, 1, 58, 4, 96, 181, 1, 58, 42, 89, 180, 1, 52]
abbrev dktX4_smashedOf_3 : List UInt8 := dkwX4_smashedOf_3 ++ dktX4_smashedOf_4
def dkwX4_smashedOf_2 : List UInt8 := [181, 1, 58, 42, 89, 180, 1, 55, 42, 27, 4, 182, 1, 36, 96, 181, 1, 55, 42, 180, 1, 55, 42, 28]
abbrev dktX4_smashedOf_2 : List UInt8 := dkwX4_smashedOf_2 ++ dktX4_smashedOf_3
def dkwX4_smashedOf_1 : List UInt8 := [181, 1, 58, 3, 62, 29, 42, 180, 0, 39, 4, 46, 162, 0, 89, 42, 89, 180, 1, 58, 4, 96]
abbrev dktX4_smashedOf_1 : List UInt8 := dkwX4_smashedOf_1 ++ dktX4_smashedOf_2
def dkwX4_smashedOf_0 : List UInt8 := [42, 42, 27, 5, 182, 1, 36, 181, 1, 52, 42, 42, 28, 5, 182, 1, 36, 181, 1, 55, 42, 3]
abbrev dktX4_smashedOf_0 : List UInt8 := dkwX4_smashedOf_0 ++ dktX4_smashedOf_1
theorem dksX4_smashedOf_0 : cX4_smashedOf.data.toList.drop 0 = dktX4_smashedOf_0 := by decide +kernel
theorem dksX4_smashedOf_1 : cX4_smashedOf.data.toList.drop 22 = dktX4_smashedOf_1 := dk_seg dksX4_smashedOf_0 22 rfl rfl
theorem dksX4_smashedOf_2 : cX4_smashedOf.data.toList.drop 44 = dktX4_smashedOf_2 := dk_seg dksX4_smashedOf_1 22 rfl rfl
theorem dksX4_smashedOf_3 : cX4_smashedOf.data.toList.drop 68 = dktX4_smashedOf_3 := dk_seg dksX4_smashedOf_2 24 rfl rfl
theorem dksX4_smashedOf_4 : cX4_smashedOf.data.toList.drop 92 = dktX4_smashedOf_4 := dk_seg dksX4_smashedOf_3 24 rfl rfl
theorem dksX4_smashedOf_5 : cX4_smashedOf.data.toList.drop 116 = dktX4_smashedOf_5 := dk_seg dksX4_smashedOf_4 24 rfl rfl
theorem dX4_smashedOf_0 : decode cX4_smashedOf 0 = .ok (.aload_n 0, 1) := dk_42 (dk_at dksX4_smashedOf_0 0 rfl rfl)
theorem dX4_smashedOf_1 : decode cX4_smashedOf 1 = .ok (.aload_n 0, 1) := dk_42 (dk_at dksX4_smashedOf_0 1 rfl rfl)
theorem dX4_smashedOf_2 : decode cX4_smashedOf 2 = .ok (.iload_n 1, 1) := dk_27 (dk_at dksX4_smashedOf_0 2 rfl rfl)
theorem dX4_smashedOf_3 : decode cX4_smashedOf 3 = .ok (.iconst 2, 1) := dk_5 (dk_at dksX4_smashedOf_0 3 rfl rfl)
theorem dX4_smashedOf_4 : decode cX4_smashedOf 4 = .ok (.invokevirtual 292, 3) := dk_182 1 36 (dk_at dksX4_smashedOf_0 4 rfl rfl)
theorem dX4_smashedOf_7 : decode cX4_smashedOf 7 = .ok (.putfield 308, 3) := dk_181 1 52 (dk_at dksX4_smashedOf_0 7 rfl rfl)
theorem dX4_smashedOf_10 : decode cX4_smashedOf 10 = .ok (.aload_n 0, 1) := dk_42 (dk_at dksX4_smashedOf_0 10 rfl rfl)
theorem dX4_smashedOf_11 : decode cX4_smashedOf 11 = .ok (.aload_n 0, 1) := dk_42 (dk_at dksX4_smashedOf_0 11 rfl rfl)
theorem dX4_smashedOf_12 : decode cX4_smashedOf 12 = .ok (.iload_n 2, 1) := dk_28 (dk_at dksX4_smashedOf_0 12 rfl rfl)
theorem dX4_smashedOf_13 : decode cX4_smashedOf 13 = .ok (.iconst 2, 1) := dk_5 (dk_at dksX4_smashedOf_0 13 rfl rfl)
theorem dX4_smashedOf_14 : decode cX4_smashedOf 14 = .ok (.invokevirtual 292, 3) := dk_182 1 36 (dk_at dksX4_smashedOf_0 14 rfl rfl)
theorem dX4_smashedOf_17 : decode cX4_smashedOf 17 = .ok (.putfield 311, 3) := dk_181 1 55 (dk_at dksX4_smashedOf_0 17 rfl rfl)
theorem dX4_smashedOf_20 : decode cX4_smashedOf 20 = .ok (.aload_n 0, 1) := dk_42 (dk_at dksX4_smashedOf_0 20 rfl rfl)
theorem dX4_smashedOf_21 : decode cX4_smashedOf 21 = .ok (.iconst 0, 1) := dk_3 (dk_at dksX4_smashedOf_0 21 rfl rfl)
theorem dX4_smashedOf_22 : decode cX4_smashedOf 22 = .ok (.putfield 314, 3) := dk_181 1 58 (dk_at dksX4_smashedOf_1 0 rfl rfl)
theorem dX4_smashedOf_25 : decode cX4_smashedOf 25 = .ok (.iconst 0, 1) := dk_3 (dk_at dksX4_smashedOf_1 3 rfl rfl)
theorem dX4_smashedOf_26 : decode cX4_smashedOf 26 = .ok (.istore_n 3, 1) := dk_62 (dk_at dksX4_smashedOf_1 4 rfl rfl)
theorem dX4_smashedOf_27 : decode cX4_smashedOf 27 = .ok (.iload_n 3, 1) := dk_29 (dk_at dksX4_smashedOf_1 5 rfl rfl)
theorem dX4_smashedOf_28 : decode cX4_smashedOf 28 = .ok (.aload_n 0, 1) := dk_42 (dk_at dksX4_smashedOf_1 6 rfl rfl)
theorem dX4_smashedOf_29 : decode cX4_smashedOf 29 = .ok (.getfield 39, 3) := dk_180 0 39 (dk_at dksX4_smashedOf_1 7 rfl rfl)
theorem dX4_smashedOf_32 : decode cX4_smashedOf 32 = .ok (.iconst 1, 1) := dk_4 (dk_at dksX4_smashedOf_1 10 rfl rfl)
theorem dX4_smashedOf_33 : decode cX4_smashedOf 33 = .ok (.iaload, 1) := dk_46 (dk_at dksX4_smashedOf_1 11 rfl rfl)
theorem dX4_smashedOf_34 : decode cX4_smashedOf 34 = .ok (.if_icmp .ge 89, 3) := dk_162 0 89 (dk_at dksX4_smashedOf_1 12 rfl rfl)
theorem dX4_smashedOf_37 : decode cX4_smashedOf 37 = .ok (.aload_n 0, 1) := dk_42 (dk_at dksX4_smashedOf_1 15 rfl rfl)
theorem dX4_smashedOf_38 : decode cX4_smashedOf 38 = .ok (.dup, 1) := dk_89 (dk_at dksX4_smashedOf_1 16 rfl rfl)
theorem dX4_smashedOf_39 : decode cX4_smashedOf 39 = .ok (.getfield 314, 3) := dk_180 1 58 (dk_at dksX4_smashedOf_1 17 rfl rfl)
theorem dX4_smashedOf_42 : decode cX4_smashedOf 42 = .ok (.iconst 1, 1) := dk_4 (dk_at dksX4_smashedOf_1 20 rfl rfl)
theorem dX4_smashedOf_43 : decode cX4_smashedOf 43 = .ok (.iadd, 1) := dk_96 (dk_at dksX4_smashedOf_1 21 rfl rfl)
theorem dX4_smashedOf_44 : decode cX4_smashedOf 44 = .ok (.putfield 314, 3) := dk_181 1 58 (dk_at dksX4_smashedOf_2 0 rfl rfl)
theorem dX4_smashedOf_47 : decode cX4_smashedOf 47 = .ok (.aload_n 0, 1) := dk_42 (dk_at dksX4_smashedOf_2 3 rfl rfl)
theorem dX4_smashedOf_48 : decode cX4_smashedOf 48 = .ok (.dup, 1) := dk_89 (dk_at dksX4_smashedOf_2 4 rfl rfl)
theorem dX4_smashedOf_49 : decode cX4_smashedOf 49 = .ok (.getfield 311, 3) := dk_180 1 55 (dk_at dksX4_smashedOf_2 5 rfl rfl)
theorem dX4_smashedOf_52 : decode cX4_smashedOf 52 = .ok (.aload_n 0, 1) := dk_42 (dk_at dksX4_smashedOf_2 8 rfl rfl)
theorem dX4_smashedOf_53 : decode cX4_smashedOf 53 = .ok (.iload_n 1, 1) := dk_27 (dk_at dksX4_smashedOf_2 9 rfl rfl)
theorem dX4_smashedOf_54 : decode cX4_smashedOf 54 = .ok (.iconst 1, 1) := dk_4 (dk_at dksX4_smashedOf_2 10 rfl rfl)
theorem dX4_smashedOf_55 : decode cX4_smashedOf 55 = .ok (.invokevirtual 292, 3) := dk_182 1 36 (dk_at dksX4_smashedOf_2 11 rfl rfl)
theorem dX4_smashedOf_58 : decode cX4_smashedOf 58 = .ok (.iadd, 1) := dk_96 (dk_at dksX4_smashedOf_2 14 rfl rfl)
theorem dX4_smashedOf_59 : decode cX4_smashedOf 59 = .ok (.putfield 311, 3) := dk_181 1 55 (dk_at dksX4_smashedOf_2 15 rfl rfl)
theorem dX4_smashedOf_62 : decode cX4_smashedOf 62 = .ok (.aload_n 0, 1) := dk_42 (dk_at dksX4_smashedOf_2 18 rfl rfl)
theorem dX4_smashedOf_63 : decode cX4_smashedOf 63 = .ok (.getfield 311, 3) := dk_180 1 55 (dk_at dksX4_smashedOf_2 19 rfl rfl)
theorem dX4_smashedOf_66 : decode cX4_smashedOf 66 = .ok (.aload_n 0, 1) := dk_42 (dk_at dksX4_smashedOf_2 22 rfl rfl)
theorem dX4_smashedOf_67 : decode cX4_smashedOf 67 = .ok (.iload_n 2, 1) := dk_28 (dk_at dksX4_smashedOf_2 23 rfl rfl)
theorem dX4_smashedOf_68 : decode cX4_smashedOf 68 = .ok (.iconst 0, 1) := dk_3 (dk_at dksX4_smashedOf_3 0 rfl rfl)
theorem dX4_smashedOf_69 : decode cX4_smashedOf 69 = .ok (.invokevirtual 292, 3) := dk_182 1 36 (dk_at dksX4_smashedOf_3 1 rfl rfl)
theorem dX4_smashedOf_72 : decode cX4_smashedOf 72 = .ok (.if_icmp .lt 5, 3) := dk_161 0 5 (dk_at dksX4_smashedOf_3 4 rfl rfl)
theorem dX4_smashedOf_75 : decode cX4_smashedOf 75 = .ok (.iload_n 2, 1) := dk_28 (dk_at dksX4_smashedOf_3 7 rfl rfl)
theorem dX4_smashedOf_76 : decode cX4_smashedOf 76 = .ok (.ireturn, 1) := dk_172 (dk_at dksX4_smashedOf_3 8 rfl rfl)
theorem dX4_smashedOf_77 : decode cX4_smashedOf 77 = .ok (.aload_n 0, 1) := dk_42 (dk_at dksX4_smashedOf_3 9 rfl rfl)
theorem dX4_smashedOf_78 : decode cX4_smashedOf 78 = .ok (.dup, 1) := dk_89 (dk_at dksX4_smashedOf_3 10 rfl rfl)
theorem dX4_smashedOf_79 : decode cX4_smashedOf 79 = .ok (.getfield 314, 3) := dk_180 1 58 (dk_at dksX4_smashedOf_3 11 rfl rfl)
theorem dX4_smashedOf_82 : decode cX4_smashedOf 82 = .ok (.iconst 1, 1) := dk_4 (dk_at dksX4_smashedOf_3 14 rfl rfl)
theorem dX4_smashedOf_83 : decode cX4_smashedOf 83 = .ok (.iadd, 1) := dk_96 (dk_at dksX4_smashedOf_3 15 rfl rfl)
theorem dX4_smashedOf_84 : decode cX4_smashedOf 84 = .ok (.putfield 314, 3) := dk_181 1 58 (dk_at dksX4_smashedOf_3 16 rfl rfl)
theorem dX4_smashedOf_87 : decode cX4_smashedOf 87 = .ok (.aload_n 0, 1) := dk_42 (dk_at dksX4_smashedOf_3 19 rfl rfl)
theorem dX4_smashedOf_88 : decode cX4_smashedOf 88 = .ok (.dup, 1) := dk_89 (dk_at dksX4_smashedOf_3 20 rfl rfl)
theorem dX4_smashedOf_89 : decode cX4_smashedOf 89 = .ok (.getfield 308, 3) := dk_180 1 52 (dk_at dksX4_smashedOf_3 21 rfl rfl)
theorem dX4_smashedOf_92 : decode cX4_smashedOf 92 = .ok (.aload_n 0, 1) := dk_42 (dk_at dksX4_smashedOf_4 0 rfl rfl)
theorem dX4_smashedOf_93 : decode cX4_smashedOf 93 = .ok (.iload_n 2, 1) := dk_28 (dk_at dksX4_smashedOf_4 1 rfl rfl)
theorem dX4_smashedOf_94 : decode cX4_smashedOf 94 = .ok (.iconst 1, 1) := dk_4 (dk_at dksX4_smashedOf_4 2 rfl rfl)
theorem dX4_smashedOf_95 : decode cX4_smashedOf 95 = .ok (.invokevirtual 292, 3) := dk_182 1 36 (dk_at dksX4_smashedOf_4 3 rfl rfl)
theorem dX4_smashedOf_98 : decode cX4_smashedOf 98 = .ok (.iadd, 1) := dk_96 (dk_at dksX4_smashedOf_4 6 rfl rfl)
theorem dX4_smashedOf_99 : decode cX4_smashedOf 99 = .ok (.putfield 308, 3) := dk_181 1 52 (dk_at dksX4_smashedOf_4 7 rfl rfl)
theorem dX4_smashedOf_102 : decode cX4_smashedOf 102 = .ok (.aload_n 0, 1) := dk_42 (dk_at dksX4_smashedOf_4 10 rfl rfl)
theorem dX4_smashedOf_103 : decode cX4_smashedOf 103 = .ok (.getfield 308, 3) := dk_180 1 52 (dk_at dksX4_smashedOf_4 11 rfl rfl)
theorem dX4_smashedOf_106 : decode cX4_smashedOf 106 = .ok (.aload_n 0, 1) := dk_42 (dk_at dksX4_smashedOf_4 14 rfl rfl)
theorem dX4_smashedOf_107 : decode cX4_smashedOf 107 = .ok (.iload_n 1, 1) := dk_27 (dk_at dksX4_smashedOf_4 15 rfl rfl)
theorem dX4_smashedOf_108 : decode cX4_smashedOf 108 = .ok (.iconst 0, 1) := dk_3 (dk_at dksX4_smashedOf_4 16 rfl rfl)
theorem dX4_smashedOf_109 : decode cX4_smashedOf 109 = .ok (.invokevirtual 292, 3) := dk_182 1 36 (dk_at dksX4_smashedOf_4 17 rfl rfl)
theorem dX4_smashedOf_112 : decode cX4_smashedOf 112 = .ok (.if_icmp .lt 5, 3) := dk_161 0 5 (dk_at dksX4_smashedOf_4 20 rfl rfl)
theorem dX4_smashedOf_115 : decode cX4_smashedOf 115 = .ok (.iload_n 1, 1) := dk_27 (dk_at dksX4_smashedOf_4 23 rfl rfl)
theorem dX4_smashedOf_116 : decode cX4_smashedOf 116 = .ok (.ireturn, 1) := dk_172 (dk_at dksX4_smashedOf_5 0 rfl rfl)
theorem dX4_smashedOf_117 : decode cX4_smashedOf 117 = .ok (.iinc 3 1, 3) := dk_132 3 1 (dk_at dksX4_smashedOf_5 1 rfl rfl)
theorem dX4_smashedOf_120 : decode cX4_smashedOf 120 = .ok (.goto (-93), 3) := dk_167 255 163 (dk_at dksX4_smashedOf_5 4 rfl rfl)
theorem dX4_smashedOf_123 : decode cX4_smashedOf 123 = .ok (.iconst (-1), 1) := dk_2 (dk_at dksX4_smashedOf_5 7 rfl rfl)
theorem dX4_smashedOf_124 : decode cX4_smashedOf 124 = .ok (.ireturn, 1) := dk_172 (dk_at dksX4_smashedOf_5 8 rfl rfl)
abbrev cX4_falls : ByteArray := prog_19_method_57_code
def yX4_falls : MethodName := ⟨RX4, "falls", "(II)V"⟩
def dkwX4_falls_2 : List UInt8 := [27, 3, 182, 1, 36, 182, 1, 43, 42, 27, 7, 3, 182, 1, 43, 177]
abbrev dktX4_falls_2 : List UInt8 := dkwX4_falls_2 ++ []
def dkwX4_falls_1 : List UInt8 := [164, 0, 9, 17, 3, 231, 167, 0, 4, 29, 182, 1, 43, 42, 27, 6, 3, 182, 1, 43, 42, 27, 5, 42]
abbrev dktX4_falls_1 : List UInt8 := dkwX4_falls_1 ++ dktX4_falls_2
def dkwX4_falls_0 : List UInt8 := [42, 28, 6, 182, 1, 36, 42, 27, 6, 182, 1, 36, 96, 4, 96, 62, 42, 28, 6, 29, 17, 3, 231]
abbrev dktX4_falls_0 : List UInt8 := dkwX4_falls_0 ++ dktX4_falls_1
theorem dksX4_falls_0 : cX4_falls.data.toList.drop 0 = dktX4_falls_0 := by decide +kernel
theorem dksX4_falls_1 : cX4_falls.data.toList.drop 23 = dktX4_falls_1 := dk_seg dksX4_falls_0 23 rfl rfl
theorem dksX4_falls_2 : cX4_falls.data.toList.drop 47 = dktX4_falls_2 := dk_seg dksX4_falls_1 24 rfl rfl
theorem dX4_falls_0 : decode cX4_falls 0 = .ok (.aload_n 0, 1) := dk_42 (dk_at dksX4_falls_0 0 rfl rfl)
theorem dX4_falls_1 : decode cX4_falls 1 = .ok (.iload_n 2, 1) := dk_28 (dk_at dksX4_falls_0 1 rfl rfl)
theorem dX4_falls_2 : decode cX4_falls 2 = .ok (.iconst 3, 1) := dk_6 (dk_at dksX4_falls_0 2 rfl rfl)
theorem dX4_falls_3 : decode cX4_falls 3 = .ok (.invokevirtual 292, 3) := dk_182 1 36 (dk_at dksX4_falls_0 3 rfl rfl)
theorem dX4_falls_6 : decode cX4_falls 6 = .ok (.aload_n 0, 1) := dk_42 (dk_at dksX4_falls_0 6 rfl rfl)
theorem dX4_falls_7 : decode cX4_falls 7 = .ok (.iload_n 1, 1) := dk_27 (dk_at dksX4_falls_0 7 rfl rfl)
theorem dX4_falls_8 : decode cX4_falls 8 = .ok (.iconst 3, 1) := dk_6 (dk_at dksX4_falls_0 8 rfl rfl)
theorem dX4_falls_9 : decode cX4_falls 9 = .ok (.invokevirtual 292, 3) := dk_182 1 36 (dk_at dksX4_falls_0 9 rfl rfl)
theorem dX4_falls_12 : decode cX4_falls 12 = .ok (.iadd, 1) := dk_96 (dk_at dksX4_falls_0 12 rfl rfl)
theorem dX4_falls_13 : decode cX4_falls 13 = .ok (.iconst 1, 1) := dk_4 (dk_at dksX4_falls_0 13 rfl rfl)
theorem dX4_falls_14 : decode cX4_falls 14 = .ok (.iadd, 1) := dk_96 (dk_at dksX4_falls_0 14 rfl rfl)
theorem dX4_falls_15 : decode cX4_falls 15 = .ok (.istore_n 3, 1) := dk_62 (dk_at dksX4_falls_0 15 rfl rfl)
theorem dX4_falls_16 : decode cX4_falls 16 = .ok (.aload_n 0, 1) := dk_42 (dk_at dksX4_falls_0 16 rfl rfl)
theorem dX4_falls_17 : decode cX4_falls 17 = .ok (.iload_n 2, 1) := dk_28 (dk_at dksX4_falls_0 17 rfl rfl)
theorem dX4_falls_18 : decode cX4_falls 18 = .ok (.iconst 3, 1) := dk_6 (dk_at dksX4_falls_0 18 rfl rfl)
theorem dX4_falls_19 : decode cX4_falls 19 = .ok (.iload_n 3, 1) := dk_29 (dk_at dksX4_falls_0 19 rfl rfl)
theorem dX4_falls_20 : decode cX4_falls 20 = .ok (.sipush 999, 3) := dk_17 3 231 (dk_at dksX4_falls_0 20 rfl rfl)
theorem dX4_falls_23 : decode cX4_falls 23 = .ok (.if_icmp .le 9, 3) := dk_164 0 9 (dk_at dksX4_falls_1 0 rfl rfl)
theorem dX4_falls_26 : decode cX4_falls 26 = .ok (.sipush 999, 3) := dk_17 3 231 (dk_at dksX4_falls_1 3 rfl rfl)
theorem dX4_falls_29 : decode cX4_falls 29 = .ok (.goto 4, 3) := dk_167 0 4 (dk_at dksX4_falls_1 6 rfl rfl)
theorem dX4_falls_32 : decode cX4_falls 32 = .ok (.iload_n 3, 1) := dk_29 (dk_at dksX4_falls_1 9 rfl rfl)
theorem dX4_falls_33 : decode cX4_falls 33 = .ok (.invokevirtual 299, 3) := dk_182 1 43 (dk_at dksX4_falls_1 10 rfl rfl)
theorem dX4_falls_36 : decode cX4_falls 36 = .ok (.aload_n 0, 1) := dk_42 (dk_at dksX4_falls_1 13 rfl rfl)
theorem dX4_falls_37 : decode cX4_falls 37 = .ok (.iload_n 1, 1) := dk_27 (dk_at dksX4_falls_1 14 rfl rfl)
theorem dX4_falls_38 : decode cX4_falls 38 = .ok (.iconst 3, 1) := dk_6 (dk_at dksX4_falls_1 15 rfl rfl)
theorem dX4_falls_39 : decode cX4_falls 39 = .ok (.iconst 0, 1) := dk_3 (dk_at dksX4_falls_1 16 rfl rfl)
theorem dX4_falls_40 : decode cX4_falls 40 = .ok (.invokevirtual 299, 3) := dk_182 1 43 (dk_at dksX4_falls_1 17 rfl rfl)
theorem dX4_falls_43 : decode cX4_falls 43 = .ok (.aload_n 0, 1) := dk_42 (dk_at dksX4_falls_1 20 rfl rfl)
theorem dX4_falls_44 : decode cX4_falls 44 = .ok (.iload_n 1, 1) := dk_27 (dk_at dksX4_falls_1 21 rfl rfl)
theorem dX4_falls_45 : decode cX4_falls 45 = .ok (.iconst 2, 1) := dk_5 (dk_at dksX4_falls_1 22 rfl rfl)
theorem dX4_falls_46 : decode cX4_falls 46 = .ok (.aload_n 0, 1) := dk_42 (dk_at dksX4_falls_1 23 rfl rfl)
theorem dX4_falls_47 : decode cX4_falls 47 = .ok (.iload_n 1, 1) := dk_27 (dk_at dksX4_falls_2 0 rfl rfl)
theorem dX4_falls_48 : decode cX4_falls 48 = .ok (.iconst 0, 1) := dk_3 (dk_at dksX4_falls_2 1 rfl rfl)
theorem dX4_falls_49 : decode cX4_falls 49 = .ok (.invokevirtual 292, 3) := dk_182 1 36 (dk_at dksX4_falls_2 2 rfl rfl)
theorem dX4_falls_52 : decode cX4_falls 52 = .ok (.invokevirtual 299, 3) := dk_182 1 43 (dk_at dksX4_falls_2 5 rfl rfl)
theorem dX4_falls_55 : decode cX4_falls 55 = .ok (.aload_n 0, 1) := dk_42 (dk_at dksX4_falls_2 8 rfl rfl)
theorem dX4_falls_56 : decode cX4_falls 56 = .ok (.iload_n 1, 1) := dk_27 (dk_at dksX4_falls_2 9 rfl rfl)
theorem dX4_falls_57 : decode cX4_falls 57 = .ok (.iconst 4, 1) := dk_7 (dk_at dksX4_falls_2 10 rfl rfl)
theorem dX4_falls_58 : decode cX4_falls 58 = .ok (.iconst 0, 1) := dk_3 (dk_at dksX4_falls_2 11 rfl rfl)
theorem dX4_falls_59 : decode cX4_falls 59 = .ok (.invokevirtual 299, 3) := dk_182 1 43 (dk_at dksX4_falls_2 12 rfl rfl)
theorem dX4_falls_62 : decode cX4_falls 62 = .ok (.return_, 1) := dk_177 (dk_at dksX4_falls_2 15 rfl rfl)
abbrev cX4_bout : ByteArray := prog_19_method_69_code
def yX4_bout : MethodName := ⟨RX4, "bout", "(II)I"⟩
def dkwX4_bout_1 : List UInt8 := [182, 1, 109, 42, 27, 28, 182, 1, 100, 62, 29, 156, 0, 8, 16, 254, 167, 0, 4, 29, 172]
abbrev dktX4_bout_1 : List UInt8 := dkwX4_bout_1 ++ []
def dkwX4_bout_0 : List UInt8 := [42, 27, 182, 1, 40, 153, 0, 16, 42, 28, 182, 1, 40, 153, 0, 8, 27, 28, 160, 0, 5, 2, 172, 42]
abbrev dktX4_bout_0 : List UInt8 := dkwX4_bout_0 ++ dktX4_bout_1
theorem dksX4_bout_0 : cX4_bout.data.toList.drop 0 = dktX4_bout_0 := by decide +kernel
theorem dksX4_bout_1 : cX4_bout.data.toList.drop 24 = dktX4_bout_1 := dk_seg dksX4_bout_0 24 rfl rfl
theorem dX4_bout_0 : decode cX4_bout 0 = .ok (.aload_n 0, 1) := dk_42 (dk_at dksX4_bout_0 0 rfl rfl)
theorem dX4_bout_1 : decode cX4_bout 1 = .ok (.iload_n 1, 1) := dk_27 (dk_at dksX4_bout_0 1 rfl rfl)
theorem dX4_bout_2 : decode cX4_bout 2 = .ok (.invokevirtual 296, 3) := dk_182 1 40 (dk_at dksX4_bout_0 2 rfl rfl)
theorem dX4_bout_5 : decode cX4_bout 5 = .ok (.ifCond .eq 16, 3) := dk_153 0 16 (dk_at dksX4_bout_0 5 rfl rfl)
theorem dX4_bout_8 : decode cX4_bout 8 = .ok (.aload_n 0, 1) := dk_42 (dk_at dksX4_bout_0 8 rfl rfl)
theorem dX4_bout_9 : decode cX4_bout 9 = .ok (.iload_n 2, 1) := dk_28 (dk_at dksX4_bout_0 9 rfl rfl)
theorem dX4_bout_10 : decode cX4_bout 10 = .ok (.invokevirtual 296, 3) := dk_182 1 40 (dk_at dksX4_bout_0 10 rfl rfl)
theorem dX4_bout_13 : decode cX4_bout 13 = .ok (.ifCond .eq 8, 3) := dk_153 0 8 (dk_at dksX4_bout_0 13 rfl rfl)
theorem dX4_bout_16 : decode cX4_bout 16 = .ok (.iload_n 1, 1) := dk_27 (dk_at dksX4_bout_0 16 rfl rfl)
theorem dX4_bout_17 : decode cX4_bout 17 = .ok (.iload_n 2, 1) := dk_28 (dk_at dksX4_bout_0 17 rfl rfl)
theorem dX4_bout_18 : decode cX4_bout 18 = .ok (.if_icmp .ne 5, 3) := dk_160 0 5 (dk_at dksX4_bout_0 18 rfl rfl)
theorem dX4_bout_21 : decode cX4_bout 21 = .ok (.iconst (-1), 1) := dk_2 (dk_at dksX4_bout_0 21 rfl rfl)
theorem dX4_bout_22 : decode cX4_bout 22 = .ok (.ireturn, 1) := dk_172 (dk_at dksX4_bout_0 22 rfl rfl)
theorem dX4_bout_23 : decode cX4_bout 23 = .ok (.aload_n 0, 1) := dk_42 (dk_at dksX4_bout_0 23 rfl rfl)
theorem dX4_bout_24 : decode cX4_bout 24 = .ok (.invokevirtual 365, 3) := dk_182 1 109 (dk_at dksX4_bout_1 0 rfl rfl)
theorem dX4_bout_27 : decode cX4_bout 27 = .ok (.aload_n 0, 1) := dk_42 (dk_at dksX4_bout_1 3 rfl rfl)
theorem dX4_bout_28 : decode cX4_bout 28 = .ok (.iload_n 1, 1) := dk_27 (dk_at dksX4_bout_1 4 rfl rfl)
theorem dX4_bout_29 : decode cX4_bout 29 = .ok (.iload_n 2, 1) := dk_28 (dk_at dksX4_bout_1 5 rfl rfl)
theorem dX4_bout_30 : decode cX4_bout 30 = .ok (.invokevirtual 356, 3) := dk_182 1 100 (dk_at dksX4_bout_1 6 rfl rfl)
theorem dX4_bout_33 : decode cX4_bout 33 = .ok (.istore_n 3, 1) := dk_62 (dk_at dksX4_bout_1 9 rfl rfl)
theorem dX4_bout_34 : decode cX4_bout 34 = .ok (.iload_n 3, 1) := dk_29 (dk_at dksX4_bout_1 10 rfl rfl)
theorem dX4_bout_35 : decode cX4_bout 35 = .ok (.ifCond .ge 8, 3) := dk_156 0 8 (dk_at dksX4_bout_1 11 rfl rfl)
theorem dX4_bout_38 : decode cX4_bout 38 = .ok (.bipush (-2), 2) := dk_16 254 (dk_at dksX4_bout_1 14 rfl rfl)
theorem dX4_bout_40 : decode cX4_bout 40 = .ok (.goto 4, 3) := dk_167 0 4 (dk_at dksX4_bout_1 16 rfl rfl)
theorem dX4_bout_43 : decode cX4_bout 43 = .ok (.iload_n 3, 1) := dk_29 (dk_at dksX4_bout_1 19 rfl rfl)
theorem dX4_bout_44 : decode cX4_bout 44 = .ok (.ireturn, 1) := dk_172 (dk_at dksX4_bout_1 20 rfl rfl)
abbrev cX4_pickle : ByteArray := prog_19_method_71_code
def yX4_pickle : MethodName := ⟨RX4, "pickle", "(II)I"⟩
def dkwX4_pickle_1 : List UInt8 := [182, 1, 109, 42, 27, 28, 182, 1, 114, 42, 27, 3, 182, 1, 36, 172]
abbrev dktX4_pickle_1 : List UInt8 := dkwX4_pickle_1 ++ []
def dkwX4_pickle_0 : List UInt8 := [42, 27, 182, 1, 40, 153, 0, 15, 28, 133, 10, 20, 1, 112, 184, 0, 124, 154, 0, 5, 2, 172, 42]
abbrev dktX4_pickle_0 : List UInt8 := dkwX4_pickle_0 ++ dktX4_pickle_1
theorem dksX4_pickle_0 : cX4_pickle.data.toList.drop 0 = dktX4_pickle_0 := by decide +kernel
theorem dksX4_pickle_1 : cX4_pickle.data.toList.drop 23 = dktX4_pickle_1 := dk_seg dksX4_pickle_0 23 rfl rfl
theorem dX4_pickle_0 : decode cX4_pickle 0 = .ok (.aload_n 0, 1) := dk_42 (dk_at dksX4_pickle_0 0 rfl rfl)
theorem dX4_pickle_1 : decode cX4_pickle 1 = .ok (.iload_n 1, 1) := dk_27 (dk_at dksX4_pickle_0 1 rfl rfl)
theorem dX4_pickle_2 : decode cX4_pickle 2 = .ok (.invokevirtual 296, 3) := dk_182 1 40 (dk_at dksX4_pickle_0 2 rfl rfl)
theorem dX4_pickle_5 : decode cX4_pickle 5 = .ok (.ifCond .eq 15, 3) := dk_153 0 15 (dk_at dksX4_pickle_0 5 rfl rfl)
theorem dX4_pickle_8 : decode cX4_pickle 8 = .ok (.iload_n 2, 1) := dk_28 (dk_at dksX4_pickle_0 8 rfl rfl)
theorem dX4_pickle_9 : decode cX4_pickle 9 = .ok (.i2l, 1) := dk_133 (dk_at dksX4_pickle_0 9 rfl rfl)
theorem dX4_pickle_10 : decode cX4_pickle 10 = .ok (.lconst 1, 1) := dk_10 (dk_at dksX4_pickle_0 10 rfl rfl)
theorem dX4_pickle_11 : decode cX4_pickle 11 = .ok (.ldc2_w 368, 3) := dk_20 1 112 (dk_at dksX4_pickle_0 11 rfl rfl)
theorem dX4_pickle_14 : decode cX4_pickle 14 = .ok (.invokestatic 124, 3) := dk_184 0 124 (dk_at dksX4_pickle_0 14 rfl rfl)
theorem dX4_pickle_17 : decode cX4_pickle 17 = .ok (.ifCond .ne 5, 3) := dk_154 0 5 (dk_at dksX4_pickle_0 17 rfl rfl)
theorem dX4_pickle_20 : decode cX4_pickle 20 = .ok (.iconst (-1), 1) := dk_2 (dk_at dksX4_pickle_0 20 rfl rfl)
theorem dX4_pickle_21 : decode cX4_pickle 21 = .ok (.ireturn, 1) := dk_172 (dk_at dksX4_pickle_0 21 rfl rfl)
theorem dX4_pickle_22 : decode cX4_pickle 22 = .ok (.aload_n 0, 1) := dk_42 (dk_at dksX4_pickle_0 22 rfl rfl)
theorem dX4_pickle_23 : decode cX4_pickle 23 = .ok (.invokevirtual 365, 3) := dk_182 1 109 (dk_at dksX4_pickle_1 0 rfl rfl)
theorem dX4_pickle_26 : decode cX4_pickle 26 = .ok (.aload_n 0, 1) := dk_42 (dk_at dksX4_pickle_1 3 rfl rfl)
theorem dX4_pickle_27 : decode cX4_pickle 27 = .ok (.iload_n 1, 1) := dk_27 (dk_at dksX4_pickle_1 4 rfl rfl)
theorem dX4_pickle_28 : decode cX4_pickle 28 = .ok (.iload_n 2, 1) := dk_28 (dk_at dksX4_pickle_1 5 rfl rfl)
theorem dX4_pickle_29 : decode cX4_pickle 29 = .ok (.invokevirtual 370, 3) := dk_182 1 114 (dk_at dksX4_pickle_1 6 rfl rfl)
theorem dX4_pickle_32 : decode cX4_pickle 32 = .ok (.aload_n 0, 1) := dk_42 (dk_at dksX4_pickle_1 9 rfl rfl)
theorem dX4_pickle_33 : decode cX4_pickle 33 = .ok (.iload_n 1, 1) := dk_27 (dk_at dksX4_pickle_1 10 rfl rfl)
theorem dX4_pickle_34 : decode cX4_pickle 34 = .ok (.iconst 0, 1) := dk_3 (dk_at dksX4_pickle_1 11 rfl rfl)
theorem dX4_pickle_35 : decode cX4_pickle 35 = .ok (.invokevirtual 292, 3) := dk_182 1 36 (dk_at dksX4_pickle_1 12 rfl rfl)
theorem dX4_pickle_38 : decode cX4_pickle 38 = .ok (.ireturn, 1) := dk_172 (dk_at dksX4_pickle_1 15 rfl rfl)
abbrev cX4_hardens : ByteArray := prog_19_method_70_code
def yX4_hardens : MethodName := ⟨RX4, "hardens", "(II)V"⟩
def dkwX4_hardens_1 : List UInt8 := [182, 1, 43, 177]
abbrev dktX4_hardens_1 : List UInt8 := dkwX4_hardens_1 ++ []
def dkwX4_hardens_0 : List UInt8 := [42, 27, 3, 182, 1, 36, 28, 96, 62, 42, 27, 3, 29, 16, 60, 164, 0, 8, 16, 60, 167, 0, 4, 29]
abbrev dktX4_hardens_0 : List UInt8 := dkwX4_hardens_0 ++ dktX4_hardens_1
theorem dksX4_hardens_0 : cX4_hardens.data.toList.drop 0 = dktX4_hardens_0 := by decide +kernel
theorem dksX4_hardens_1 : cX4_hardens.data.toList.drop 24 = dktX4_hardens_1 := dk_seg dksX4_hardens_0 24 rfl rfl
theorem dX4_hardens_0 : decode cX4_hardens 0 = .ok (.aload_n 0, 1) := dk_42 (dk_at dksX4_hardens_0 0 rfl rfl)
theorem dX4_hardens_1 : decode cX4_hardens 1 = .ok (.iload_n 1, 1) := dk_27 (dk_at dksX4_hardens_0 1 rfl rfl)
theorem dX4_hardens_2 : decode cX4_hardens 2 = .ok (.iconst 0, 1) := dk_3 (dk_at dksX4_hardens_0 2 rfl rfl)
theorem dX4_hardens_3 : decode cX4_hardens 3 = .ok (.invokevirtual 292, 3) := dk_182 1 36 (dk_at dksX4_hardens_0 3 rfl rfl)
theorem dX4_hardens_6 : decode cX4_hardens 6 = .ok (.iload_n 2, 1) := dk_28 (dk_at dksX4_hardens_0 6 rfl rfl)
theorem dX4_hardens_7 : decode cX4_hardens 7 = .ok (.iadd, 1) := dk_96 (dk_at dksX4_hardens_0 7 rfl rfl)
theorem dX4_hardens_8 : decode cX4_hardens 8 = .ok (.istore_n 3, 1) := dk_62 (dk_at dksX4_hardens_0 8 rfl rfl)
theorem dX4_hardens_9 : decode cX4_hardens 9 = .ok (.aload_n 0, 1) := dk_42 (dk_at dksX4_hardens_0 9 rfl rfl)
theorem dX4_hardens_10 : decode cX4_hardens 10 = .ok (.iload_n 1, 1) := dk_27 (dk_at dksX4_hardens_0 10 rfl rfl)
theorem dX4_hardens_11 : decode cX4_hardens 11 = .ok (.iconst 0, 1) := dk_3 (dk_at dksX4_hardens_0 11 rfl rfl)
theorem dX4_hardens_12 : decode cX4_hardens 12 = .ok (.iload_n 3, 1) := dk_29 (dk_at dksX4_hardens_0 12 rfl rfl)
theorem dX4_hardens_13 : decode cX4_hardens 13 = .ok (.bipush 60, 2) := dk_16 60 (dk_at dksX4_hardens_0 13 rfl rfl)
theorem dX4_hardens_15 : decode cX4_hardens 15 = .ok (.if_icmp .le 8, 3) := dk_164 0 8 (dk_at dksX4_hardens_0 15 rfl rfl)
theorem dX4_hardens_18 : decode cX4_hardens 18 = .ok (.bipush 60, 2) := dk_16 60 (dk_at dksX4_hardens_0 18 rfl rfl)
theorem dX4_hardens_20 : decode cX4_hardens 20 = .ok (.goto 4, 3) := dk_167 0 4 (dk_at dksX4_hardens_0 20 rfl rfl)
theorem dX4_hardens_23 : decode cX4_hardens 23 = .ok (.iload_n 3, 1) := dk_29 (dk_at dksX4_hardens_0 23 rfl rfl)
theorem dX4_hardens_24 : decode cX4_hardens 24 = .ok (.invokevirtual 299, 3) := dk_182 1 43 (dk_at dksX4_hardens_1 0 rfl rfl)
theorem dX4_hardens_27 : decode cX4_hardens 27 = .ok (.return_, 1) := dk_177 (dk_at dksX4_hardens_1 3 rfl rfl)
abbrev cX4_mend : ByteArray := prog_19_method_72_code
def yX4_mend : MethodName := ⟨RX4, "mend", "(I)I"⟩
def dkwX4_mend_1 : List UInt8 := [27, 5, 182, 1, 36, 61, 42, 27, 5, 3, 182, 1, 43, 28, 172]
abbrev dktX4_mend_1 : List UInt8 := dkwX4_mend_1 ++ []
def dkwX4_mend_0 : List UInt8 := [42, 27, 182, 1, 40, 153, 0, 12, 42, 27, 5, 182, 1, 36, 154, 0, 5, 2, 172, 42, 182, 1, 109, 42]
abbrev dktX4_mend_0 : List UInt8 := dkwX4_mend_0 ++ dktX4_mend_1
theorem dksX4_mend_0 : cX4_mend.data.toList.drop 0 = dktX4_mend_0 := by decide +kernel
theorem dksX4_mend_1 : cX4_mend.data.toList.drop 24 = dktX4_mend_1 := dk_seg dksX4_mend_0 24 rfl rfl
theorem dX4_mend_0 : decode cX4_mend 0 = .ok (.aload_n 0, 1) := dk_42 (dk_at dksX4_mend_0 0 rfl rfl)
theorem dX4_mend_1 : decode cX4_mend 1 = .ok (.iload_n 1, 1) := dk_27 (dk_at dksX4_mend_0 1 rfl rfl)
theorem dX4_mend_2 : decode cX4_mend 2 = .ok (.invokevirtual 296, 3) := dk_182 1 40 (dk_at dksX4_mend_0 2 rfl rfl)
theorem dX4_mend_5 : decode cX4_mend 5 = .ok (.ifCond .eq 12, 3) := dk_153 0 12 (dk_at dksX4_mend_0 5 rfl rfl)
theorem dX4_mend_8 : decode cX4_mend 8 = .ok (.aload_n 0, 1) := dk_42 (dk_at dksX4_mend_0 8 rfl rfl)
theorem dX4_mend_9 : decode cX4_mend 9 = .ok (.iload_n 1, 1) := dk_27 (dk_at dksX4_mend_0 9 rfl rfl)
theorem dX4_mend_10 : decode cX4_mend 10 = .ok (.iconst 2, 1) := dk_5 (dk_at dksX4_mend_0 10 rfl rfl)
theorem dX4_mend_11 : decode cX4_mend 11 = .ok (.invokevirtual 292, 3) := dk_182 1 36 (dk_at dksX4_mend_0 11 rfl rfl)
theorem dX4_mend_14 : decode cX4_mend 14 = .ok (.ifCond .ne 5, 3) := dk_154 0 5 (dk_at dksX4_mend_0 14 rfl rfl)
theorem dX4_mend_17 : decode cX4_mend 17 = .ok (.iconst (-1), 1) := dk_2 (dk_at dksX4_mend_0 17 rfl rfl)
theorem dX4_mend_18 : decode cX4_mend 18 = .ok (.ireturn, 1) := dk_172 (dk_at dksX4_mend_0 18 rfl rfl)
theorem dX4_mend_19 : decode cX4_mend 19 = .ok (.aload_n 0, 1) := dk_42 (dk_at dksX4_mend_0 19 rfl rfl)
theorem dX4_mend_20 : decode cX4_mend 20 = .ok (.invokevirtual 365, 3) := dk_182 1 109 (dk_at dksX4_mend_0 20 rfl rfl)
theorem dX4_mend_23 : decode cX4_mend 23 = .ok (.aload_n 0, 1) := dk_42 (dk_at dksX4_mend_0 23 rfl rfl)
theorem dX4_mend_24 : decode cX4_mend 24 = .ok (.iload_n 1, 1) := dk_27 (dk_at dksX4_mend_1 0 rfl rfl)
theorem dX4_mend_25 : decode cX4_mend 25 = .ok (.iconst 2, 1) := dk_5 (dk_at dksX4_mend_1 1 rfl rfl)
theorem dX4_mend_26 : decode cX4_mend 26 = .ok (.invokevirtual 292, 3) := dk_182 1 36 (dk_at dksX4_mend_1 2 rfl rfl)
theorem dX4_mend_29 : decode cX4_mend 29 = .ok (.istore_n 2, 1) := dk_61 (dk_at dksX4_mend_1 5 rfl rfl)
theorem dX4_mend_30 : decode cX4_mend 30 = .ok (.aload_n 0, 1) := dk_42 (dk_at dksX4_mend_1 6 rfl rfl)
theorem dX4_mend_31 : decode cX4_mend 31 = .ok (.iload_n 1, 1) := dk_27 (dk_at dksX4_mend_1 7 rfl rfl)
theorem dX4_mend_32 : decode cX4_mend 32 = .ok (.iconst 2, 1) := dk_5 (dk_at dksX4_mend_1 8 rfl rfl)
theorem dX4_mend_33 : decode cX4_mend 33 = .ok (.iconst 0, 1) := dk_3 (dk_at dksX4_mend_1 9 rfl rfl)
theorem dX4_mend_34 : decode cX4_mend 34 = .ok (.invokevirtual 299, 3) := dk_182 1 43 (dk_at dksX4_mend_1 10 rfl rfl)
theorem dX4_mend_37 : decode cX4_mend 37 = .ok (.iload_n 2, 1) := dk_28 (dk_at dksX4_mend_1 13 rfl rfl)
theorem dX4_mend_38 : decode cX4_mend 38 = .ok (.ireturn, 1) := dk_172 (dk_at dksX4_mend_1 14 rfl rfl)
abbrev cX4_string : ByteArray := prog_19_method_73_code
def yX4_string : MethodName := ⟨RX4, "string", "(II)I"⟩
def dkwX4_string_2 : List UInt8 := [182, 1, 43, 29, 172]
abbrev dktX4_string_2 : List UInt8 := dkwX4_string_2 ++ []
def dkwX4_string_1 : List UInt8 := [182, 1, 36, 28, 160, 0, 5, 2, 172, 42, 182, 1, 109, 42, 27, 4, 182, 1, 36, 62, 42, 27, 4, 28]
abbrev dktX4_string_1 : List UInt8 := dkwX4_string_1 ++ dktX4_string_2
def dkwX4_string_0 : List UInt8 := [42, 27, 182, 1, 40, 153, 0, 25, 28, 133, 10, 20, 1, 117, 184, 0, 124, 153, 0, 13, 42, 27, 4]
abbrev dktX4_string_0 : List UInt8 := dkwX4_string_0 ++ dktX4_string_1
theorem dksX4_string_0 : cX4_string.data.toList.drop 0 = dktX4_string_0 := by decide +kernel
theorem dksX4_string_1 : cX4_string.data.toList.drop 23 = dktX4_string_1 := dk_seg dksX4_string_0 23 rfl rfl
theorem dksX4_string_2 : cX4_string.data.toList.drop 47 = dktX4_string_2 := dk_seg dksX4_string_1 24 rfl rfl
theorem dX4_string_0 : decode cX4_string 0 = .ok (.aload_n 0, 1) := dk_42 (dk_at dksX4_string_0 0 rfl rfl)
theorem dX4_string_1 : decode cX4_string 1 = .ok (.iload_n 1, 1) := dk_27 (dk_at dksX4_string_0 1 rfl rfl)
theorem dX4_string_2 : decode cX4_string 2 = .ok (.invokevirtual 296, 3) := dk_182 1 40 (dk_at dksX4_string_0 2 rfl rfl)
theorem dX4_string_5 : decode cX4_string 5 = .ok (.ifCond .eq 25, 3) := dk_153 0 25 (dk_at dksX4_string_0 5 rfl rfl)
theorem dX4_string_8 : decode cX4_string 8 = .ok (.iload_n 2, 1) := dk_28 (dk_at dksX4_string_0 8 rfl rfl)
theorem dX4_string_9 : decode cX4_string 9 = .ok (.i2l, 1) := dk_133 (dk_at dksX4_string_0 9 rfl rfl)
theorem dX4_string_10 : decode cX4_string 10 = .ok (.lconst 1, 1) := dk_10 (dk_at dksX4_string_0 10 rfl rfl)
theorem dX4_string_11 : decode cX4_string 11 = .ok (.ldc2_w 373, 3) := dk_20 1 117 (dk_at dksX4_string_0 11 rfl rfl)
theorem dX4_string_14 : decode cX4_string 14 = .ok (.invokestatic 124, 3) := dk_184 0 124 (dk_at dksX4_string_0 14 rfl rfl)
theorem dX4_string_17 : decode cX4_string 17 = .ok (.ifCond .eq 13, 3) := dk_153 0 13 (dk_at dksX4_string_0 17 rfl rfl)
theorem dX4_string_20 : decode cX4_string 20 = .ok (.aload_n 0, 1) := dk_42 (dk_at dksX4_string_0 20 rfl rfl)
theorem dX4_string_21 : decode cX4_string 21 = .ok (.iload_n 1, 1) := dk_27 (dk_at dksX4_string_0 21 rfl rfl)
theorem dX4_string_22 : decode cX4_string 22 = .ok (.iconst 1, 1) := dk_4 (dk_at dksX4_string_0 22 rfl rfl)
theorem dX4_string_23 : decode cX4_string 23 = .ok (.invokevirtual 292, 3) := dk_182 1 36 (dk_at dksX4_string_1 0 rfl rfl)
theorem dX4_string_26 : decode cX4_string 26 = .ok (.iload_n 2, 1) := dk_28 (dk_at dksX4_string_1 3 rfl rfl)
theorem dX4_string_27 : decode cX4_string 27 = .ok (.if_icmp .ne 5, 3) := dk_160 0 5 (dk_at dksX4_string_1 4 rfl rfl)
theorem dX4_string_30 : decode cX4_string 30 = .ok (.iconst (-1), 1) := dk_2 (dk_at dksX4_string_1 7 rfl rfl)
theorem dX4_string_31 : decode cX4_string 31 = .ok (.ireturn, 1) := dk_172 (dk_at dksX4_string_1 8 rfl rfl)
theorem dX4_string_32 : decode cX4_string 32 = .ok (.aload_n 0, 1) := dk_42 (dk_at dksX4_string_1 9 rfl rfl)
theorem dX4_string_33 : decode cX4_string 33 = .ok (.invokevirtual 365, 3) := dk_182 1 109 (dk_at dksX4_string_1 10 rfl rfl)
theorem dX4_string_36 : decode cX4_string 36 = .ok (.aload_n 0, 1) := dk_42 (dk_at dksX4_string_1 13 rfl rfl)
theorem dX4_string_37 : decode cX4_string 37 = .ok (.iload_n 1, 1) := dk_27 (dk_at dksX4_string_1 14 rfl rfl)
theorem dX4_string_38 : decode cX4_string 38 = .ok (.iconst 1, 1) := dk_4 (dk_at dksX4_string_1 15 rfl rfl)
theorem dX4_string_39 : decode cX4_string 39 = .ok (.invokevirtual 292, 3) := dk_182 1 36 (dk_at dksX4_string_1 16 rfl rfl)
theorem dX4_string_42 : decode cX4_string 42 = .ok (.istore_n 3, 1) := dk_62 (dk_at dksX4_string_1 19 rfl rfl)
theorem dX4_string_43 : decode cX4_string 43 = .ok (.aload_n 0, 1) := dk_42 (dk_at dksX4_string_1 20 rfl rfl)
theorem dX4_string_44 : decode cX4_string 44 = .ok (.iload_n 1, 1) := dk_27 (dk_at dksX4_string_1 21 rfl rfl)
theorem dX4_string_45 : decode cX4_string 45 = .ok (.iconst 1, 1) := dk_4 (dk_at dksX4_string_1 22 rfl rfl)
theorem dX4_string_46 : decode cX4_string 46 = .ok (.iload_n 2, 1) := dk_28 (dk_at dksX4_string_1 23 rfl rfl)
theorem dX4_string_47 : decode cX4_string 47 = .ok (.invokevirtual 299, 3) := dk_182 1 43 (dk_at dksX4_string_2 0 rfl rfl)
theorem dX4_string_50 : decode cX4_string 50 = .ok (.iload_n 3, 1) := dk_29 (dk_at dksX4_string_2 3 rfl rfl)
theorem dX4_string_51 : decode cX4_string 51 = .ok (.ireturn, 1) := dk_172 (dk_at dksX4_string_2 4 rfl rfl)
abbrev cX4_would : ByteArray := prog_19_method_74_code
def yX4_would : MethodName := ⟨RX4, "would", "(III)I"⟩
def dkwX4_would_3 : List UInt8 := [27, 172]
abbrev dktX4_would_3 : List UInt8 := dkwX4_would_3 ++ []
def dkwX4_would_2 : List UInt8 := [180, 1, 58, 172, 21, 4, 156, 0, 8, 16, 254, 167, 0, 14, 21, 4, 27, 160, 0, 7, 28, 167, 0, 4]
abbrev dktX4_would_2 : List UInt8 := dkwX4_would_2 ++ dktX4_would_3
def dkwX4_would_1 : List UInt8 := [10, 184, 0, 124, 154, 0, 5, 2, 172, 42, 27, 28, 182, 1, 61, 54, 4, 29, 4, 160, 0, 8, 42]
abbrev dktX4_would_1 : List UInt8 := dkwX4_would_1 ++ dktX4_would_2
def dkwX4_would_0 : List UInt8 := [42, 27, 182, 1, 40, 153, 0, 26, 42, 28, 182, 1, 40, 153, 0, 18, 27, 28, 159, 0, 13, 29, 133, 9]
abbrev dktX4_would_0 : List UInt8 := dkwX4_would_0 ++ dktX4_would_1
theorem dksX4_would_0 : cX4_would.data.toList.drop 0 = dktX4_would_0 := by decide +kernel
theorem dksX4_would_1 : cX4_would.data.toList.drop 24 = dktX4_would_1 := dk_seg dksX4_would_0 24 rfl rfl
theorem dksX4_would_2 : cX4_would.data.toList.drop 47 = dktX4_would_2 := dk_seg dksX4_would_1 23 rfl rfl
theorem dksX4_would_3 : cX4_would.data.toList.drop 71 = dktX4_would_3 := dk_seg dksX4_would_2 24 rfl rfl
theorem dX4_would_0 : decode cX4_would 0 = .ok (.aload_n 0, 1) := dk_42 (dk_at dksX4_would_0 0 rfl rfl)
theorem dX4_would_1 : decode cX4_would 1 = .ok (.iload_n 1, 1) := dk_27 (dk_at dksX4_would_0 1 rfl rfl)
theorem dX4_would_2 : decode cX4_would 2 = .ok (.invokevirtual 296, 3) := dk_182 1 40 (dk_at dksX4_would_0 2 rfl rfl)
theorem dX4_would_5 : decode cX4_would 5 = .ok (.ifCond .eq 26, 3) := dk_153 0 26 (dk_at dksX4_would_0 5 rfl rfl)
theorem dX4_would_8 : decode cX4_would 8 = .ok (.aload_n 0, 1) := dk_42 (dk_at dksX4_would_0 8 rfl rfl)
theorem dX4_would_9 : decode cX4_would 9 = .ok (.iload_n 2, 1) := dk_28 (dk_at dksX4_would_0 9 rfl rfl)
theorem dX4_would_10 : decode cX4_would 10 = .ok (.invokevirtual 296, 3) := dk_182 1 40 (dk_at dksX4_would_0 10 rfl rfl)
theorem dX4_would_13 : decode cX4_would 13 = .ok (.ifCond .eq 18, 3) := dk_153 0 18 (dk_at dksX4_would_0 13 rfl rfl)
theorem dX4_would_16 : decode cX4_would 16 = .ok (.iload_n 1, 1) := dk_27 (dk_at dksX4_would_0 16 rfl rfl)
theorem dX4_would_17 : decode cX4_would 17 = .ok (.iload_n 2, 1) := dk_28 (dk_at dksX4_would_0 17 rfl rfl)
theorem dX4_would_18 : decode cX4_would 18 = .ok (.if_icmp .eq 13, 3) := dk_159 0 13 (dk_at dksX4_would_0 18 rfl rfl)
theorem dX4_would_21 : decode cX4_would 21 = .ok (.iload_n 3, 1) := dk_29 (dk_at dksX4_would_0 21 rfl rfl)
theorem dX4_would_22 : decode cX4_would 22 = .ok (.i2l, 1) := dk_133 (dk_at dksX4_would_0 22 rfl rfl)
theorem dX4_would_23 : decode cX4_would 23 = .ok (.lconst 0, 1) := dk_9 (dk_at dksX4_would_0 23 rfl rfl)
theorem dX4_would_24 : decode cX4_would 24 = .ok (.lconst 1, 1) := dk_10 (dk_at dksX4_would_1 0 rfl rfl)
theorem dX4_would_25 : decode cX4_would 25 = .ok (.invokestatic 124, 3) := dk_184 0 124 (dk_at dksX4_would_1 1 rfl rfl)
theorem dX4_would_28 : decode cX4_would 28 = .ok (.ifCond .ne 5, 3) := dk_154 0 5 (dk_at dksX4_would_1 4 rfl rfl)
theorem dX4_would_31 : decode cX4_would 31 = .ok (.iconst (-1), 1) := dk_2 (dk_at dksX4_would_1 7 rfl rfl)
theorem dX4_would_32 : decode cX4_would 32 = .ok (.ireturn, 1) := dk_172 (dk_at dksX4_would_1 8 rfl rfl)
theorem dX4_would_33 : decode cX4_would 33 = .ok (.aload_n 0, 1) := dk_42 (dk_at dksX4_would_1 9 rfl rfl)
theorem dX4_would_34 : decode cX4_would 34 = .ok (.iload_n 1, 1) := dk_27 (dk_at dksX4_would_1 10 rfl rfl)
theorem dX4_would_35 : decode cX4_would 35 = .ok (.iload_n 2, 1) := dk_28 (dk_at dksX4_would_1 11 rfl rfl)
theorem dX4_would_36 : decode cX4_would 36 = .ok (.invokevirtual 317, 3) := dk_182 1 61 (dk_at dksX4_would_1 12 rfl rfl)
theorem dX4_would_39 : decode cX4_would 39 = .ok (.istore 4, 2) := dk_54 4 (dk_at dksX4_would_1 15 rfl rfl)
theorem dX4_would_41 : decode cX4_would 41 = .ok (.iload_n 3, 1) := dk_29 (dk_at dksX4_would_1 17 rfl rfl)
theorem dX4_would_42 : decode cX4_would 42 = .ok (.iconst 1, 1) := dk_4 (dk_at dksX4_would_1 18 rfl rfl)
theorem dX4_would_43 : decode cX4_would 43 = .ok (.if_icmp .ne 8, 3) := dk_160 0 8 (dk_at dksX4_would_1 19 rfl rfl)
theorem dX4_would_46 : decode cX4_would 46 = .ok (.aload_n 0, 1) := dk_42 (dk_at dksX4_would_1 22 rfl rfl)
theorem dX4_would_47 : decode cX4_would 47 = .ok (.getfield 314, 3) := dk_180 1 58 (dk_at dksX4_would_2 0 rfl rfl)
theorem dX4_would_50 : decode cX4_would 50 = .ok (.ireturn, 1) := dk_172 (dk_at dksX4_would_2 3 rfl rfl)
theorem dX4_would_51 : decode cX4_would 51 = .ok (.iload 4, 2) := dk_21 4 (dk_at dksX4_would_2 4 rfl rfl)
theorem dX4_would_53 : decode cX4_would 53 = .ok (.ifCond .ge 8, 3) := dk_156 0 8 (dk_at dksX4_would_2 6 rfl rfl)
theorem dX4_would_56 : decode cX4_would 56 = .ok (.bipush (-2), 2) := dk_16 254 (dk_at dksX4_would_2 9 rfl rfl)
theorem dX4_would_58 : decode cX4_would 58 = .ok (.goto 14, 3) := dk_167 0 14 (dk_at dksX4_would_2 11 rfl rfl)
theorem dX4_would_61 : decode cX4_would 61 = .ok (.iload 4, 2) := dk_21 4 (dk_at dksX4_would_2 14 rfl rfl)
theorem dX4_would_63 : decode cX4_would 63 = .ok (.iload_n 1, 1) := dk_27 (dk_at dksX4_would_2 16 rfl rfl)
theorem dX4_would_64 : decode cX4_would 64 = .ok (.if_icmp .ne 7, 3) := dk_160 0 7 (dk_at dksX4_would_2 17 rfl rfl)
theorem dX4_would_67 : decode cX4_would 67 = .ok (.iload_n 2, 1) := dk_28 (dk_at dksX4_would_2 20 rfl rfl)
theorem dX4_would_68 : decode cX4_would 68 = .ok (.goto 4, 3) := dk_167 0 4 (dk_at dksX4_would_2 21 rfl rfl)
theorem dX4_would_71 : decode cX4_would 71 = .ok (.iload_n 1, 1) := dk_27 (dk_at dksX4_would_3 0 rfl rfl)
theorem dX4_would_72 : decode cX4_would 72 = .ok (.ireturn, 1) := dk_172 (dk_at dksX4_would_3 1 rfl rfl)
abbrev cX4_beats : ByteArray := prog_19_method_76_code
def yX4_beats : MethodName := ⟨RX4, "beats", "(I)I"⟩
def dkwX4_beats_0 : List UInt8 := [42, 27, 182, 1, 40, 153, 0, 11, 42, 27, 182, 1, 119, 167, 0, 4, 2, 172]
abbrev dktX4_beats_0 : List UInt8 := dkwX4_beats_0 ++ []
theorem dksX4_beats_0 : cX4_beats.data.toList.drop 0 = dktX4_beats_0 := by decide +kernel
theorem dX4_beats_0 : decode cX4_beats 0 = .ok (.aload_n 0, 1) := dk_42 (dk_at dksX4_beats_0 0 rfl rfl)
theorem dX4_beats_1 : decode cX4_beats 1 = .ok (.iload_n 1, 1) := dk_27 (dk_at dksX4_beats_0 1 rfl rfl)
theorem dX4_beats_2 : decode cX4_beats 2 = .ok (.invokevirtual 296, 3) := dk_182 1 40 (dk_at dksX4_beats_0 2 rfl rfl)
theorem dX4_beats_5 : decode cX4_beats 5 = .ok (.ifCond .eq 11, 3) := dk_153 0 11 (dk_at dksX4_beats_0 5 rfl rfl)
theorem dX4_beats_8 : decode cX4_beats 8 = .ok (.aload_n 0, 1) := dk_42 (dk_at dksX4_beats_0 8 rfl rfl)
theorem dX4_beats_9 : decode cX4_beats 9 = .ok (.iload_n 1, 1) := dk_27 (dk_at dksX4_beats_0 9 rfl rfl)
theorem dX4_beats_10 : decode cX4_beats 10 = .ok (.invokevirtual 375, 3) := dk_182 1 119 (dk_at dksX4_beats_0 10 rfl rfl)
theorem dX4_beats_13 : decode cX4_beats 13 = .ok (.goto 4, 3) := dk_167 0 4 (dk_at dksX4_beats_0 13 rfl rfl)
theorem dX4_beats_16 : decode cX4_beats 16 = .ok (.iconst (-1), 1) := dk_2 (dk_at dksX4_beats_0 16 rfl rfl)
theorem dX4_beats_17 : decode cX4_beats 17 = .ok (.ireturn, 1) := dk_172 (dk_at dksX4_beats_0 17 rfl rfl)
abbrev cX4_beatsOf : ByteArray := prog_19_method_75_code
def yX4_beatsOf : MethodName := ⟨RX4, "beatsOf", "(I)I"⟩
def dkwX4_beatsOf_2 : List UInt8 := [61, 132, 3, 1, 167, 255, 210, 28, 172]
abbrev dktX4_beatsOf_2 : List UInt8 := dkwX4_beatsOf_2 ++ []
def dkwX4_beatsOf_1 : List UInt8 := [182, 1, 40, 153, 0, 19, 42, 27, 29, 182, 1, 61, 29, 160, 0, 9, 4, 29, 120, 167, 0, 4, 3, 128]
abbrev dktX4_beatsOf_1 : List UInt8 := dkwX4_beatsOf_1 ++ dktX4_beatsOf_2
def dkwX4_beatsOf_0 : List UInt8 := [3, 61, 3, 62, 29, 42, 180, 0, 39, 5, 46, 162, 0, 42, 28, 29, 27, 159, 0, 27, 42, 29]
abbrev dktX4_beatsOf_0 : List UInt8 := dkwX4_beatsOf_0 ++ dktX4_beatsOf_1
theorem dksX4_beatsOf_0 : cX4_beatsOf.data.toList.drop 0 = dktX4_beatsOf_0 := by decide +kernel
theorem dksX4_beatsOf_1 : cX4_beatsOf.data.toList.drop 22 = dktX4_beatsOf_1 := dk_seg dksX4_beatsOf_0 22 rfl rfl
theorem dksX4_beatsOf_2 : cX4_beatsOf.data.toList.drop 46 = dktX4_beatsOf_2 := dk_seg dksX4_beatsOf_1 24 rfl rfl
theorem dX4_beatsOf_0 : decode cX4_beatsOf 0 = .ok (.iconst 0, 1) := dk_3 (dk_at dksX4_beatsOf_0 0 rfl rfl)
theorem dX4_beatsOf_1 : decode cX4_beatsOf 1 = .ok (.istore_n 2, 1) := dk_61 (dk_at dksX4_beatsOf_0 1 rfl rfl)
theorem dX4_beatsOf_2 : decode cX4_beatsOf 2 = .ok (.iconst 0, 1) := dk_3 (dk_at dksX4_beatsOf_0 2 rfl rfl)
theorem dX4_beatsOf_3 : decode cX4_beatsOf 3 = .ok (.istore_n 3, 1) := dk_62 (dk_at dksX4_beatsOf_0 3 rfl rfl)
theorem dX4_beatsOf_4 : decode cX4_beatsOf 4 = .ok (.iload_n 3, 1) := dk_29 (dk_at dksX4_beatsOf_0 4 rfl rfl)
theorem dX4_beatsOf_5 : decode cX4_beatsOf 5 = .ok (.aload_n 0, 1) := dk_42 (dk_at dksX4_beatsOf_0 5 rfl rfl)
theorem dX4_beatsOf_6 : decode cX4_beatsOf 6 = .ok (.getfield 39, 3) := dk_180 0 39 (dk_at dksX4_beatsOf_0 6 rfl rfl)
theorem dX4_beatsOf_9 : decode cX4_beatsOf 9 = .ok (.iconst 2, 1) := dk_5 (dk_at dksX4_beatsOf_0 9 rfl rfl)
theorem dX4_beatsOf_10 : decode cX4_beatsOf 10 = .ok (.iaload, 1) := dk_46 (dk_at dksX4_beatsOf_0 10 rfl rfl)
theorem dX4_beatsOf_11 : decode cX4_beatsOf 11 = .ok (.if_icmp .ge 42, 3) := dk_162 0 42 (dk_at dksX4_beatsOf_0 11 rfl rfl)
theorem dX4_beatsOf_14 : decode cX4_beatsOf 14 = .ok (.iload_n 2, 1) := dk_28 (dk_at dksX4_beatsOf_0 14 rfl rfl)
theorem dX4_beatsOf_15 : decode cX4_beatsOf 15 = .ok (.iload_n 3, 1) := dk_29 (dk_at dksX4_beatsOf_0 15 rfl rfl)
theorem dX4_beatsOf_16 : decode cX4_beatsOf 16 = .ok (.iload_n 1, 1) := dk_27 (dk_at dksX4_beatsOf_0 16 rfl rfl)
theorem dX4_beatsOf_17 : decode cX4_beatsOf 17 = .ok (.if_icmp .eq 27, 3) := dk_159 0 27 (dk_at dksX4_beatsOf_0 17 rfl rfl)
theorem dX4_beatsOf_20 : decode cX4_beatsOf 20 = .ok (.aload_n 0, 1) := dk_42 (dk_at dksX4_beatsOf_0 20 rfl rfl)
theorem dX4_beatsOf_21 : decode cX4_beatsOf 21 = .ok (.iload_n 3, 1) := dk_29 (dk_at dksX4_beatsOf_0 21 rfl rfl)
theorem dX4_beatsOf_22 : decode cX4_beatsOf 22 = .ok (.invokevirtual 296, 3) := dk_182 1 40 (dk_at dksX4_beatsOf_1 0 rfl rfl)
theorem dX4_beatsOf_25 : decode cX4_beatsOf 25 = .ok (.ifCond .eq 19, 3) := dk_153 0 19 (dk_at dksX4_beatsOf_1 3 rfl rfl)
theorem dX4_beatsOf_28 : decode cX4_beatsOf 28 = .ok (.aload_n 0, 1) := dk_42 (dk_at dksX4_beatsOf_1 6 rfl rfl)
theorem dX4_beatsOf_29 : decode cX4_beatsOf 29 = .ok (.iload_n 1, 1) := dk_27 (dk_at dksX4_beatsOf_1 7 rfl rfl)
theorem dX4_beatsOf_30 : decode cX4_beatsOf 30 = .ok (.iload_n 3, 1) := dk_29 (dk_at dksX4_beatsOf_1 8 rfl rfl)
theorem dX4_beatsOf_31 : decode cX4_beatsOf 31 = .ok (.invokevirtual 317, 3) := dk_182 1 61 (dk_at dksX4_beatsOf_1 9 rfl rfl)
theorem dX4_beatsOf_34 : decode cX4_beatsOf 34 = .ok (.iload_n 3, 1) := dk_29 (dk_at dksX4_beatsOf_1 12 rfl rfl)
theorem dX4_beatsOf_35 : decode cX4_beatsOf 35 = .ok (.if_icmp .ne 9, 3) := dk_160 0 9 (dk_at dksX4_beatsOf_1 13 rfl rfl)
theorem dX4_beatsOf_38 : decode cX4_beatsOf 38 = .ok (.iconst 1, 1) := dk_4 (dk_at dksX4_beatsOf_1 16 rfl rfl)
theorem dX4_beatsOf_39 : decode cX4_beatsOf 39 = .ok (.iload_n 3, 1) := dk_29 (dk_at dksX4_beatsOf_1 17 rfl rfl)
theorem dX4_beatsOf_40 : decode cX4_beatsOf 40 = .ok (.ishl, 1) := dk_120 (dk_at dksX4_beatsOf_1 18 rfl rfl)
theorem dX4_beatsOf_41 : decode cX4_beatsOf 41 = .ok (.goto 4, 3) := dk_167 0 4 (dk_at dksX4_beatsOf_1 19 rfl rfl)
theorem dX4_beatsOf_44 : decode cX4_beatsOf 44 = .ok (.iconst 0, 1) := dk_3 (dk_at dksX4_beatsOf_1 22 rfl rfl)
theorem dX4_beatsOf_45 : decode cX4_beatsOf 45 = .ok (.ior, 1) := dk_128 (dk_at dksX4_beatsOf_1 23 rfl rfl)
theorem dX4_beatsOf_46 : decode cX4_beatsOf 46 = .ok (.istore_n 2, 1) := dk_61 (dk_at dksX4_beatsOf_2 0 rfl rfl)
theorem dX4_beatsOf_47 : decode cX4_beatsOf 47 = .ok (.iinc 3 1, 3) := dk_132 3 1 (dk_at dksX4_beatsOf_2 1 rfl rfl)
theorem dX4_beatsOf_50 : decode cX4_beatsOf 50 = .ok (.goto (-46), 3) := dk_167 255 210 (dk_at dksX4_beatsOf_2 4 rfl rfl)
theorem dX4_beatsOf_53 : decode cX4_beatsOf 53 = .ok (.iload_n 2, 1) := dk_28 (dk_at dksX4_beatsOf_2 7 rfl rfl)
theorem dX4_beatsOf_54 : decode cX4_beatsOf 54 = .ok (.ireturn, 1) := dk_172 (dk_at dksX4_beatsOf_2 8 rfl rfl)
abbrev cX4_last : ByteArray := prog_19_method_79_code
def yX4_last : MethodName := ⟨RX4, "last", "(I)I"⟩
def dkwX4_last_1 : List UInt8 := [182, 1, 71, 160, 0, 7, 4, 167, 0, 4, 3, 172]
abbrev dktX4_last_1 : List UInt8 := dkwX4_last_1 ++ []
def dkwX4_last_0 : List UInt8 := [42, 27, 182, 1, 40, 154, 0, 5, 2, 172, 42, 182, 1, 125, 42, 4, 27, 120, 3, 182, 1, 128, 42]
abbrev dktX4_last_0 : List UInt8 := dkwX4_last_0 ++ dktX4_last_1
theorem dksX4_last_0 : cX4_last.data.toList.drop 0 = dktX4_last_0 := by decide +kernel
theorem dksX4_last_1 : cX4_last.data.toList.drop 23 = dktX4_last_1 := dk_seg dksX4_last_0 23 rfl rfl
theorem dX4_last_0 : decode cX4_last 0 = .ok (.aload_n 0, 1) := dk_42 (dk_at dksX4_last_0 0 rfl rfl)
theorem dX4_last_1 : decode cX4_last 1 = .ok (.iload_n 1, 1) := dk_27 (dk_at dksX4_last_0 1 rfl rfl)
theorem dX4_last_2 : decode cX4_last 2 = .ok (.invokevirtual 296, 3) := dk_182 1 40 (dk_at dksX4_last_0 2 rfl rfl)
theorem dX4_last_5 : decode cX4_last 5 = .ok (.ifCond .ne 5, 3) := dk_154 0 5 (dk_at dksX4_last_0 5 rfl rfl)
theorem dX4_last_8 : decode cX4_last 8 = .ok (.iconst (-1), 1) := dk_2 (dk_at dksX4_last_0 8 rfl rfl)
theorem dX4_last_9 : decode cX4_last 9 = .ok (.ireturn, 1) := dk_172 (dk_at dksX4_last_0 9 rfl rfl)
theorem dX4_last_10 : decode cX4_last 10 = .ok (.aload_n 0, 1) := dk_42 (dk_at dksX4_last_0 10 rfl rfl)
theorem dX4_last_11 : decode cX4_last 11 = .ok (.invokevirtual 381, 3) := dk_182 1 125 (dk_at dksX4_last_0 11 rfl rfl)
theorem dX4_last_14 : decode cX4_last 14 = .ok (.aload_n 0, 1) := dk_42 (dk_at dksX4_last_0 14 rfl rfl)
theorem dX4_last_15 : decode cX4_last 15 = .ok (.iconst 1, 1) := dk_4 (dk_at dksX4_last_0 15 rfl rfl)
theorem dX4_last_16 : decode cX4_last 16 = .ok (.iload_n 1, 1) := dk_27 (dk_at dksX4_last_0 16 rfl rfl)
theorem dX4_last_17 : decode cX4_last 17 = .ok (.ishl, 1) := dk_120 (dk_at dksX4_last_0 17 rfl rfl)
theorem dX4_last_18 : decode cX4_last 18 = .ok (.iconst 0, 1) := dk_3 (dk_at dksX4_last_0 18 rfl rfl)
theorem dX4_last_19 : decode cX4_last 19 = .ok (.invokevirtual 384, 3) := dk_182 1 128 (dk_at dksX4_last_0 19 rfl rfl)
theorem dX4_last_22 : decode cX4_last 22 = .ok (.aload_n 0, 1) := dk_42 (dk_at dksX4_last_0 22 rfl rfl)
theorem dX4_last_23 : decode cX4_last 23 = .ok (.invokevirtual 327, 3) := dk_182 1 71 (dk_at dksX4_last_1 0 rfl rfl)
theorem dX4_last_26 : decode cX4_last 26 = .ok (.if_icmp .ne 7, 3) := dk_160 0 7 (dk_at dksX4_last_1 3 rfl rfl)
theorem dX4_last_29 : decode cX4_last 29 = .ok (.iconst 1, 1) := dk_4 (dk_at dksX4_last_1 6 rfl rfl)
theorem dX4_last_30 : decode cX4_last 30 = .ok (.goto 4, 3) := dk_167 0 4 (dk_at dksX4_last_1 7 rfl rfl)
theorem dX4_last_33 : decode cX4_last 33 = .ok (.iconst 0, 1) := dk_3 (dk_at dksX4_last_1 10 rfl rfl)
theorem dX4_last_34 : decode cX4_last 34 = .ok (.ireturn, 1) := dk_172 (dk_at dksX4_last_1 11 rfl rfl)
abbrev cX4_fillsVictims : ByteArray := prog_19_method_77_code
def yX4_fillsVictims : MethodName := ⟨RX4, "fillsVictims", "()V"⟩
def dkwX4_fillsVictims_1 : List UInt8 := [153, 0, 11, 42, 27, 182, 1, 119, 167, 0, 4, 3, 79, 132, 1, 1, 167, 255, 220, 177]
abbrev dktX4_fillsVictims_1 : List UInt8 := dkwX4_fillsVictims_1 ++ []
def dkwX4_fillsVictims_0 : List UInt8 := [3, 60, 27, 42, 180, 0, 39, 5, 46, 162, 0, 32, 42, 180, 0, 49, 27, 42, 27, 182, 1, 40]
abbrev dktX4_fillsVictims_0 : List UInt8 := dkwX4_fillsVictims_0 ++ dktX4_fillsVictims_1
theorem dksX4_fillsVictims_0 : cX4_fillsVictims.data.toList.drop 0 = dktX4_fillsVictims_0 := by decide +kernel
theorem dksX4_fillsVictims_1 : cX4_fillsVictims.data.toList.drop 22 = dktX4_fillsVictims_1 := dk_seg dksX4_fillsVictims_0 22 rfl rfl
theorem dX4_fillsVictims_0 : decode cX4_fillsVictims 0 = .ok (.iconst 0, 1) := dk_3 (dk_at dksX4_fillsVictims_0 0 rfl rfl)
theorem dX4_fillsVictims_1 : decode cX4_fillsVictims 1 = .ok (.istore_n 1, 1) := dk_60 (dk_at dksX4_fillsVictims_0 1 rfl rfl)
theorem dX4_fillsVictims_2 : decode cX4_fillsVictims 2 = .ok (.iload_n 1, 1) := dk_27 (dk_at dksX4_fillsVictims_0 2 rfl rfl)
theorem dX4_fillsVictims_3 : decode cX4_fillsVictims 3 = .ok (.aload_n 0, 1) := dk_42 (dk_at dksX4_fillsVictims_0 3 rfl rfl)
theorem dX4_fillsVictims_4 : decode cX4_fillsVictims 4 = .ok (.getfield 39, 3) := dk_180 0 39 (dk_at dksX4_fillsVictims_0 4 rfl rfl)
theorem dX4_fillsVictims_7 : decode cX4_fillsVictims 7 = .ok (.iconst 2, 1) := dk_5 (dk_at dksX4_fillsVictims_0 7 rfl rfl)
theorem dX4_fillsVictims_8 : decode cX4_fillsVictims 8 = .ok (.iaload, 1) := dk_46 (dk_at dksX4_fillsVictims_0 8 rfl rfl)
theorem dX4_fillsVictims_9 : decode cX4_fillsVictims 9 = .ok (.if_icmp .ge 32, 3) := dk_162 0 32 (dk_at dksX4_fillsVictims_0 9 rfl rfl)
theorem dX4_fillsVictims_12 : decode cX4_fillsVictims 12 = .ok (.aload_n 0, 1) := dk_42 (dk_at dksX4_fillsVictims_0 12 rfl rfl)
theorem dX4_fillsVictims_13 : decode cX4_fillsVictims 13 = .ok (.getfield 49, 3) := dk_180 0 49 (dk_at dksX4_fillsVictims_0 13 rfl rfl)
theorem dX4_fillsVictims_16 : decode cX4_fillsVictims 16 = .ok (.iload_n 1, 1) := dk_27 (dk_at dksX4_fillsVictims_0 16 rfl rfl)
theorem dX4_fillsVictims_17 : decode cX4_fillsVictims 17 = .ok (.aload_n 0, 1) := dk_42 (dk_at dksX4_fillsVictims_0 17 rfl rfl)
theorem dX4_fillsVictims_18 : decode cX4_fillsVictims 18 = .ok (.iload_n 1, 1) := dk_27 (dk_at dksX4_fillsVictims_0 18 rfl rfl)
theorem dX4_fillsVictims_19 : decode cX4_fillsVictims 19 = .ok (.invokevirtual 296, 3) := dk_182 1 40 (dk_at dksX4_fillsVictims_0 19 rfl rfl)
theorem dX4_fillsVictims_22 : decode cX4_fillsVictims 22 = .ok (.ifCond .eq 11, 3) := dk_153 0 11 (dk_at dksX4_fillsVictims_1 0 rfl rfl)
theorem dX4_fillsVictims_25 : decode cX4_fillsVictims 25 = .ok (.aload_n 0, 1) := dk_42 (dk_at dksX4_fillsVictims_1 3 rfl rfl)
theorem dX4_fillsVictims_26 : decode cX4_fillsVictims 26 = .ok (.iload_n 1, 1) := dk_27 (dk_at dksX4_fillsVictims_1 4 rfl rfl)
theorem dX4_fillsVictims_27 : decode cX4_fillsVictims 27 = .ok (.invokevirtual 375, 3) := dk_182 1 119 (dk_at dksX4_fillsVictims_1 5 rfl rfl)
theorem dX4_fillsVictims_30 : decode cX4_fillsVictims 30 = .ok (.goto 4, 3) := dk_167 0 4 (dk_at dksX4_fillsVictims_1 8 rfl rfl)
theorem dX4_fillsVictims_33 : decode cX4_fillsVictims 33 = .ok (.iconst 0, 1) := dk_3 (dk_at dksX4_fillsVictims_1 11 rfl rfl)
theorem dX4_fillsVictims_34 : decode cX4_fillsVictims 34 = .ok (.iastore, 1) := dk_79 (dk_at dksX4_fillsVictims_1 12 rfl rfl)
theorem dX4_fillsVictims_35 : decode cX4_fillsVictims 35 = .ok (.iinc 1 1, 3) := dk_132 1 1 (dk_at dksX4_fillsVictims_1 13 rfl rfl)
theorem dX4_fillsVictims_38 : decode cX4_fillsVictims 38 = .ok (.goto (-36), 3) := dk_167 255 220 (dk_at dksX4_fillsVictims_1 16 rfl rfl)
theorem dX4_fillsVictims_41 : decode cX4_fillsVictims 41 = .ok (.return_, 1) := dk_177 (dk_at dksX4_fillsVictims_1 19 rfl rfl)
abbrev cX4_reach : ByteArray := prog_19_method_78_code
def yX4_reach : MethodName := ⟨RX4, "reach", "(II)I"⟩
def dkwX4_reach_2 : List UInt8 := [128, 62, 132, 5, 1, 167, 255, 219, 132, 4, 1, 167, 255, 203, 29, 172]
abbrev dktX4_reach_2 : List UInt8 := dkwX4_reach_2 ++ []
def dkwX4_reach_1 : List UInt8 := [162, 0, 32, 29, 21, 5, 184, 1, 122, 153, 0, 17, 29, 42, 180, 0, 49, 21, 5, 46, 28, 2, 130, 126]
abbrev dktX4_reach_1 : List UInt8 := dkwX4_reach_1 ++ dktX4_reach_2
def dkwX4_reach_0 : List UInt8 := [27, 62, 3, 54, 4, 21, 4, 16, 8, 162, 0, 52, 3, 54, 5, 21, 5, 42, 180, 0, 39, 5, 46]
abbrev dktX4_reach_0 : List UInt8 := dkwX4_reach_0 ++ dktX4_reach_1
theorem dksX4_reach_0 : cX4_reach.data.toList.drop 0 = dktX4_reach_0 := by decide +kernel
theorem dksX4_reach_1 : cX4_reach.data.toList.drop 23 = dktX4_reach_1 := dk_seg dksX4_reach_0 23 rfl rfl
theorem dksX4_reach_2 : cX4_reach.data.toList.drop 47 = dktX4_reach_2 := dk_seg dksX4_reach_1 24 rfl rfl
theorem dX4_reach_0 : decode cX4_reach 0 = .ok (.iload_n 1, 1) := dk_27 (dk_at dksX4_reach_0 0 rfl rfl)
theorem dX4_reach_1 : decode cX4_reach 1 = .ok (.istore_n 3, 1) := dk_62 (dk_at dksX4_reach_0 1 rfl rfl)
theorem dX4_reach_2 : decode cX4_reach 2 = .ok (.iconst 0, 1) := dk_3 (dk_at dksX4_reach_0 2 rfl rfl)
theorem dX4_reach_3 : decode cX4_reach 3 = .ok (.istore 4, 2) := dk_54 4 (dk_at dksX4_reach_0 3 rfl rfl)
theorem dX4_reach_5 : decode cX4_reach 5 = .ok (.iload 4, 2) := dk_21 4 (dk_at dksX4_reach_0 5 rfl rfl)
theorem dX4_reach_7 : decode cX4_reach 7 = .ok (.bipush 8, 2) := dk_16 8 (dk_at dksX4_reach_0 7 rfl rfl)
theorem dX4_reach_9 : decode cX4_reach 9 = .ok (.if_icmp .ge 52, 3) := dk_162 0 52 (dk_at dksX4_reach_0 9 rfl rfl)
theorem dX4_reach_12 : decode cX4_reach 12 = .ok (.iconst 0, 1) := dk_3 (dk_at dksX4_reach_0 12 rfl rfl)
theorem dX4_reach_13 : decode cX4_reach 13 = .ok (.istore 5, 2) := dk_54 5 (dk_at dksX4_reach_0 13 rfl rfl)
theorem dX4_reach_15 : decode cX4_reach 15 = .ok (.iload 5, 2) := dk_21 5 (dk_at dksX4_reach_0 15 rfl rfl)
theorem dX4_reach_17 : decode cX4_reach 17 = .ok (.aload_n 0, 1) := dk_42 (dk_at dksX4_reach_0 17 rfl rfl)
theorem dX4_reach_18 : decode cX4_reach 18 = .ok (.getfield 39, 3) := dk_180 0 39 (dk_at dksX4_reach_0 18 rfl rfl)
theorem dX4_reach_21 : decode cX4_reach 21 = .ok (.iconst 2, 1) := dk_5 (dk_at dksX4_reach_0 21 rfl rfl)
theorem dX4_reach_22 : decode cX4_reach 22 = .ok (.iaload, 1) := dk_46 (dk_at dksX4_reach_0 22 rfl rfl)
theorem dX4_reach_23 : decode cX4_reach 23 = .ok (.if_icmp .ge 32, 3) := dk_162 0 32 (dk_at dksX4_reach_1 0 rfl rfl)
theorem dX4_reach_26 : decode cX4_reach 26 = .ok (.iload_n 3, 1) := dk_29 (dk_at dksX4_reach_1 3 rfl rfl)
theorem dX4_reach_27 : decode cX4_reach 27 = .ok (.iload 5, 2) := dk_21 5 (dk_at dksX4_reach_1 4 rfl rfl)
theorem dX4_reach_29 : decode cX4_reach 29 = .ok (.invokestatic 378, 3) := dk_184 1 122 (dk_at dksX4_reach_1 6 rfl rfl)
theorem dX4_reach_32 : decode cX4_reach 32 = .ok (.ifCond .eq 17, 3) := dk_153 0 17 (dk_at dksX4_reach_1 9 rfl rfl)
theorem dX4_reach_35 : decode cX4_reach 35 = .ok (.iload_n 3, 1) := dk_29 (dk_at dksX4_reach_1 12 rfl rfl)
theorem dX4_reach_36 : decode cX4_reach 36 = .ok (.aload_n 0, 1) := dk_42 (dk_at dksX4_reach_1 13 rfl rfl)
theorem dX4_reach_37 : decode cX4_reach 37 = .ok (.getfield 49, 3) := dk_180 0 49 (dk_at dksX4_reach_1 14 rfl rfl)
theorem dX4_reach_40 : decode cX4_reach 40 = .ok (.iload 5, 2) := dk_21 5 (dk_at dksX4_reach_1 17 rfl rfl)
theorem dX4_reach_42 : decode cX4_reach 42 = .ok (.iaload, 1) := dk_46 (dk_at dksX4_reach_1 19 rfl rfl)
theorem dX4_reach_43 : decode cX4_reach 43 = .ok (.iload_n 2, 1) := dk_28 (dk_at dksX4_reach_1 20 rfl rfl)
theorem dX4_reach_44 : decode cX4_reach 44 = .ok (.iconst (-1), 1) := dk_2 (dk_at dksX4_reach_1 21 rfl rfl)
theorem dX4_reach_45 : decode cX4_reach 45 = .ok (.ixor, 1) := dk_130 (dk_at dksX4_reach_1 22 rfl rfl)
theorem dX4_reach_46 : decode cX4_reach 46 = .ok (.iand, 1) := dk_126 (dk_at dksX4_reach_1 23 rfl rfl)
theorem dX4_reach_47 : decode cX4_reach 47 = .ok (.ior, 1) := dk_128 (dk_at dksX4_reach_2 0 rfl rfl)
theorem dX4_reach_48 : decode cX4_reach 48 = .ok (.istore_n 3, 1) := dk_62 (dk_at dksX4_reach_2 1 rfl rfl)
theorem dX4_reach_49 : decode cX4_reach 49 = .ok (.iinc 5 1, 3) := dk_132 5 1 (dk_at dksX4_reach_2 2 rfl rfl)
theorem dX4_reach_52 : decode cX4_reach 52 = .ok (.goto (-37), 3) := dk_167 255 219 (dk_at dksX4_reach_2 5 rfl rfl)
theorem dX4_reach_55 : decode cX4_reach 55 = .ok (.iinc 4 1, 3) := dk_132 4 1 (dk_at dksX4_reach_2 8 rfl rfl)
theorem dX4_reach_58 : decode cX4_reach 58 = .ok (.goto (-53), 3) := dk_167 255 203 (dk_at dksX4_reach_2 11 rfl rfl)
theorem dX4_reach_61 : decode cX4_reach 61 = .ok (.iload_n 3, 1) := dk_29 (dk_at dksX4_reach_2 14 rfl rfl)
theorem dX4_reach_62 : decode cX4_reach 62 = .ok (.ireturn, 1) := dk_172 (dk_at dksX4_reach_2 15 rfl rfl)
abbrev cX4_isOf : ByteArray := prog_19_method_3_code
def yX4_isOf : MethodName := ⟨RX4, "isOf", "(II)Z"⟩
def dkwX4_isOf_0 : List UInt8 := [26, 27, 122, 4, 126, 4, 160, 0, 7, 4, 167, 0, 4, 3, 172]
abbrev dktX4_isOf_0 : List UInt8 := dkwX4_isOf_0 ++ []
theorem dksX4_isOf_0 : cX4_isOf.data.toList.drop 0 = dktX4_isOf_0 := by decide +kernel
theorem dX4_isOf_0 : decode cX4_isOf 0 = .ok (.iload_n 0, 1) := dk_26 (dk_at dksX4_isOf_0 0 rfl rfl)
theorem dX4_isOf_1 : decode cX4_isOf 1 = .ok (.iload_n 1, 1) := dk_27 (dk_at dksX4_isOf_0 1 rfl rfl)
theorem dX4_isOf_2 : decode cX4_isOf 2 = .ok (.ishr, 1) := dk_122 (dk_at dksX4_isOf_0 2 rfl rfl)
theorem dX4_isOf_3 : decode cX4_isOf 3 = .ok (.iconst 1, 1) := dk_4 (dk_at dksX4_isOf_0 3 rfl rfl)
theorem dX4_isOf_4 : decode cX4_isOf 4 = .ok (.iand, 1) := dk_126 (dk_at dksX4_isOf_0 4 rfl rfl)
theorem dX4_isOf_5 : decode cX4_isOf 5 = .ok (.iconst 1, 1) := dk_4 (dk_at dksX4_isOf_0 5 rfl rfl)
theorem dX4_isOf_6 : decode cX4_isOf 6 = .ok (.if_icmp .ne 7, 3) := dk_160 0 7 (dk_at dksX4_isOf_0 6 rfl rfl)
theorem dX4_isOf_9 : decode cX4_isOf 9 = .ok (.iconst 1, 1) := dk_4 (dk_at dksX4_isOf_0 9 rfl rfl)
theorem dX4_isOf_10 : decode cX4_isOf 10 = .ok (.goto 4, 3) := dk_167 0 4 (dk_at dksX4_isOf_0 10 rfl rfl)
theorem dX4_isOf_13 : decode cX4_isOf 13 = .ok (.iconst 0, 1) := dk_3 (dk_at dksX4_isOf_0 13 rfl rfl)
theorem dX4_isOf_14 : decode cX4_isOf 14 = .ok (.ireturn, 1) := dk_172 (dk_at dksX4_isOf_0 14 rfl rfl)
abbrev cX4_own : ByteArray := prog_19_method_80_code
def yX4_own : MethodName := ⟨RX4, "own", "(I)I"⟩
def dkwX4_own_4 : List UInt8 := [167, 255, 193, 29, 172]
abbrev dktX4_own_4 : List UInt8 := dkwX4_own_4 ++ []
def dkwX4_own_3 : List UInt8 := [42, 21, 4, 4, 27, 120, 182, 1, 128, 28, 160, 0, 9, 21, 4, 184, 1, 74, 62, 132, 4, 1]
abbrev dktX4_own_3 : List UInt8 := dkwX4_own_3 ++ dktX4_own_4
def dkwX4_own_2 : List UInt8 := [27, 46, 2, 130, 126, 154, 0, 38, 29, 155, 0, 15, 21, 4, 184, 1, 74, 29, 161, 0, 6, 167, 0, 22]
abbrev dktX4_own_2 : List UInt8 := dkwX4_own_2 ++ dktX4_own_3
def dkwX4_own_1 : List UInt8 := [61, 16, 254, 62, 3, 54, 4, 21, 4, 42, 180, 0, 49, 27, 46, 163, 0, 58, 21, 4, 42, 180, 0, 49]
abbrev dktX4_own_1 : List UInt8 := dkwX4_own_1 ++ dktX4_own_2
def dkwX4_own_0 : List UInt8 := [42, 27, 182, 1, 40, 154, 0, 5, 2, 172, 42, 182, 1, 125, 42, 182, 1, 71, 4, 27, 120, 2, 130, 126]
abbrev dktX4_own_0 : List UInt8 := dkwX4_own_0 ++ dktX4_own_1
theorem dksX4_own_0 : cX4_own.data.toList.drop 0 = dktX4_own_0 := by decide +kernel
theorem dksX4_own_1 : cX4_own.data.toList.drop 24 = dktX4_own_1 := dk_seg dksX4_own_0 24 rfl rfl
theorem dksX4_own_2 : cX4_own.data.toList.drop 48 = dktX4_own_2 := dk_seg dksX4_own_1 24 rfl rfl
theorem dksX4_own_3 : cX4_own.data.toList.drop 72 = dktX4_own_3 := dk_seg dksX4_own_2 24 rfl rfl
theorem dksX4_own_4 : cX4_own.data.toList.drop 94 = dktX4_own_4 := dk_seg dksX4_own_3 22 rfl rfl
theorem dX4_own_0 : decode cX4_own 0 = .ok (.aload_n 0, 1) := dk_42 (dk_at dksX4_own_0 0 rfl rfl)
theorem dX4_own_1 : decode cX4_own 1 = .ok (.iload_n 1, 1) := dk_27 (dk_at dksX4_own_0 1 rfl rfl)
theorem dX4_own_2 : decode cX4_own 2 = .ok (.invokevirtual 296, 3) := dk_182 1 40 (dk_at dksX4_own_0 2 rfl rfl)
theorem dX4_own_5 : decode cX4_own 5 = .ok (.ifCond .ne 5, 3) := dk_154 0 5 (dk_at dksX4_own_0 5 rfl rfl)
theorem dX4_own_8 : decode cX4_own 8 = .ok (.iconst (-1), 1) := dk_2 (dk_at dksX4_own_0 8 rfl rfl)
theorem dX4_own_9 : decode cX4_own 9 = .ok (.ireturn, 1) := dk_172 (dk_at dksX4_own_0 9 rfl rfl)
theorem dX4_own_10 : decode cX4_own 10 = .ok (.aload_n 0, 1) := dk_42 (dk_at dksX4_own_0 10 rfl rfl)
theorem dX4_own_11 : decode cX4_own 11 = .ok (.invokevirtual 381, 3) := dk_182 1 125 (dk_at dksX4_own_0 11 rfl rfl)
theorem dX4_own_14 : decode cX4_own 14 = .ok (.aload_n 0, 1) := dk_42 (dk_at dksX4_own_0 14 rfl rfl)
theorem dX4_own_15 : decode cX4_own 15 = .ok (.invokevirtual 327, 3) := dk_182 1 71 (dk_at dksX4_own_0 15 rfl rfl)
theorem dX4_own_18 : decode cX4_own 18 = .ok (.iconst 1, 1) := dk_4 (dk_at dksX4_own_0 18 rfl rfl)
theorem dX4_own_19 : decode cX4_own 19 = .ok (.iload_n 1, 1) := dk_27 (dk_at dksX4_own_0 19 rfl rfl)
theorem dX4_own_20 : decode cX4_own 20 = .ok (.ishl, 1) := dk_120 (dk_at dksX4_own_0 20 rfl rfl)
theorem dX4_own_21 : decode cX4_own 21 = .ok (.iconst (-1), 1) := dk_2 (dk_at dksX4_own_0 21 rfl rfl)
theorem dX4_own_22 : decode cX4_own 22 = .ok (.ixor, 1) := dk_130 (dk_at dksX4_own_0 22 rfl rfl)
theorem dX4_own_23 : decode cX4_own 23 = .ok (.iand, 1) := dk_126 (dk_at dksX4_own_0 23 rfl rfl)
theorem dX4_own_24 : decode cX4_own 24 = .ok (.istore_n 2, 1) := dk_61 (dk_at dksX4_own_1 0 rfl rfl)
theorem dX4_own_25 : decode cX4_own 25 = .ok (.bipush (-2), 2) := dk_16 254 (dk_at dksX4_own_1 1 rfl rfl)
theorem dX4_own_27 : decode cX4_own 27 = .ok (.istore_n 3, 1) := dk_62 (dk_at dksX4_own_1 3 rfl rfl)
theorem dX4_own_28 : decode cX4_own 28 = .ok (.iconst 0, 1) := dk_3 (dk_at dksX4_own_1 4 rfl rfl)
theorem dX4_own_29 : decode cX4_own 29 = .ok (.istore 4, 2) := dk_54 4 (dk_at dksX4_own_1 5 rfl rfl)
theorem dX4_own_31 : decode cX4_own 31 = .ok (.iload 4, 2) := dk_21 4 (dk_at dksX4_own_1 7 rfl rfl)
theorem dX4_own_33 : decode cX4_own 33 = .ok (.aload_n 0, 1) := dk_42 (dk_at dksX4_own_1 9 rfl rfl)
theorem dX4_own_34 : decode cX4_own 34 = .ok (.getfield 49, 3) := dk_180 0 49 (dk_at dksX4_own_1 10 rfl rfl)
theorem dX4_own_37 : decode cX4_own 37 = .ok (.iload_n 1, 1) := dk_27 (dk_at dksX4_own_1 13 rfl rfl)
theorem dX4_own_38 : decode cX4_own 38 = .ok (.iaload, 1) := dk_46 (dk_at dksX4_own_1 14 rfl rfl)
theorem dX4_own_39 : decode cX4_own 39 = .ok (.if_icmp .gt 58, 3) := dk_163 0 58 (dk_at dksX4_own_1 15 rfl rfl)
theorem dX4_own_42 : decode cX4_own 42 = .ok (.iload 4, 2) := dk_21 4 (dk_at dksX4_own_1 18 rfl rfl)
theorem dX4_own_44 : decode cX4_own 44 = .ok (.aload_n 0, 1) := dk_42 (dk_at dksX4_own_1 20 rfl rfl)
theorem dX4_own_45 : decode cX4_own 45 = .ok (.getfield 49, 3) := dk_180 0 49 (dk_at dksX4_own_1 21 rfl rfl)
theorem dX4_own_48 : decode cX4_own 48 = .ok (.iload_n 1, 1) := dk_27 (dk_at dksX4_own_2 0 rfl rfl)
theorem dX4_own_49 : decode cX4_own 49 = .ok (.iaload, 1) := dk_46 (dk_at dksX4_own_2 1 rfl rfl)
theorem dX4_own_50 : decode cX4_own 50 = .ok (.iconst (-1), 1) := dk_2 (dk_at dksX4_own_2 2 rfl rfl)
theorem dX4_own_51 : decode cX4_own 51 = .ok (.ixor, 1) := dk_130 (dk_at dksX4_own_2 3 rfl rfl)
theorem dX4_own_52 : decode cX4_own 52 = .ok (.iand, 1) := dk_126 (dk_at dksX4_own_2 4 rfl rfl)
theorem dX4_own_53 : decode cX4_own 53 = .ok (.ifCond .ne 38, 3) := dk_154 0 38 (dk_at dksX4_own_2 5 rfl rfl)
theorem dX4_own_56 : decode cX4_own 56 = .ok (.iload_n 3, 1) := dk_29 (dk_at dksX4_own_2 8 rfl rfl)
theorem dX4_own_57 : decode cX4_own 57 = .ok (.ifCond .lt 15, 3) := dk_155 0 15 (dk_at dksX4_own_2 9 rfl rfl)
theorem dX4_own_60 : decode cX4_own 60 = .ok (.iload 4, 2) := dk_21 4 (dk_at dksX4_own_2 12 rfl rfl)
theorem dX4_own_62 : decode cX4_own 62 = .ok (.invokestatic 330, 3) := dk_184 1 74 (dk_at dksX4_own_2 14 rfl rfl)
theorem dX4_own_65 : decode cX4_own 65 = .ok (.iload_n 3, 1) := dk_29 (dk_at dksX4_own_2 17 rfl rfl)
theorem dX4_own_66 : decode cX4_own 66 = .ok (.if_icmp .lt 6, 3) := dk_161 0 6 (dk_at dksX4_own_2 18 rfl rfl)
theorem dX4_own_69 : decode cX4_own 69 = .ok (.goto 22, 3) := dk_167 0 22 (dk_at dksX4_own_2 21 rfl rfl)
theorem dX4_own_72 : decode cX4_own 72 = .ok (.aload_n 0, 1) := dk_42 (dk_at dksX4_own_3 0 rfl rfl)
theorem dX4_own_73 : decode cX4_own 73 = .ok (.iload 4, 2) := dk_21 4 (dk_at dksX4_own_3 1 rfl rfl)
theorem dX4_own_75 : decode cX4_own 75 = .ok (.iconst 1, 1) := dk_4 (dk_at dksX4_own_3 3 rfl rfl)
theorem dX4_own_76 : decode cX4_own 76 = .ok (.iload_n 1, 1) := dk_27 (dk_at dksX4_own_3 4 rfl rfl)
theorem dX4_own_77 : decode cX4_own 77 = .ok (.ishl, 1) := dk_120 (dk_at dksX4_own_3 5 rfl rfl)
theorem dX4_own_78 : decode cX4_own 78 = .ok (.invokevirtual 384, 3) := dk_182 1 128 (dk_at dksX4_own_3 6 rfl rfl)
theorem dX4_own_81 : decode cX4_own 81 = .ok (.iload_n 2, 1) := dk_28 (dk_at dksX4_own_3 9 rfl rfl)
theorem dX4_own_82 : decode cX4_own 82 = .ok (.if_icmp .ne 9, 3) := dk_160 0 9 (dk_at dksX4_own_3 10 rfl rfl)
theorem dX4_own_85 : decode cX4_own 85 = .ok (.iload 4, 2) := dk_21 4 (dk_at dksX4_own_3 13 rfl rfl)
theorem dX4_own_87 : decode cX4_own 87 = .ok (.invokestatic 330, 3) := dk_184 1 74 (dk_at dksX4_own_3 15 rfl rfl)
theorem dX4_own_90 : decode cX4_own 90 = .ok (.istore_n 3, 1) := dk_62 (dk_at dksX4_own_3 18 rfl rfl)
theorem dX4_own_91 : decode cX4_own 91 = .ok (.iinc 4 1, 3) := dk_132 4 1 (dk_at dksX4_own_3 19 rfl rfl)
theorem dX4_own_94 : decode cX4_own 94 = .ok (.goto (-63), 3) := dk_167 255 193 (dk_at dksX4_own_4 0 rfl rfl)
theorem dX4_own_97 : decode cX4_own 97 = .ok (.iload_n 3, 1) := dk_29 (dk_at dksX4_own_4 3 rfl rfl)
theorem dX4_own_98 : decode cX4_own 98 = .ok (.ireturn, 1) := dk_172 (dk_at dksX4_own_4 4 rfl rfl)
abbrev cX4_cups : ByteArray := prog_19_method_85_code
def yX4_cups : MethodName := ⟨RX4, "cups", "(I)I"⟩
def dkwX4_cups_5 : List UInt8 := [4, 167, 0, 4, 3, 96, 54, 4, 132, 5, 1, 167, 255, 226, 21, 4, 172]
abbrev dktX4_cups_5 : List UInt8 := dkwX4_cups_5 ++ []
def dkwX4_cups_4 : List UInt8 := [54, 4, 3, 54, 5, 21, 5, 29, 162, 0, 30, 21, 4, 42, 28, 21, 5, 182, 1, 144, 27, 160, 0, 7]
abbrev dktX4_cups_4 : List UInt8 := dkwX4_cups_4 ++ dktX4_cups_5
def dkwX4_cups_3 : List UInt8 := [54, 4, 167, 255, 236, 27, 2, 160, 0, 5, 29, 172, 42, 27, 182, 1, 33, 154, 0, 6, 16, 254, 172, 3]
abbrev dktX4_cups_3 : List UInt8 := dkwX4_cups_3 ++ dktX4_cups_4
def dkwX4_cups_2 : List UInt8 := [172, 4, 62, 28, 54, 4, 21, 4, 4, 164, 0, 20, 29, 21, 4, 184, 1, 134, 104, 62, 21, 4, 5, 108]
abbrev dktX4_cups_2 : List UInt8 := dkwX4_cups_2 ++ dktX4_cups_3
def dkwX4_cups_1 : List UInt8 := [184, 0, 124, 153, 0, 19, 28, 5, 159, 0, 17, 28, 7, 159, 0, 12, 28, 16, 8, 159, 0, 6, 16, 253]
abbrev dktX4_cups_1 : List UInt8 := dkwX4_cups_1 ++ dktX4_cups_2
def dkwX4_cups_0 : List UInt8 := [42, 182, 1, 71, 184, 1, 74, 61, 42, 182, 1, 106, 153, 0, 33, 27, 133, 20, 1, 140, 20, 1, 142]
abbrev dktX4_cups_0 : List UInt8 := dkwX4_cups_0 ++ dktX4_cups_1
theorem dksX4_cups_0 : cX4_cups.data.toList.drop 0 = dktX4_cups_0 := by decide +kernel
theorem dksX4_cups_1 : cX4_cups.data.toList.drop 23 = dktX4_cups_1 := dk_seg dksX4_cups_0 23 rfl rfl
theorem dksX4_cups_2 : cX4_cups.data.toList.drop 47 = dktX4_cups_2 := dk_seg dksX4_cups_1 24 rfl rfl
theorem dksX4_cups_3 : cX4_cups.data.toList.drop 71 = dktX4_cups_3 := dk_seg dksX4_cups_2 24 rfl rfl
theorem dksX4_cups_4 : cX4_cups.data.toList.drop 95 = dktX4_cups_4 := dk_seg dksX4_cups_3 24 rfl rfl
theorem dksX4_cups_5 : cX4_cups.data.toList.drop 119 = dktX4_cups_5 := dk_seg dksX4_cups_4 24 rfl rfl
theorem dX4_cups_0 : decode cX4_cups 0 = .ok (.aload_n 0, 1) := dk_42 (dk_at dksX4_cups_0 0 rfl rfl)
theorem dX4_cups_1 : decode cX4_cups 1 = .ok (.invokevirtual 327, 3) := dk_182 1 71 (dk_at dksX4_cups_0 1 rfl rfl)
theorem dX4_cups_4 : decode cX4_cups 4 = .ok (.invokestatic 330, 3) := dk_184 1 74 (dk_at dksX4_cups_0 4 rfl rfl)
theorem dX4_cups_7 : decode cX4_cups 7 = .ok (.istore_n 2, 1) := dk_61 (dk_at dksX4_cups_0 7 rfl rfl)
theorem dX4_cups_8 : decode cX4_cups 8 = .ok (.aload_n 0, 1) := dk_42 (dk_at dksX4_cups_0 8 rfl rfl)
theorem dX4_cups_9 : decode cX4_cups 9 = .ok (.invokevirtual 362, 3) := dk_182 1 106 (dk_at dksX4_cups_0 9 rfl rfl)
theorem dX4_cups_12 : decode cX4_cups 12 = .ok (.ifCond .eq 33, 3) := dk_153 0 33 (dk_at dksX4_cups_0 12 rfl rfl)
theorem dX4_cups_15 : decode cX4_cups 15 = .ok (.iload_n 1, 1) := dk_27 (dk_at dksX4_cups_0 15 rfl rfl)
theorem dX4_cups_16 : decode cX4_cups 16 = .ok (.i2l, 1) := dk_133 (dk_at dksX4_cups_0 16 rfl rfl)
theorem dX4_cups_17 : decode cX4_cups 17 = .ok (.ldc2_w 396, 3) := dk_20 1 140 (dk_at dksX4_cups_0 17 rfl rfl)
theorem dX4_cups_20 : decode cX4_cups 20 = .ok (.ldc2_w 398, 3) := dk_20 1 142 (dk_at dksX4_cups_0 20 rfl rfl)
theorem dX4_cups_23 : decode cX4_cups 23 = .ok (.invokestatic 124, 3) := dk_184 0 124 (dk_at dksX4_cups_1 0 rfl rfl)
theorem dX4_cups_26 : decode cX4_cups 26 = .ok (.ifCond .eq 19, 3) := dk_153 0 19 (dk_at dksX4_cups_1 3 rfl rfl)
theorem dX4_cups_29 : decode cX4_cups 29 = .ok (.iload_n 2, 1) := dk_28 (dk_at dksX4_cups_1 6 rfl rfl)
theorem dX4_cups_30 : decode cX4_cups 30 = .ok (.iconst 2, 1) := dk_5 (dk_at dksX4_cups_1 7 rfl rfl)
theorem dX4_cups_31 : decode cX4_cups 31 = .ok (.if_icmp .eq 17, 3) := dk_159 0 17 (dk_at dksX4_cups_1 8 rfl rfl)
theorem dX4_cups_34 : decode cX4_cups 34 = .ok (.iload_n 2, 1) := dk_28 (dk_at dksX4_cups_1 11 rfl rfl)
theorem dX4_cups_35 : decode cX4_cups 35 = .ok (.iconst 4, 1) := dk_7 (dk_at dksX4_cups_1 12 rfl rfl)
theorem dX4_cups_36 : decode cX4_cups 36 = .ok (.if_icmp .eq 12, 3) := dk_159 0 12 (dk_at dksX4_cups_1 13 rfl rfl)
theorem dX4_cups_39 : decode cX4_cups 39 = .ok (.iload_n 2, 1) := dk_28 (dk_at dksX4_cups_1 16 rfl rfl)
theorem dX4_cups_40 : decode cX4_cups 40 = .ok (.bipush 8, 2) := dk_16 8 (dk_at dksX4_cups_1 17 rfl rfl)
theorem dX4_cups_42 : decode cX4_cups 42 = .ok (.if_icmp .eq 6, 3) := dk_159 0 6 (dk_at dksX4_cups_1 19 rfl rfl)
theorem dX4_cups_45 : decode cX4_cups 45 = .ok (.bipush (-3), 2) := dk_16 253 (dk_at dksX4_cups_1 22 rfl rfl)
theorem dX4_cups_47 : decode cX4_cups 47 = .ok (.ireturn, 1) := dk_172 (dk_at dksX4_cups_2 0 rfl rfl)
theorem dX4_cups_48 : decode cX4_cups 48 = .ok (.iconst 1, 1) := dk_4 (dk_at dksX4_cups_2 1 rfl rfl)
theorem dX4_cups_49 : decode cX4_cups 49 = .ok (.istore_n 3, 1) := dk_62 (dk_at dksX4_cups_2 2 rfl rfl)
theorem dX4_cups_50 : decode cX4_cups 50 = .ok (.iload_n 2, 1) := dk_28 (dk_at dksX4_cups_2 3 rfl rfl)
theorem dX4_cups_51 : decode cX4_cups 51 = .ok (.istore 4, 2) := dk_54 4 (dk_at dksX4_cups_2 4 rfl rfl)
theorem dX4_cups_53 : decode cX4_cups 53 = .ok (.iload 4, 2) := dk_21 4 (dk_at dksX4_cups_2 6 rfl rfl)
theorem dX4_cups_55 : decode cX4_cups 55 = .ok (.iconst 1, 1) := dk_4 (dk_at dksX4_cups_2 8 rfl rfl)
theorem dX4_cups_56 : decode cX4_cups 56 = .ok (.if_icmp .le 20, 3) := dk_164 0 20 (dk_at dksX4_cups_2 9 rfl rfl)
theorem dX4_cups_59 : decode cX4_cups 59 = .ok (.iload_n 3, 1) := dk_29 (dk_at dksX4_cups_2 12 rfl rfl)
theorem dX4_cups_60 : decode cX4_cups 60 = .ok (.iload 4, 2) := dk_21 4 (dk_at dksX4_cups_2 13 rfl rfl)
theorem dX4_cups_62 : decode cX4_cups 62 = .ok (.invokestatic 390, 3) := dk_184 1 134 (dk_at dksX4_cups_2 15 rfl rfl)
theorem dX4_cups_65 : decode cX4_cups 65 = .ok (.imul, 1) := dk_104 (dk_at dksX4_cups_2 18 rfl rfl)
theorem dX4_cups_66 : decode cX4_cups 66 = .ok (.istore_n 3, 1) := dk_62 (dk_at dksX4_cups_2 19 rfl rfl)
theorem dX4_cups_67 : decode cX4_cups 67 = .ok (.iload 4, 2) := dk_21 4 (dk_at dksX4_cups_2 20 rfl rfl)
theorem dX4_cups_69 : decode cX4_cups 69 = .ok (.iconst 2, 1) := dk_5 (dk_at dksX4_cups_2 22 rfl rfl)
theorem dX4_cups_70 : decode cX4_cups 70 = .ok (.idiv, 1) := dk_108 (dk_at dksX4_cups_2 23 rfl rfl)
theorem dX4_cups_71 : decode cX4_cups 71 = .ok (.istore 4, 2) := dk_54 4 (dk_at dksX4_cups_3 0 rfl rfl)
theorem dX4_cups_73 : decode cX4_cups 73 = .ok (.goto (-20), 3) := dk_167 255 236 (dk_at dksX4_cups_3 2 rfl rfl)
theorem dX4_cups_76 : decode cX4_cups 76 = .ok (.iload_n 1, 1) := dk_27 (dk_at dksX4_cups_3 5 rfl rfl)
theorem dX4_cups_77 : decode cX4_cups 77 = .ok (.iconst (-1), 1) := dk_2 (dk_at dksX4_cups_3 6 rfl rfl)
theorem dX4_cups_78 : decode cX4_cups 78 = .ok (.if_icmp .ne 5, 3) := dk_160 0 5 (dk_at dksX4_cups_3 7 rfl rfl)
theorem dX4_cups_81 : decode cX4_cups 81 = .ok (.iload_n 3, 1) := dk_29 (dk_at dksX4_cups_3 10 rfl rfl)
theorem dX4_cups_82 : decode cX4_cups 82 = .ok (.ireturn, 1) := dk_172 (dk_at dksX4_cups_3 11 rfl rfl)
theorem dX4_cups_83 : decode cX4_cups 83 = .ok (.aload_n 0, 1) := dk_42 (dk_at dksX4_cups_3 12 rfl rfl)
theorem dX4_cups_84 : decode cX4_cups 84 = .ok (.iload_n 1, 1) := dk_27 (dk_at dksX4_cups_3 13 rfl rfl)
theorem dX4_cups_85 : decode cX4_cups 85 = .ok (.invokevirtual 289, 3) := dk_182 1 33 (dk_at dksX4_cups_3 14 rfl rfl)
theorem dX4_cups_88 : decode cX4_cups 88 = .ok (.ifCond .ne 6, 3) := dk_154 0 6 (dk_at dksX4_cups_3 17 rfl rfl)
theorem dX4_cups_91 : decode cX4_cups 91 = .ok (.bipush (-2), 2) := dk_16 254 (dk_at dksX4_cups_3 20 rfl rfl)
theorem dX4_cups_93 : decode cX4_cups 93 = .ok (.ireturn, 1) := dk_172 (dk_at dksX4_cups_3 22 rfl rfl)
theorem dX4_cups_94 : decode cX4_cups 94 = .ok (.iconst 0, 1) := dk_3 (dk_at dksX4_cups_3 23 rfl rfl)
theorem dX4_cups_95 : decode cX4_cups 95 = .ok (.istore 4, 2) := dk_54 4 (dk_at dksX4_cups_4 0 rfl rfl)
theorem dX4_cups_97 : decode cX4_cups 97 = .ok (.iconst 0, 1) := dk_3 (dk_at dksX4_cups_4 2 rfl rfl)
theorem dX4_cups_98 : decode cX4_cups 98 = .ok (.istore 5, 2) := dk_54 5 (dk_at dksX4_cups_4 3 rfl rfl)
theorem dX4_cups_100 : decode cX4_cups 100 = .ok (.iload 5, 2) := dk_21 5 (dk_at dksX4_cups_4 5 rfl rfl)
theorem dX4_cups_102 : decode cX4_cups 102 = .ok (.iload_n 3, 1) := dk_29 (dk_at dksX4_cups_4 7 rfl rfl)
theorem dX4_cups_103 : decode cX4_cups 103 = .ok (.if_icmp .ge 30, 3) := dk_162 0 30 (dk_at dksX4_cups_4 8 rfl rfl)
theorem dX4_cups_106 : decode cX4_cups 106 = .ok (.iload 4, 2) := dk_21 4 (dk_at dksX4_cups_4 11 rfl rfl)
theorem dX4_cups_108 : decode cX4_cups 108 = .ok (.aload_n 0, 1) := dk_42 (dk_at dksX4_cups_4 13 rfl rfl)
theorem dX4_cups_109 : decode cX4_cups 109 = .ok (.iload_n 2, 1) := dk_28 (dk_at dksX4_cups_4 14 rfl rfl)
theorem dX4_cups_110 : decode cX4_cups 110 = .ok (.iload 5, 2) := dk_21 5 (dk_at dksX4_cups_4 15 rfl rfl)
theorem dX4_cups_112 : decode cX4_cups 112 = .ok (.invokevirtual 400, 3) := dk_182 1 144 (dk_at dksX4_cups_4 17 rfl rfl)
theorem dX4_cups_115 : decode cX4_cups 115 = .ok (.iload_n 1, 1) := dk_27 (dk_at dksX4_cups_4 20 rfl rfl)
theorem dX4_cups_116 : decode cX4_cups 116 = .ok (.if_icmp .ne 7, 3) := dk_160 0 7 (dk_at dksX4_cups_4 21 rfl rfl)
theorem dX4_cups_119 : decode cX4_cups 119 = .ok (.iconst 1, 1) := dk_4 (dk_at dksX4_cups_5 0 rfl rfl)
theorem dX4_cups_120 : decode cX4_cups 120 = .ok (.goto 4, 3) := dk_167 0 4 (dk_at dksX4_cups_5 1 rfl rfl)
theorem dX4_cups_123 : decode cX4_cups 123 = .ok (.iconst 0, 1) := dk_3 (dk_at dksX4_cups_5 4 rfl rfl)
theorem dX4_cups_124 : decode cX4_cups 124 = .ok (.iadd, 1) := dk_96 (dk_at dksX4_cups_5 5 rfl rfl)
theorem dX4_cups_125 : decode cX4_cups 125 = .ok (.istore 4, 2) := dk_54 4 (dk_at dksX4_cups_5 6 rfl rfl)
theorem dX4_cups_127 : decode cX4_cups 127 = .ok (.iinc 5 1, 3) := dk_132 5 1 (dk_at dksX4_cups_5 8 rfl rfl)
theorem dX4_cups_130 : decode cX4_cups 130 = .ok (.goto (-30), 3) := dk_167 255 226 (dk_at dksX4_cups_5 11 rfl rfl)
theorem dX4_cups_133 : decode cX4_cups 133 = .ok (.iload 4, 2) := dk_21 4 (dk_at dksX4_cups_5 14 rfl rfl)
theorem dX4_cups_135 : decode cX4_cups 135 = .ok (.ireturn, 1) := dk_172 (dk_at dksX4_cups_5 16 rfl rfl)
abbrev cX4_waysOf : ByteArray := prog_19_method_81_code
def yX4_waysOf : MethodName := ⟨RX4, "waysOf", "(I)I"⟩
def dkwX4_waysOf_0 : List UInt8 := [4, 60, 26, 4, 100, 61, 28, 4, 164, 0, 13, 27, 28, 104, 60, 132, 2, 254, 167, 255, 244, 27, 172]
abbrev dktX4_waysOf_0 : List UInt8 := dkwX4_waysOf_0 ++ []
theorem dksX4_waysOf_0 : cX4_waysOf.data.toList.drop 0 = dktX4_waysOf_0 := by decide +kernel
theorem dX4_waysOf_0 : decode cX4_waysOf 0 = .ok (.iconst 1, 1) := dk_4 (dk_at dksX4_waysOf_0 0 rfl rfl)
theorem dX4_waysOf_1 : decode cX4_waysOf 1 = .ok (.istore_n 1, 1) := dk_60 (dk_at dksX4_waysOf_0 1 rfl rfl)
theorem dX4_waysOf_2 : decode cX4_waysOf 2 = .ok (.iload_n 0, 1) := dk_26 (dk_at dksX4_waysOf_0 2 rfl rfl)
theorem dX4_waysOf_3 : decode cX4_waysOf 3 = .ok (.iconst 1, 1) := dk_4 (dk_at dksX4_waysOf_0 3 rfl rfl)
theorem dX4_waysOf_4 : decode cX4_waysOf 4 = .ok (.isub, 1) := dk_100 (dk_at dksX4_waysOf_0 4 rfl rfl)
theorem dX4_waysOf_5 : decode cX4_waysOf 5 = .ok (.istore_n 2, 1) := dk_61 (dk_at dksX4_waysOf_0 5 rfl rfl)
theorem dX4_waysOf_6 : decode cX4_waysOf 6 = .ok (.iload_n 2, 1) := dk_28 (dk_at dksX4_waysOf_0 6 rfl rfl)
theorem dX4_waysOf_7 : decode cX4_waysOf 7 = .ok (.iconst 1, 1) := dk_4 (dk_at dksX4_waysOf_0 7 rfl rfl)
theorem dX4_waysOf_8 : decode cX4_waysOf 8 = .ok (.if_icmp .le 13, 3) := dk_164 0 13 (dk_at dksX4_waysOf_0 8 rfl rfl)
theorem dX4_waysOf_11 : decode cX4_waysOf 11 = .ok (.iload_n 1, 1) := dk_27 (dk_at dksX4_waysOf_0 11 rfl rfl)
theorem dX4_waysOf_12 : decode cX4_waysOf 12 = .ok (.iload_n 2, 1) := dk_28 (dk_at dksX4_waysOf_0 12 rfl rfl)
theorem dX4_waysOf_13 : decode cX4_waysOf 13 = .ok (.imul, 1) := dk_104 (dk_at dksX4_waysOf_0 13 rfl rfl)
theorem dX4_waysOf_14 : decode cX4_waysOf 14 = .ok (.istore_n 1, 1) := dk_60 (dk_at dksX4_waysOf_0 14 rfl rfl)
theorem dX4_waysOf_15 : decode cX4_waysOf 15 = .ok (.iinc 2 (-2), 3) := dk_132 2 254 (dk_at dksX4_waysOf_0 15 rfl rfl)
theorem dX4_waysOf_18 : decode cX4_waysOf 18 = .ok (.goto (-12), 3) := dk_167 255 244 (dk_at dksX4_waysOf_0 18 rfl rfl)
theorem dX4_waysOf_21 : decode cX4_waysOf 21 = .ok (.iload_n 1, 1) := dk_27 (dk_at dksX4_waysOf_0 21 rfl rfl)
theorem dX4_waysOf_22 : decode cX4_waysOf 22 = .ok (.ireturn, 1) := dk_172 (dk_at dksX4_waysOf_0 22 rfl rfl)
abbrev cX4_lastBy : ByteArray := prog_19_method_84_code
def yX4_lastBy : MethodName := ⟨RX4, "lastBy", "(II)I"⟩
def dkwX4_lastBy_4 : List UInt8 := [3, 46, 172]
abbrev dktX4_lastBy_4 : List UInt8 := dkwX4_lastBy_4 ++ []
def dkwX4_lastBy_3 : List UInt8 := [182, 1, 137, 29, 21, 5, 184, 1, 134, 108, 62, 21, 5, 5, 108, 54, 5, 167, 255, 223, 42, 180, 0, 52]
abbrev dktX4_lastBy_3 : List UInt8 := dkwX4_lastBy_3 ++ dktX4_lastBy_4
def dkwX4_lastBy_2 : List UInt8 := [167, 255, 218, 27, 54, 5, 21, 5, 4, 164, 0, 33, 42, 21, 5, 29, 21, 5, 184, 1, 134, 112]
abbrev dktX4_lastBy_2 : List UInt8 := dkwX4_lastBy_2 ++ dktX4_lastBy_3
def dkwX4_lastBy_1 : List UInt8 := [182, 1, 40, 154, 0, 6, 167, 0, 15, 42, 180, 0, 52, 21, 4, 21, 5, 79, 132, 4, 1, 132, 5, 1]
abbrev dktX4_lastBy_1 : List UInt8 := dkwX4_lastBy_1 ++ dktX4_lastBy_2
def dkwX4_lastBy_0 : List UInt8 := [28, 62, 3, 54, 4, 3, 54, 5, 21, 5, 42, 180, 0, 39, 5, 46, 162, 0, 33, 42, 21, 5]
abbrev dktX4_lastBy_0 : List UInt8 := dkwX4_lastBy_0 ++ dktX4_lastBy_1
theorem dksX4_lastBy_0 : cX4_lastBy.data.toList.drop 0 = dktX4_lastBy_0 := by decide +kernel
theorem dksX4_lastBy_1 : cX4_lastBy.data.toList.drop 22 = dktX4_lastBy_1 := dk_seg dksX4_lastBy_0 22 rfl rfl
theorem dksX4_lastBy_2 : cX4_lastBy.data.toList.drop 46 = dktX4_lastBy_2 := dk_seg dksX4_lastBy_1 24 rfl rfl
theorem dksX4_lastBy_3 : cX4_lastBy.data.toList.drop 68 = dktX4_lastBy_3 := dk_seg dksX4_lastBy_2 22 rfl rfl
theorem dksX4_lastBy_4 : cX4_lastBy.data.toList.drop 92 = dktX4_lastBy_4 := dk_seg dksX4_lastBy_3 24 rfl rfl
theorem dX4_lastBy_0 : decode cX4_lastBy 0 = .ok (.iload_n 2, 1) := dk_28 (dk_at dksX4_lastBy_0 0 rfl rfl)
theorem dX4_lastBy_1 : decode cX4_lastBy 1 = .ok (.istore_n 3, 1) := dk_62 (dk_at dksX4_lastBy_0 1 rfl rfl)
theorem dX4_lastBy_2 : decode cX4_lastBy 2 = .ok (.iconst 0, 1) := dk_3 (dk_at dksX4_lastBy_0 2 rfl rfl)
theorem dX4_lastBy_3 : decode cX4_lastBy 3 = .ok (.istore 4, 2) := dk_54 4 (dk_at dksX4_lastBy_0 3 rfl rfl)
theorem dX4_lastBy_5 : decode cX4_lastBy 5 = .ok (.iconst 0, 1) := dk_3 (dk_at dksX4_lastBy_0 5 rfl rfl)
theorem dX4_lastBy_6 : decode cX4_lastBy 6 = .ok (.istore 5, 2) := dk_54 5 (dk_at dksX4_lastBy_0 6 rfl rfl)
theorem dX4_lastBy_8 : decode cX4_lastBy 8 = .ok (.iload 5, 2) := dk_21 5 (dk_at dksX4_lastBy_0 8 rfl rfl)
theorem dX4_lastBy_10 : decode cX4_lastBy 10 = .ok (.aload_n 0, 1) := dk_42 (dk_at dksX4_lastBy_0 10 rfl rfl)
theorem dX4_lastBy_11 : decode cX4_lastBy 11 = .ok (.getfield 39, 3) := dk_180 0 39 (dk_at dksX4_lastBy_0 11 rfl rfl)
theorem dX4_lastBy_14 : decode cX4_lastBy 14 = .ok (.iconst 2, 1) := dk_5 (dk_at dksX4_lastBy_0 14 rfl rfl)
theorem dX4_lastBy_15 : decode cX4_lastBy 15 = .ok (.iaload, 1) := dk_46 (dk_at dksX4_lastBy_0 15 rfl rfl)
theorem dX4_lastBy_16 : decode cX4_lastBy 16 = .ok (.if_icmp .ge 33, 3) := dk_162 0 33 (dk_at dksX4_lastBy_0 16 rfl rfl)
theorem dX4_lastBy_19 : decode cX4_lastBy 19 = .ok (.aload_n 0, 1) := dk_42 (dk_at dksX4_lastBy_0 19 rfl rfl)
theorem dX4_lastBy_20 : decode cX4_lastBy 20 = .ok (.iload 5, 2) := dk_21 5 (dk_at dksX4_lastBy_0 20 rfl rfl)
theorem dX4_lastBy_22 : decode cX4_lastBy 22 = .ok (.invokevirtual 296, 3) := dk_182 1 40 (dk_at dksX4_lastBy_1 0 rfl rfl)
theorem dX4_lastBy_25 : decode cX4_lastBy 25 = .ok (.ifCond .ne 6, 3) := dk_154 0 6 (dk_at dksX4_lastBy_1 3 rfl rfl)
theorem dX4_lastBy_28 : decode cX4_lastBy 28 = .ok (.goto 15, 3) := dk_167 0 15 (dk_at dksX4_lastBy_1 6 rfl rfl)
theorem dX4_lastBy_31 : decode cX4_lastBy 31 = .ok (.aload_n 0, 1) := dk_42 (dk_at dksX4_lastBy_1 9 rfl rfl)
theorem dX4_lastBy_32 : decode cX4_lastBy 32 = .ok (.getfield 52, 3) := dk_180 0 52 (dk_at dksX4_lastBy_1 10 rfl rfl)
theorem dX4_lastBy_35 : decode cX4_lastBy 35 = .ok (.iload 4, 2) := dk_21 4 (dk_at dksX4_lastBy_1 13 rfl rfl)
theorem dX4_lastBy_37 : decode cX4_lastBy 37 = .ok (.iload 5, 2) := dk_21 5 (dk_at dksX4_lastBy_1 15 rfl rfl)
theorem dX4_lastBy_39 : decode cX4_lastBy 39 = .ok (.iastore, 1) := dk_79 (dk_at dksX4_lastBy_1 17 rfl rfl)
theorem dX4_lastBy_40 : decode cX4_lastBy 40 = .ok (.iinc 4 1, 3) := dk_132 4 1 (dk_at dksX4_lastBy_1 18 rfl rfl)
theorem dX4_lastBy_43 : decode cX4_lastBy 43 = .ok (.iinc 5 1, 3) := dk_132 5 1 (dk_at dksX4_lastBy_1 21 rfl rfl)
theorem dX4_lastBy_46 : decode cX4_lastBy 46 = .ok (.goto (-38), 3) := dk_167 255 218 (dk_at dksX4_lastBy_2 0 rfl rfl)
theorem dX4_lastBy_49 : decode cX4_lastBy 49 = .ok (.iload_n 1, 1) := dk_27 (dk_at dksX4_lastBy_2 3 rfl rfl)
theorem dX4_lastBy_50 : decode cX4_lastBy 50 = .ok (.istore 5, 2) := dk_54 5 (dk_at dksX4_lastBy_2 4 rfl rfl)
theorem dX4_lastBy_52 : decode cX4_lastBy 52 = .ok (.iload 5, 2) := dk_21 5 (dk_at dksX4_lastBy_2 6 rfl rfl)
theorem dX4_lastBy_54 : decode cX4_lastBy 54 = .ok (.iconst 1, 1) := dk_4 (dk_at dksX4_lastBy_2 8 rfl rfl)
theorem dX4_lastBy_55 : decode cX4_lastBy 55 = .ok (.if_icmp .le 33, 3) := dk_164 0 33 (dk_at dksX4_lastBy_2 9 rfl rfl)
theorem dX4_lastBy_58 : decode cX4_lastBy 58 = .ok (.aload_n 0, 1) := dk_42 (dk_at dksX4_lastBy_2 12 rfl rfl)
theorem dX4_lastBy_59 : decode cX4_lastBy 59 = .ok (.iload 5, 2) := dk_21 5 (dk_at dksX4_lastBy_2 13 rfl rfl)
theorem dX4_lastBy_61 : decode cX4_lastBy 61 = .ok (.iload_n 3, 1) := dk_29 (dk_at dksX4_lastBy_2 15 rfl rfl)
theorem dX4_lastBy_62 : decode cX4_lastBy 62 = .ok (.iload 5, 2) := dk_21 5 (dk_at dksX4_lastBy_2 16 rfl rfl)
theorem dX4_lastBy_64 : decode cX4_lastBy 64 = .ok (.invokestatic 390, 3) := dk_184 1 134 (dk_at dksX4_lastBy_2 18 rfl rfl)
theorem dX4_lastBy_67 : decode cX4_lastBy 67 = .ok (.irem, 1) := dk_112 (dk_at dksX4_lastBy_2 21 rfl rfl)
theorem dX4_lastBy_68 : decode cX4_lastBy 68 = .ok (.invokevirtual 393, 3) := dk_182 1 137 (dk_at dksX4_lastBy_3 0 rfl rfl)
theorem dX4_lastBy_71 : decode cX4_lastBy 71 = .ok (.iload_n 3, 1) := dk_29 (dk_at dksX4_lastBy_3 3 rfl rfl)
theorem dX4_lastBy_72 : decode cX4_lastBy 72 = .ok (.iload 5, 2) := dk_21 5 (dk_at dksX4_lastBy_3 4 rfl rfl)
theorem dX4_lastBy_74 : decode cX4_lastBy 74 = .ok (.invokestatic 390, 3) := dk_184 1 134 (dk_at dksX4_lastBy_3 6 rfl rfl)
theorem dX4_lastBy_77 : decode cX4_lastBy 77 = .ok (.idiv, 1) := dk_108 (dk_at dksX4_lastBy_3 9 rfl rfl)
theorem dX4_lastBy_78 : decode cX4_lastBy 78 = .ok (.istore_n 3, 1) := dk_62 (dk_at dksX4_lastBy_3 10 rfl rfl)
theorem dX4_lastBy_79 : decode cX4_lastBy 79 = .ok (.iload 5, 2) := dk_21 5 (dk_at dksX4_lastBy_3 11 rfl rfl)
theorem dX4_lastBy_81 : decode cX4_lastBy 81 = .ok (.iconst 2, 1) := dk_5 (dk_at dksX4_lastBy_3 13 rfl rfl)
theorem dX4_lastBy_82 : decode cX4_lastBy 82 = .ok (.idiv, 1) := dk_108 (dk_at dksX4_lastBy_3 14 rfl rfl)
theorem dX4_lastBy_83 : decode cX4_lastBy 83 = .ok (.istore 5, 2) := dk_54 5 (dk_at dksX4_lastBy_3 15 rfl rfl)
theorem dX4_lastBy_85 : decode cX4_lastBy 85 = .ok (.goto (-33), 3) := dk_167 255 223 (dk_at dksX4_lastBy_3 17 rfl rfl)
theorem dX4_lastBy_88 : decode cX4_lastBy 88 = .ok (.aload_n 0, 1) := dk_42 (dk_at dksX4_lastBy_3 20 rfl rfl)
theorem dX4_lastBy_89 : decode cX4_lastBy 89 = .ok (.getfield 52, 3) := dk_180 0 52 (dk_at dksX4_lastBy_3 21 rfl rfl)
theorem dX4_lastBy_92 : decode cX4_lastBy 92 = .ok (.iconst 0, 1) := dk_3 (dk_at dksX4_lastBy_4 0 rfl rfl)
theorem dX4_lastBy_93 : decode cX4_lastBy 93 = .ok (.iaload, 1) := dk_46 (dk_at dksX4_lastBy_4 1 rfl rfl)
theorem dX4_lastBy_94 : decode cX4_lastBy 94 = .ok (.ireturn, 1) := dk_172 (dk_at dksX4_lastBy_4 2 rfl rfl)
abbrev cX4_plays : ByteArray := prog_19_method_83_code
def yX4_plays : MethodName := ⟨RX4, "plays", "(II)V"⟩
def dkwX4_plays_6 : List UInt8 := [132, 6, 1, 167, 255, 121, 177]
abbrev dktX4_plays_6 : List UInt8 := dkwX4_plays_6 ++ []
def dkwX4_plays_5 : List UInt8 := [21, 5, 42, 42, 180, 0, 52, 21, 6, 46, 42, 180, 0, 52, 21, 9, 46, 182, 1, 131, 79, 132, 5, 1]
abbrev dktX4_plays_5 : List UInt8 := dkwX4_plays_5 ++ dktX4_plays_6
def dkwX4_plays_4 : List UInt8 := [4, 100, 54, 8, 132, 9, 1, 167, 255, 218, 21, 4, 4, 21, 9, 120, 128, 54, 4, 42, 180, 0, 52]
abbrev dktX4_plays_4 : List UInt8 := dkwX4_plays_4 ++ dktX4_plays_5
def dkwX4_plays_3 : List UInt8 := [154, 0, 8, 21, 8, 158, 0, 29, 21, 8, 21, 4, 21, 9, 184, 1, 122, 153, 0, 7, 3, 167, 0, 4]
abbrev dktX4_plays_3 : List UInt8 := dkwX4_plays_3 ++ dktX4_plays_4
def dkwX4_plays_2 : List UInt8 := [29, 21, 7, 112, 54, 8, 29, 21, 7, 108, 62, 21, 6, 4, 96, 54, 9, 21, 4, 21, 9, 184, 1, 122]
abbrev dktX4_plays_2 : List UInt8 := dkwX4_plays_2 ++ dktX4_plays_3
def dkwX4_plays_1 : List UInt8 := [153, 0, 6, 167, 0, 116, 21, 4, 4, 21, 6, 120, 128, 54, 4, 27, 21, 4, 184, 1, 74, 100, 54, 7]
abbrev dktX4_plays_1 : List UInt8 := dkwX4_plays_1 ++ dktX4_plays_2
def dkwX4_plays_0 : List UInt8 := [28, 62, 3, 54, 4, 3, 54, 5, 3, 54, 6, 21, 6, 27, 162, 0, 135, 21, 4, 21, 6, 184, 1, 122]
abbrev dktX4_plays_0 : List UInt8 := dkwX4_plays_0 ++ dktX4_plays_1
theorem dksX4_plays_0 : cX4_plays.data.toList.drop 0 = dktX4_plays_0 := by decide +kernel
theorem dksX4_plays_1 : cX4_plays.data.toList.drop 24 = dktX4_plays_1 := dk_seg dksX4_plays_0 24 rfl rfl
theorem dksX4_plays_2 : cX4_plays.data.toList.drop 48 = dktX4_plays_2 := dk_seg dksX4_plays_1 24 rfl rfl
theorem dksX4_plays_3 : cX4_plays.data.toList.drop 72 = dktX4_plays_3 := dk_seg dksX4_plays_2 24 rfl rfl
theorem dksX4_plays_4 : cX4_plays.data.toList.drop 96 = dktX4_plays_4 := dk_seg dksX4_plays_3 24 rfl rfl
theorem dksX4_plays_5 : cX4_plays.data.toList.drop 119 = dktX4_plays_5 := dk_seg dksX4_plays_4 23 rfl rfl
theorem dksX4_plays_6 : cX4_plays.data.toList.drop 143 = dktX4_plays_6 := dk_seg dksX4_plays_5 24 rfl rfl
theorem dX4_plays_0 : decode cX4_plays 0 = .ok (.iload_n 2, 1) := dk_28 (dk_at dksX4_plays_0 0 rfl rfl)
theorem dX4_plays_1 : decode cX4_plays 1 = .ok (.istore_n 3, 1) := dk_62 (dk_at dksX4_plays_0 1 rfl rfl)
theorem dX4_plays_2 : decode cX4_plays 2 = .ok (.iconst 0, 1) := dk_3 (dk_at dksX4_plays_0 2 rfl rfl)
theorem dX4_plays_3 : decode cX4_plays 3 = .ok (.istore 4, 2) := dk_54 4 (dk_at dksX4_plays_0 3 rfl rfl)
theorem dX4_plays_5 : decode cX4_plays 5 = .ok (.iconst 0, 1) := dk_3 (dk_at dksX4_plays_0 5 rfl rfl)
theorem dX4_plays_6 : decode cX4_plays 6 = .ok (.istore 5, 2) := dk_54 5 (dk_at dksX4_plays_0 6 rfl rfl)
theorem dX4_plays_8 : decode cX4_plays 8 = .ok (.iconst 0, 1) := dk_3 (dk_at dksX4_plays_0 8 rfl rfl)
theorem dX4_plays_9 : decode cX4_plays 9 = .ok (.istore 6, 2) := dk_54 6 (dk_at dksX4_plays_0 9 rfl rfl)
theorem dX4_plays_11 : decode cX4_plays 11 = .ok (.iload 6, 2) := dk_21 6 (dk_at dksX4_plays_0 11 rfl rfl)
theorem dX4_plays_13 : decode cX4_plays 13 = .ok (.iload_n 1, 1) := dk_27 (dk_at dksX4_plays_0 13 rfl rfl)
theorem dX4_plays_14 : decode cX4_plays 14 = .ok (.if_icmp .ge 135, 3) := dk_162 0 135 (dk_at dksX4_plays_0 14 rfl rfl)
theorem dX4_plays_17 : decode cX4_plays 17 = .ok (.iload 4, 2) := dk_21 4 (dk_at dksX4_plays_0 17 rfl rfl)
theorem dX4_plays_19 : decode cX4_plays 19 = .ok (.iload 6, 2) := dk_21 6 (dk_at dksX4_plays_0 19 rfl rfl)
theorem dX4_plays_21 : decode cX4_plays 21 = .ok (.invokestatic 378, 3) := dk_184 1 122 (dk_at dksX4_plays_0 21 rfl rfl)
theorem dX4_plays_24 : decode cX4_plays 24 = .ok (.ifCond .eq 6, 3) := dk_153 0 6 (dk_at dksX4_plays_1 0 rfl rfl)
theorem dX4_plays_27 : decode cX4_plays 27 = .ok (.goto 116, 3) := dk_167 0 116 (dk_at dksX4_plays_1 3 rfl rfl)
theorem dX4_plays_30 : decode cX4_plays 30 = .ok (.iload 4, 2) := dk_21 4 (dk_at dksX4_plays_1 6 rfl rfl)
theorem dX4_plays_32 : decode cX4_plays 32 = .ok (.iconst 1, 1) := dk_4 (dk_at dksX4_plays_1 8 rfl rfl)
theorem dX4_plays_33 : decode cX4_plays 33 = .ok (.iload 6, 2) := dk_21 6 (dk_at dksX4_plays_1 9 rfl rfl)
theorem dX4_plays_35 : decode cX4_plays 35 = .ok (.ishl, 1) := dk_120 (dk_at dksX4_plays_1 11 rfl rfl)
theorem dX4_plays_36 : decode cX4_plays 36 = .ok (.ior, 1) := dk_128 (dk_at dksX4_plays_1 12 rfl rfl)
theorem dX4_plays_37 : decode cX4_plays 37 = .ok (.istore 4, 2) := dk_54 4 (dk_at dksX4_plays_1 13 rfl rfl)
theorem dX4_plays_39 : decode cX4_plays 39 = .ok (.iload_n 1, 1) := dk_27 (dk_at dksX4_plays_1 15 rfl rfl)
theorem dX4_plays_40 : decode cX4_plays 40 = .ok (.iload 4, 2) := dk_21 4 (dk_at dksX4_plays_1 16 rfl rfl)
theorem dX4_plays_42 : decode cX4_plays 42 = .ok (.invokestatic 330, 3) := dk_184 1 74 (dk_at dksX4_plays_1 18 rfl rfl)
theorem dX4_plays_45 : decode cX4_plays 45 = .ok (.isub, 1) := dk_100 (dk_at dksX4_plays_1 21 rfl rfl)
theorem dX4_plays_46 : decode cX4_plays 46 = .ok (.istore 7, 2) := dk_54 7 (dk_at dksX4_plays_1 22 rfl rfl)
theorem dX4_plays_48 : decode cX4_plays 48 = .ok (.iload_n 3, 1) := dk_29 (dk_at dksX4_plays_2 0 rfl rfl)
theorem dX4_plays_49 : decode cX4_plays 49 = .ok (.iload 7, 2) := dk_21 7 (dk_at dksX4_plays_2 1 rfl rfl)
theorem dX4_plays_51 : decode cX4_plays 51 = .ok (.irem, 1) := dk_112 (dk_at dksX4_plays_2 3 rfl rfl)
theorem dX4_plays_52 : decode cX4_plays 52 = .ok (.istore 8, 2) := dk_54 8 (dk_at dksX4_plays_2 4 rfl rfl)
theorem dX4_plays_54 : decode cX4_plays 54 = .ok (.iload_n 3, 1) := dk_29 (dk_at dksX4_plays_2 6 rfl rfl)
theorem dX4_plays_55 : decode cX4_plays 55 = .ok (.iload 7, 2) := dk_21 7 (dk_at dksX4_plays_2 7 rfl rfl)
theorem dX4_plays_57 : decode cX4_plays 57 = .ok (.idiv, 1) := dk_108 (dk_at dksX4_plays_2 9 rfl rfl)
theorem dX4_plays_58 : decode cX4_plays 58 = .ok (.istore_n 3, 1) := dk_62 (dk_at dksX4_plays_2 10 rfl rfl)
theorem dX4_plays_59 : decode cX4_plays 59 = .ok (.iload 6, 2) := dk_21 6 (dk_at dksX4_plays_2 11 rfl rfl)
theorem dX4_plays_61 : decode cX4_plays 61 = .ok (.iconst 1, 1) := dk_4 (dk_at dksX4_plays_2 13 rfl rfl)
theorem dX4_plays_62 : decode cX4_plays 62 = .ok (.iadd, 1) := dk_96 (dk_at dksX4_plays_2 14 rfl rfl)
theorem dX4_plays_63 : decode cX4_plays 63 = .ok (.istore 9, 2) := dk_54 9 (dk_at dksX4_plays_2 15 rfl rfl)
theorem dX4_plays_65 : decode cX4_plays 65 = .ok (.iload 4, 2) := dk_21 4 (dk_at dksX4_plays_2 17 rfl rfl)
theorem dX4_plays_67 : decode cX4_plays 67 = .ok (.iload 9, 2) := dk_21 9 (dk_at dksX4_plays_2 19 rfl rfl)
theorem dX4_plays_69 : decode cX4_plays 69 = .ok (.invokestatic 378, 3) := dk_184 1 122 (dk_at dksX4_plays_2 21 rfl rfl)
theorem dX4_plays_72 : decode cX4_plays 72 = .ok (.ifCond .ne 8, 3) := dk_154 0 8 (dk_at dksX4_plays_3 0 rfl rfl)
theorem dX4_plays_75 : decode cX4_plays 75 = .ok (.iload 8, 2) := dk_21 8 (dk_at dksX4_plays_3 3 rfl rfl)
theorem dX4_plays_77 : decode cX4_plays 77 = .ok (.ifCond .le 29, 3) := dk_158 0 29 (dk_at dksX4_plays_3 5 rfl rfl)
theorem dX4_plays_80 : decode cX4_plays 80 = .ok (.iload 8, 2) := dk_21 8 (dk_at dksX4_plays_3 8 rfl rfl)
theorem dX4_plays_82 : decode cX4_plays 82 = .ok (.iload 4, 2) := dk_21 4 (dk_at dksX4_plays_3 10 rfl rfl)
theorem dX4_plays_84 : decode cX4_plays 84 = .ok (.iload 9, 2) := dk_21 9 (dk_at dksX4_plays_3 12 rfl rfl)
theorem dX4_plays_86 : decode cX4_plays 86 = .ok (.invokestatic 378, 3) := dk_184 1 122 (dk_at dksX4_plays_3 14 rfl rfl)
theorem dX4_plays_89 : decode cX4_plays 89 = .ok (.ifCond .eq 7, 3) := dk_153 0 7 (dk_at dksX4_plays_3 17 rfl rfl)
theorem dX4_plays_92 : decode cX4_plays 92 = .ok (.iconst 0, 1) := dk_3 (dk_at dksX4_plays_3 20 rfl rfl)
theorem dX4_plays_93 : decode cX4_plays 93 = .ok (.goto 4, 3) := dk_167 0 4 (dk_at dksX4_plays_3 21 rfl rfl)
theorem dX4_plays_96 : decode cX4_plays 96 = .ok (.iconst 1, 1) := dk_4 (dk_at dksX4_plays_4 0 rfl rfl)
theorem dX4_plays_97 : decode cX4_plays 97 = .ok (.isub, 1) := dk_100 (dk_at dksX4_plays_4 1 rfl rfl)
theorem dX4_plays_98 : decode cX4_plays 98 = .ok (.istore 8, 2) := dk_54 8 (dk_at dksX4_plays_4 2 rfl rfl)
theorem dX4_plays_100 : decode cX4_plays 100 = .ok (.iinc 9 1, 3) := dk_132 9 1 (dk_at dksX4_plays_4 4 rfl rfl)
theorem dX4_plays_103 : decode cX4_plays 103 = .ok (.goto (-38), 3) := dk_167 255 218 (dk_at dksX4_plays_4 7 rfl rfl)
theorem dX4_plays_106 : decode cX4_plays 106 = .ok (.iload 4, 2) := dk_21 4 (dk_at dksX4_plays_4 10 rfl rfl)
theorem dX4_plays_108 : decode cX4_plays 108 = .ok (.iconst 1, 1) := dk_4 (dk_at dksX4_plays_4 12 rfl rfl)
theorem dX4_plays_109 : decode cX4_plays 109 = .ok (.iload 9, 2) := dk_21 9 (dk_at dksX4_plays_4 13 rfl rfl)
theorem dX4_plays_111 : decode cX4_plays 111 = .ok (.ishl, 1) := dk_120 (dk_at dksX4_plays_4 15 rfl rfl)
theorem dX4_plays_112 : decode cX4_plays 112 = .ok (.ior, 1) := dk_128 (dk_at dksX4_plays_4 16 rfl rfl)
theorem dX4_plays_113 : decode cX4_plays 113 = .ok (.istore 4, 2) := dk_54 4 (dk_at dksX4_plays_4 17 rfl rfl)
theorem dX4_plays_115 : decode cX4_plays 115 = .ok (.aload_n 0, 1) := dk_42 (dk_at dksX4_plays_4 19 rfl rfl)
theorem dX4_plays_116 : decode cX4_plays 116 = .ok (.getfield 52, 3) := dk_180 0 52 (dk_at dksX4_plays_4 20 rfl rfl)
theorem dX4_plays_119 : decode cX4_plays 119 = .ok (.iload 5, 2) := dk_21 5 (dk_at dksX4_plays_5 0 rfl rfl)
theorem dX4_plays_121 : decode cX4_plays 121 = .ok (.aload_n 0, 1) := dk_42 (dk_at dksX4_plays_5 2 rfl rfl)
theorem dX4_plays_122 : decode cX4_plays 122 = .ok (.aload_n 0, 1) := dk_42 (dk_at dksX4_plays_5 3 rfl rfl)
theorem dX4_plays_123 : decode cX4_plays 123 = .ok (.getfield 52, 3) := dk_180 0 52 (dk_at dksX4_plays_5 4 rfl rfl)
theorem dX4_plays_126 : decode cX4_plays 126 = .ok (.iload 6, 2) := dk_21 6 (dk_at dksX4_plays_5 7 rfl rfl)
theorem dX4_plays_128 : decode cX4_plays 128 = .ok (.iaload, 1) := dk_46 (dk_at dksX4_plays_5 9 rfl rfl)
theorem dX4_plays_129 : decode cX4_plays 129 = .ok (.aload_n 0, 1) := dk_42 (dk_at dksX4_plays_5 10 rfl rfl)
theorem dX4_plays_130 : decode cX4_plays 130 = .ok (.getfield 52, 3) := dk_180 0 52 (dk_at dksX4_plays_5 11 rfl rfl)
theorem dX4_plays_133 : decode cX4_plays 133 = .ok (.iload 9, 2) := dk_21 9 (dk_at dksX4_plays_5 14 rfl rfl)
theorem dX4_plays_135 : decode cX4_plays 135 = .ok (.iaload, 1) := dk_46 (dk_at dksX4_plays_5 16 rfl rfl)
theorem dX4_plays_136 : decode cX4_plays 136 = .ok (.invokevirtual 387, 3) := dk_182 1 131 (dk_at dksX4_plays_5 17 rfl rfl)
theorem dX4_plays_139 : decode cX4_plays 139 = .ok (.iastore, 1) := dk_79 (dk_at dksX4_plays_5 20 rfl rfl)
theorem dX4_plays_140 : decode cX4_plays 140 = .ok (.iinc 5 1, 3) := dk_132 5 1 (dk_at dksX4_plays_5 21 rfl rfl)
theorem dX4_plays_143 : decode cX4_plays 143 = .ok (.iinc 6 1, 3) := dk_132 6 1 (dk_at dksX4_plays_6 0 rfl rfl)
theorem dX4_plays_146 : decode cX4_plays 146 = .ok (.goto (-135), 3) := dk_167 255 121 (dk_at dksX4_plays_6 3 rfl rfl)
theorem dX4_plays_149 : decode cX4_plays 149 = .ok (.return_, 1) := dk_177 (dk_at dksX4_plays_6 6 rfl rfl)
abbrev cX4_winnerOf : ByteArray := prog_19_method_82_code
def yX4_winnerOf : MethodName := ⟨RX4, "winnerOf", "(II)I"⟩
def dkwX4_winnerOf_1 : List UInt8 := [29, 21, 4, 182, 1, 61, 29, 160, 0, 8, 21, 4, 167, 0, 4, 29, 172]
abbrev dktX4_winnerOf_1 : List UInt8 := dkwX4_winnerOf_1 ++ []
def dkwX4_winnerOf_0 : List UInt8 := [27, 28, 162, 0, 7, 27, 167, 0, 4, 28, 62, 27, 28, 162, 0, 7, 28, 167, 0, 4, 27, 54, 4, 42]
abbrev dktX4_winnerOf_0 : List UInt8 := dkwX4_winnerOf_0 ++ dktX4_winnerOf_1
theorem dksX4_winnerOf_0 : cX4_winnerOf.data.toList.drop 0 = dktX4_winnerOf_0 := by decide +kernel
theorem dksX4_winnerOf_1 : cX4_winnerOf.data.toList.drop 24 = dktX4_winnerOf_1 := dk_seg dksX4_winnerOf_0 24 rfl rfl
theorem dX4_winnerOf_0 : decode cX4_winnerOf 0 = .ok (.iload_n 1, 1) := dk_27 (dk_at dksX4_winnerOf_0 0 rfl rfl)
theorem dX4_winnerOf_1 : decode cX4_winnerOf 1 = .ok (.iload_n 2, 1) := dk_28 (dk_at dksX4_winnerOf_0 1 rfl rfl)
theorem dX4_winnerOf_2 : decode cX4_winnerOf 2 = .ok (.if_icmp .ge 7, 3) := dk_162 0 7 (dk_at dksX4_winnerOf_0 2 rfl rfl)
theorem dX4_winnerOf_5 : decode cX4_winnerOf 5 = .ok (.iload_n 1, 1) := dk_27 (dk_at dksX4_winnerOf_0 5 rfl rfl)
theorem dX4_winnerOf_6 : decode cX4_winnerOf 6 = .ok (.goto 4, 3) := dk_167 0 4 (dk_at dksX4_winnerOf_0 6 rfl rfl)
theorem dX4_winnerOf_9 : decode cX4_winnerOf 9 = .ok (.iload_n 2, 1) := dk_28 (dk_at dksX4_winnerOf_0 9 rfl rfl)
theorem dX4_winnerOf_10 : decode cX4_winnerOf 10 = .ok (.istore_n 3, 1) := dk_62 (dk_at dksX4_winnerOf_0 10 rfl rfl)
theorem dX4_winnerOf_11 : decode cX4_winnerOf 11 = .ok (.iload_n 1, 1) := dk_27 (dk_at dksX4_winnerOf_0 11 rfl rfl)
theorem dX4_winnerOf_12 : decode cX4_winnerOf 12 = .ok (.iload_n 2, 1) := dk_28 (dk_at dksX4_winnerOf_0 12 rfl rfl)
theorem dX4_winnerOf_13 : decode cX4_winnerOf 13 = .ok (.if_icmp .ge 7, 3) := dk_162 0 7 (dk_at dksX4_winnerOf_0 13 rfl rfl)
theorem dX4_winnerOf_16 : decode cX4_winnerOf 16 = .ok (.iload_n 2, 1) := dk_28 (dk_at dksX4_winnerOf_0 16 rfl rfl)
theorem dX4_winnerOf_17 : decode cX4_winnerOf 17 = .ok (.goto 4, 3) := dk_167 0 4 (dk_at dksX4_winnerOf_0 17 rfl rfl)
theorem dX4_winnerOf_20 : decode cX4_winnerOf 20 = .ok (.iload_n 1, 1) := dk_27 (dk_at dksX4_winnerOf_0 20 rfl rfl)
theorem dX4_winnerOf_21 : decode cX4_winnerOf 21 = .ok (.istore 4, 2) := dk_54 4 (dk_at dksX4_winnerOf_0 21 rfl rfl)
theorem dX4_winnerOf_23 : decode cX4_winnerOf 23 = .ok (.aload_n 0, 1) := dk_42 (dk_at dksX4_winnerOf_0 23 rfl rfl)
theorem dX4_winnerOf_24 : decode cX4_winnerOf 24 = .ok (.iload_n 3, 1) := dk_29 (dk_at dksX4_winnerOf_1 0 rfl rfl)
theorem dX4_winnerOf_25 : decode cX4_winnerOf 25 = .ok (.iload 4, 2) := dk_21 4 (dk_at dksX4_winnerOf_1 1 rfl rfl)
theorem dX4_winnerOf_27 : decode cX4_winnerOf 27 = .ok (.invokevirtual 317, 3) := dk_182 1 61 (dk_at dksX4_winnerOf_1 3 rfl rfl)
theorem dX4_winnerOf_30 : decode cX4_winnerOf 30 = .ok (.iload_n 3, 1) := dk_29 (dk_at dksX4_winnerOf_1 6 rfl rfl)
theorem dX4_winnerOf_31 : decode cX4_winnerOf 31 = .ok (.if_icmp .ne 8, 3) := dk_160 0 8 (dk_at dksX4_winnerOf_1 7 rfl rfl)
theorem dX4_winnerOf_34 : decode cX4_winnerOf 34 = .ok (.iload 4, 2) := dk_21 4 (dk_at dksX4_winnerOf_1 10 rfl rfl)
theorem dX4_winnerOf_36 : decode cX4_winnerOf 36 = .ok (.goto 4, 3) := dk_167 0 4 (dk_at dksX4_winnerOf_1 12 rfl rfl)
theorem dX4_winnerOf_39 : decode cX4_winnerOf 39 = .ok (.iload_n 3, 1) := dk_29 (dk_at dksX4_winnerOf_1 15 rfl rfl)
theorem dX4_winnerOf_40 : decode cX4_winnerOf 40 = .ok (.ireturn, 1) := dk_172 (dk_at dksX4_winnerOf_1 16 rfl rfl)
abbrev cX4_ladder : ByteArray := prog_19_method_88_code
def yX4_ladder : MethodName := ⟨RX4, "ladder", "(I)I"⟩
def dkwX4_ladder_2 : List UInt8 := [46, 167, 0, 4, 2, 172]
abbrev dktX4_ladder_2 : List UInt8 := dkwX4_ladder_2 ++ []
def dkwX4_ladder_1 : List UInt8 := [42, 182, 1, 150, 61, 27, 2, 160, 0, 7, 28, 167, 0, 18, 27, 28, 162, 0, 12, 42, 180, 0, 58, 27]
abbrev dktX4_ladder_1 : List UInt8 := dkwX4_ladder_1 ++ dktX4_ladder_2
def dkwX4_ladder_0 : List UInt8 := [42, 182, 1, 106, 153, 0, 17, 27, 133, 20, 1, 140, 20, 1, 142, 184, 0, 124, 154, 0, 6, 16, 253, 172]
abbrev dktX4_ladder_0 : List UInt8 := dkwX4_ladder_0 ++ dktX4_ladder_1
theorem dksX4_ladder_0 : cX4_ladder.data.toList.drop 0 = dktX4_ladder_0 := by decide +kernel
theorem dksX4_ladder_1 : cX4_ladder.data.toList.drop 24 = dktX4_ladder_1 := dk_seg dksX4_ladder_0 24 rfl rfl
theorem dksX4_ladder_2 : cX4_ladder.data.toList.drop 48 = dktX4_ladder_2 := dk_seg dksX4_ladder_1 24 rfl rfl
theorem dX4_ladder_0 : decode cX4_ladder 0 = .ok (.aload_n 0, 1) := dk_42 (dk_at dksX4_ladder_0 0 rfl rfl)
theorem dX4_ladder_1 : decode cX4_ladder 1 = .ok (.invokevirtual 362, 3) := dk_182 1 106 (dk_at dksX4_ladder_0 1 rfl rfl)
theorem dX4_ladder_4 : decode cX4_ladder 4 = .ok (.ifCond .eq 17, 3) := dk_153 0 17 (dk_at dksX4_ladder_0 4 rfl rfl)
theorem dX4_ladder_7 : decode cX4_ladder 7 = .ok (.iload_n 1, 1) := dk_27 (dk_at dksX4_ladder_0 7 rfl rfl)
theorem dX4_ladder_8 : decode cX4_ladder 8 = .ok (.i2l, 1) := dk_133 (dk_at dksX4_ladder_0 8 rfl rfl)
theorem dX4_ladder_9 : decode cX4_ladder 9 = .ok (.ldc2_w 396, 3) := dk_20 1 140 (dk_at dksX4_ladder_0 9 rfl rfl)
theorem dX4_ladder_12 : decode cX4_ladder 12 = .ok (.ldc2_w 398, 3) := dk_20 1 142 (dk_at dksX4_ladder_0 12 rfl rfl)
theorem dX4_ladder_15 : decode cX4_ladder 15 = .ok (.invokestatic 124, 3) := dk_184 0 124 (dk_at dksX4_ladder_0 15 rfl rfl)
theorem dX4_ladder_18 : decode cX4_ladder 18 = .ok (.ifCond .ne 6, 3) := dk_154 0 6 (dk_at dksX4_ladder_0 18 rfl rfl)
theorem dX4_ladder_21 : decode cX4_ladder 21 = .ok (.bipush (-3), 2) := dk_16 253 (dk_at dksX4_ladder_0 21 rfl rfl)
theorem dX4_ladder_23 : decode cX4_ladder 23 = .ok (.ireturn, 1) := dk_172 (dk_at dksX4_ladder_0 23 rfl rfl)
theorem dX4_ladder_24 : decode cX4_ladder 24 = .ok (.aload_n 0, 1) := dk_42 (dk_at dksX4_ladder_1 0 rfl rfl)
theorem dX4_ladder_25 : decode cX4_ladder 25 = .ok (.invokevirtual 406, 3) := dk_182 1 150 (dk_at dksX4_ladder_1 1 rfl rfl)
theorem dX4_ladder_28 : decode cX4_ladder 28 = .ok (.istore_n 2, 1) := dk_61 (dk_at dksX4_ladder_1 4 rfl rfl)
theorem dX4_ladder_29 : decode cX4_ladder 29 = .ok (.iload_n 1, 1) := dk_27 (dk_at dksX4_ladder_1 5 rfl rfl)
theorem dX4_ladder_30 : decode cX4_ladder 30 = .ok (.iconst (-1), 1) := dk_2 (dk_at dksX4_ladder_1 6 rfl rfl)
theorem dX4_ladder_31 : decode cX4_ladder 31 = .ok (.if_icmp .ne 7, 3) := dk_160 0 7 (dk_at dksX4_ladder_1 7 rfl rfl)
theorem dX4_ladder_34 : decode cX4_ladder 34 = .ok (.iload_n 2, 1) := dk_28 (dk_at dksX4_ladder_1 10 rfl rfl)
theorem dX4_ladder_35 : decode cX4_ladder 35 = .ok (.goto 18, 3) := dk_167 0 18 (dk_at dksX4_ladder_1 11 rfl rfl)
theorem dX4_ladder_38 : decode cX4_ladder 38 = .ok (.iload_n 1, 1) := dk_27 (dk_at dksX4_ladder_1 14 rfl rfl)
theorem dX4_ladder_39 : decode cX4_ladder 39 = .ok (.iload_n 2, 1) := dk_28 (dk_at dksX4_ladder_1 15 rfl rfl)
theorem dX4_ladder_40 : decode cX4_ladder 40 = .ok (.if_icmp .ge 12, 3) := dk_162 0 12 (dk_at dksX4_ladder_1 16 rfl rfl)
theorem dX4_ladder_43 : decode cX4_ladder 43 = .ok (.aload_n 0, 1) := dk_42 (dk_at dksX4_ladder_1 19 rfl rfl)
theorem dX4_ladder_44 : decode cX4_ladder 44 = .ok (.getfield 58, 3) := dk_180 0 58 (dk_at dksX4_ladder_1 20 rfl rfl)
theorem dX4_ladder_47 : decode cX4_ladder 47 = .ok (.iload_n 1, 1) := dk_27 (dk_at dksX4_ladder_1 23 rfl rfl)
theorem dX4_ladder_48 : decode cX4_ladder 48 = .ok (.iaload, 1) := dk_46 (dk_at dksX4_ladder_2 0 rfl rfl)
theorem dX4_ladder_49 : decode cX4_ladder 49 = .ok (.goto 4, 3) := dk_167 0 4 (dk_at dksX4_ladder_2 1 rfl rfl)
theorem dX4_ladder_52 : decode cX4_ladder 52 = .ok (.iconst (-1), 1) := dk_2 (dk_at dksX4_ladder_2 4 rfl rfl)
theorem dX4_ladder_53 : decode cX4_ladder 53 = .ok (.ireturn, 1) := dk_172 (dk_at dksX4_ladder_2 5 rfl rfl)
abbrev cX4_findsLadder : ByteArray := prog_19_method_87_code
def yX4_findsLadder : MethodName := ⟨RX4, "findsLadder", "()I"⟩
def dkwX4_findsLadder_4 : List UInt8 := [180, 0, 55, 29, 46, 79, 132, 3, 1, 167, 255, 236, 167, 255, 165, 27, 172]
abbrev dktX4_findsLadder_4 : List UInt8 := dkwX4_findsLadder_4 ++ []
def dkwX4_findsLadder_3 : List UInt8 := [28, 27, 163, 0, 6, 167, 255, 195, 28, 60, 3, 62, 29, 27, 162, 0, 21, 42, 180, 0, 58, 29, 42]
abbrev dktX4_findsLadder_3 : List UInt8 := dkwX4_findsLadder_3 ++ dktX4_findsLadder_4
def dkwX4_findsLadder_2 : List UInt8 := [167, 255, 224, 42, 28, 182, 1, 147, 154, 0, 6, 167, 255, 213, 132, 2, 1, 42, 180, 0, 55, 28, 2, 79]
abbrev dktX4_findsLadder_2 : List UInt8 := dkwX4_findsLadder_2 ++ dktX4_findsLadder_3
def dkwX4_findsLadder_1 : List UInt8 := [92, 46, 4, 96, 79, 42, 180, 0, 55, 28, 46, 42, 180, 0, 39, 5, 46, 161, 0, 9, 132, 2, 255]
abbrev dktX4_findsLadder_1 : List UInt8 := dkwX4_findsLadder_1 ++ dktX4_findsLadder_2
def dkwX4_findsLadder_0 : List UInt8 := [3, 60, 3, 61, 42, 182, 1, 125, 42, 180, 0, 55, 3, 2, 79, 28, 155, 0, 93, 42, 180, 0, 55, 28]
abbrev dktX4_findsLadder_0 : List UInt8 := dkwX4_findsLadder_0 ++ dktX4_findsLadder_1
theorem dksX4_findsLadder_0 : cX4_findsLadder.data.toList.drop 0 = dktX4_findsLadder_0 := by decide +kernel
theorem dksX4_findsLadder_1 : cX4_findsLadder.data.toList.drop 24 = dktX4_findsLadder_1 := dk_seg dksX4_findsLadder_0 24 rfl rfl
theorem dksX4_findsLadder_2 : cX4_findsLadder.data.toList.drop 47 = dktX4_findsLadder_2 := dk_seg dksX4_findsLadder_1 23 rfl rfl
theorem dksX4_findsLadder_3 : cX4_findsLadder.data.toList.drop 71 = dktX4_findsLadder_3 := dk_seg dksX4_findsLadder_2 24 rfl rfl
theorem dksX4_findsLadder_4 : cX4_findsLadder.data.toList.drop 94 = dktX4_findsLadder_4 := dk_seg dksX4_findsLadder_3 23 rfl rfl
theorem dX4_findsLadder_0 : decode cX4_findsLadder 0 = .ok (.iconst 0, 1) := dk_3 (dk_at dksX4_findsLadder_0 0 rfl rfl)
theorem dX4_findsLadder_1 : decode cX4_findsLadder 1 = .ok (.istore_n 1, 1) := dk_60 (dk_at dksX4_findsLadder_0 1 rfl rfl)
theorem dX4_findsLadder_2 : decode cX4_findsLadder 2 = .ok (.iconst 0, 1) := dk_3 (dk_at dksX4_findsLadder_0 2 rfl rfl)
theorem dX4_findsLadder_3 : decode cX4_findsLadder 3 = .ok (.istore_n 2, 1) := dk_61 (dk_at dksX4_findsLadder_0 3 rfl rfl)
theorem dX4_findsLadder_4 : decode cX4_findsLadder 4 = .ok (.aload_n 0, 1) := dk_42 (dk_at dksX4_findsLadder_0 4 rfl rfl)
theorem dX4_findsLadder_5 : decode cX4_findsLadder 5 = .ok (.invokevirtual 381, 3) := dk_182 1 125 (dk_at dksX4_findsLadder_0 5 rfl rfl)
theorem dX4_findsLadder_8 : decode cX4_findsLadder 8 = .ok (.aload_n 0, 1) := dk_42 (dk_at dksX4_findsLadder_0 8 rfl rfl)
theorem dX4_findsLadder_9 : decode cX4_findsLadder 9 = .ok (.getfield 55, 3) := dk_180 0 55 (dk_at dksX4_findsLadder_0 9 rfl rfl)
theorem dX4_findsLadder_12 : decode cX4_findsLadder 12 = .ok (.iconst 0, 1) := dk_3 (dk_at dksX4_findsLadder_0 12 rfl rfl)
theorem dX4_findsLadder_13 : decode cX4_findsLadder 13 = .ok (.iconst (-1), 1) := dk_2 (dk_at dksX4_findsLadder_0 13 rfl rfl)
theorem dX4_findsLadder_14 : decode cX4_findsLadder 14 = .ok (.iastore, 1) := dk_79 (dk_at dksX4_findsLadder_0 14 rfl rfl)
theorem dX4_findsLadder_15 : decode cX4_findsLadder 15 = .ok (.iload_n 2, 1) := dk_28 (dk_at dksX4_findsLadder_0 15 rfl rfl)
theorem dX4_findsLadder_16 : decode cX4_findsLadder 16 = .ok (.ifCond .lt 93, 3) := dk_155 0 93 (dk_at dksX4_findsLadder_0 16 rfl rfl)
theorem dX4_findsLadder_19 : decode cX4_findsLadder 19 = .ok (.aload_n 0, 1) := dk_42 (dk_at dksX4_findsLadder_0 19 rfl rfl)
theorem dX4_findsLadder_20 : decode cX4_findsLadder 20 = .ok (.getfield 55, 3) := dk_180 0 55 (dk_at dksX4_findsLadder_0 20 rfl rfl)
theorem dX4_findsLadder_23 : decode cX4_findsLadder 23 = .ok (.iload_n 2, 1) := dk_28 (dk_at dksX4_findsLadder_0 23 rfl rfl)
theorem dX4_findsLadder_24 : decode cX4_findsLadder 24 = .ok (.dup2, 1) := dk_92 (dk_at dksX4_findsLadder_1 0 rfl rfl)
theorem dX4_findsLadder_25 : decode cX4_findsLadder 25 = .ok (.iaload, 1) := dk_46 (dk_at dksX4_findsLadder_1 1 rfl rfl)
theorem dX4_findsLadder_26 : decode cX4_findsLadder 26 = .ok (.iconst 1, 1) := dk_4 (dk_at dksX4_findsLadder_1 2 rfl rfl)
theorem dX4_findsLadder_27 : decode cX4_findsLadder 27 = .ok (.iadd, 1) := dk_96 (dk_at dksX4_findsLadder_1 3 rfl rfl)
theorem dX4_findsLadder_28 : decode cX4_findsLadder 28 = .ok (.iastore, 1) := dk_79 (dk_at dksX4_findsLadder_1 4 rfl rfl)
theorem dX4_findsLadder_29 : decode cX4_findsLadder 29 = .ok (.aload_n 0, 1) := dk_42 (dk_at dksX4_findsLadder_1 5 rfl rfl)
theorem dX4_findsLadder_30 : decode cX4_findsLadder 30 = .ok (.getfield 55, 3) := dk_180 0 55 (dk_at dksX4_findsLadder_1 6 rfl rfl)
theorem dX4_findsLadder_33 : decode cX4_findsLadder 33 = .ok (.iload_n 2, 1) := dk_28 (dk_at dksX4_findsLadder_1 9 rfl rfl)
theorem dX4_findsLadder_34 : decode cX4_findsLadder 34 = .ok (.iaload, 1) := dk_46 (dk_at dksX4_findsLadder_1 10 rfl rfl)
theorem dX4_findsLadder_35 : decode cX4_findsLadder 35 = .ok (.aload_n 0, 1) := dk_42 (dk_at dksX4_findsLadder_1 11 rfl rfl)
theorem dX4_findsLadder_36 : decode cX4_findsLadder 36 = .ok (.getfield 39, 3) := dk_180 0 39 (dk_at dksX4_findsLadder_1 12 rfl rfl)
theorem dX4_findsLadder_39 : decode cX4_findsLadder 39 = .ok (.iconst 2, 1) := dk_5 (dk_at dksX4_findsLadder_1 15 rfl rfl)
theorem dX4_findsLadder_40 : decode cX4_findsLadder 40 = .ok (.iaload, 1) := dk_46 (dk_at dksX4_findsLadder_1 16 rfl rfl)
theorem dX4_findsLadder_41 : decode cX4_findsLadder 41 = .ok (.if_icmp .lt 9, 3) := dk_161 0 9 (dk_at dksX4_findsLadder_1 17 rfl rfl)
theorem dX4_findsLadder_44 : decode cX4_findsLadder 44 = .ok (.iinc 2 (-1), 3) := dk_132 2 255 (dk_at dksX4_findsLadder_1 20 rfl rfl)
theorem dX4_findsLadder_47 : decode cX4_findsLadder 47 = .ok (.goto (-32), 3) := dk_167 255 224 (dk_at dksX4_findsLadder_2 0 rfl rfl)
theorem dX4_findsLadder_50 : decode cX4_findsLadder 50 = .ok (.aload_n 0, 1) := dk_42 (dk_at dksX4_findsLadder_2 3 rfl rfl)
theorem dX4_findsLadder_51 : decode cX4_findsLadder 51 = .ok (.iload_n 2, 1) := dk_28 (dk_at dksX4_findsLadder_2 4 rfl rfl)
theorem dX4_findsLadder_52 : decode cX4_findsLadder 52 = .ok (.invokevirtual 403, 3) := dk_182 1 147 (dk_at dksX4_findsLadder_2 5 rfl rfl)
theorem dX4_findsLadder_55 : decode cX4_findsLadder 55 = .ok (.ifCond .ne 6, 3) := dk_154 0 6 (dk_at dksX4_findsLadder_2 8 rfl rfl)
theorem dX4_findsLadder_58 : decode cX4_findsLadder 58 = .ok (.goto (-43), 3) := dk_167 255 213 (dk_at dksX4_findsLadder_2 11 rfl rfl)
theorem dX4_findsLadder_61 : decode cX4_findsLadder 61 = .ok (.iinc 2 1, 3) := dk_132 2 1 (dk_at dksX4_findsLadder_2 14 rfl rfl)
theorem dX4_findsLadder_64 : decode cX4_findsLadder 64 = .ok (.aload_n 0, 1) := dk_42 (dk_at dksX4_findsLadder_2 17 rfl rfl)
theorem dX4_findsLadder_65 : decode cX4_findsLadder 65 = .ok (.getfield 55, 3) := dk_180 0 55 (dk_at dksX4_findsLadder_2 18 rfl rfl)
theorem dX4_findsLadder_68 : decode cX4_findsLadder 68 = .ok (.iload_n 2, 1) := dk_28 (dk_at dksX4_findsLadder_2 21 rfl rfl)
theorem dX4_findsLadder_69 : decode cX4_findsLadder 69 = .ok (.iconst (-1), 1) := dk_2 (dk_at dksX4_findsLadder_2 22 rfl rfl)
theorem dX4_findsLadder_70 : decode cX4_findsLadder 70 = .ok (.iastore, 1) := dk_79 (dk_at dksX4_findsLadder_2 23 rfl rfl)
theorem dX4_findsLadder_71 : decode cX4_findsLadder 71 = .ok (.iload_n 2, 1) := dk_28 (dk_at dksX4_findsLadder_3 0 rfl rfl)
theorem dX4_findsLadder_72 : decode cX4_findsLadder 72 = .ok (.iload_n 1, 1) := dk_27 (dk_at dksX4_findsLadder_3 1 rfl rfl)
theorem dX4_findsLadder_73 : decode cX4_findsLadder 73 = .ok (.if_icmp .gt 6, 3) := dk_163 0 6 (dk_at dksX4_findsLadder_3 2 rfl rfl)
theorem dX4_findsLadder_76 : decode cX4_findsLadder 76 = .ok (.goto (-61), 3) := dk_167 255 195 (dk_at dksX4_findsLadder_3 5 rfl rfl)
theorem dX4_findsLadder_79 : decode cX4_findsLadder 79 = .ok (.iload_n 2, 1) := dk_28 (dk_at dksX4_findsLadder_3 8 rfl rfl)
theorem dX4_findsLadder_80 : decode cX4_findsLadder 80 = .ok (.istore_n 1, 1) := dk_60 (dk_at dksX4_findsLadder_3 9 rfl rfl)
theorem dX4_findsLadder_81 : decode cX4_findsLadder 81 = .ok (.iconst 0, 1) := dk_3 (dk_at dksX4_findsLadder_3 10 rfl rfl)
theorem dX4_findsLadder_82 : decode cX4_findsLadder 82 = .ok (.istore_n 3, 1) := dk_62 (dk_at dksX4_findsLadder_3 11 rfl rfl)
theorem dX4_findsLadder_83 : decode cX4_findsLadder 83 = .ok (.iload_n 3, 1) := dk_29 (dk_at dksX4_findsLadder_3 12 rfl rfl)
theorem dX4_findsLadder_84 : decode cX4_findsLadder 84 = .ok (.iload_n 1, 1) := dk_27 (dk_at dksX4_findsLadder_3 13 rfl rfl)
theorem dX4_findsLadder_85 : decode cX4_findsLadder 85 = .ok (.if_icmp .ge 21, 3) := dk_162 0 21 (dk_at dksX4_findsLadder_3 14 rfl rfl)
theorem dX4_findsLadder_88 : decode cX4_findsLadder 88 = .ok (.aload_n 0, 1) := dk_42 (dk_at dksX4_findsLadder_3 17 rfl rfl)
theorem dX4_findsLadder_89 : decode cX4_findsLadder 89 = .ok (.getfield 58, 3) := dk_180 0 58 (dk_at dksX4_findsLadder_3 18 rfl rfl)
theorem dX4_findsLadder_92 : decode cX4_findsLadder 92 = .ok (.iload_n 3, 1) := dk_29 (dk_at dksX4_findsLadder_3 21 rfl rfl)
theorem dX4_findsLadder_93 : decode cX4_findsLadder 93 = .ok (.aload_n 0, 1) := dk_42 (dk_at dksX4_findsLadder_3 22 rfl rfl)
theorem dX4_findsLadder_94 : decode cX4_findsLadder 94 = .ok (.getfield 55, 3) := dk_180 0 55 (dk_at dksX4_findsLadder_4 0 rfl rfl)
theorem dX4_findsLadder_97 : decode cX4_findsLadder 97 = .ok (.iload_n 3, 1) := dk_29 (dk_at dksX4_findsLadder_4 3 rfl rfl)
theorem dX4_findsLadder_98 : decode cX4_findsLadder 98 = .ok (.iaload, 1) := dk_46 (dk_at dksX4_findsLadder_4 4 rfl rfl)
theorem dX4_findsLadder_99 : decode cX4_findsLadder 99 = .ok (.iastore, 1) := dk_79 (dk_at dksX4_findsLadder_4 5 rfl rfl)
theorem dX4_findsLadder_100 : decode cX4_findsLadder 100 = .ok (.iinc 3 1, 3) := dk_132 3 1 (dk_at dksX4_findsLadder_4 6 rfl rfl)
theorem dX4_findsLadder_103 : decode cX4_findsLadder 103 = .ok (.goto (-20), 3) := dk_167 255 236 (dk_at dksX4_findsLadder_4 9 rfl rfl)
theorem dX4_findsLadder_106 : decode cX4_findsLadder 106 = .ok (.goto (-91), 3) := dk_167 255 165 (dk_at dksX4_findsLadder_4 12 rfl rfl)
theorem dX4_findsLadder_109 : decode cX4_findsLadder 109 = .ok (.iload_n 1, 1) := dk_27 (dk_at dksX4_findsLadder_4 15 rfl rfl)
theorem dX4_findsLadder_110 : decode cX4_findsLadder 110 = .ok (.ireturn, 1) := dk_172 (dk_at dksX4_findsLadder_4 16 rfl rfl)
abbrev cX4_canStand : ByteArray := prog_19_method_86_code
def yX4_canStand : MethodName := ⟨RX4, "canStand", "(I)Z"⟩
def dkwX4_canStand_2 : List UInt8 := [42, 180, 0, 55, 29, 46, 28, 160, 0, 5, 3, 172, 132, 3, 1, 167, 255, 236, 4, 172]
abbrev dktX4_canStand_2 : List UInt8 := dkwX4_canStand_2 ++ []
def dkwX4_canStand_1 : List UInt8 := [180, 0, 55, 27, 4, 100, 46, 46, 28, 184, 1, 122, 154, 0, 5, 3, 172, 3, 62, 29, 27, 162, 0, 21]
abbrev dktX4_canStand_1 : List UInt8 := dkwX4_canStand_1 ++ dktX4_canStand_2
def dkwX4_canStand_0 : List UInt8 := [42, 180, 0, 55, 27, 46, 61, 42, 28, 182, 1, 40, 153, 0, 27, 27, 158, 0, 25, 42, 180, 0, 49, 42]
abbrev dktX4_canStand_0 : List UInt8 := dkwX4_canStand_0 ++ dktX4_canStand_1
theorem dksX4_canStand_0 : cX4_canStand.data.toList.drop 0 = dktX4_canStand_0 := by decide +kernel
theorem dksX4_canStand_1 : cX4_canStand.data.toList.drop 24 = dktX4_canStand_1 := dk_seg dksX4_canStand_0 24 rfl rfl
theorem dksX4_canStand_2 : cX4_canStand.data.toList.drop 48 = dktX4_canStand_2 := dk_seg dksX4_canStand_1 24 rfl rfl
theorem dX4_canStand_0 : decode cX4_canStand 0 = .ok (.aload_n 0, 1) := dk_42 (dk_at dksX4_canStand_0 0 rfl rfl)
theorem dX4_canStand_1 : decode cX4_canStand 1 = .ok (.getfield 55, 3) := dk_180 0 55 (dk_at dksX4_canStand_0 1 rfl rfl)
theorem dX4_canStand_4 : decode cX4_canStand 4 = .ok (.iload_n 1, 1) := dk_27 (dk_at dksX4_canStand_0 4 rfl rfl)
theorem dX4_canStand_5 : decode cX4_canStand 5 = .ok (.iaload, 1) := dk_46 (dk_at dksX4_canStand_0 5 rfl rfl)
theorem dX4_canStand_6 : decode cX4_canStand 6 = .ok (.istore_n 2, 1) := dk_61 (dk_at dksX4_canStand_0 6 rfl rfl)
theorem dX4_canStand_7 : decode cX4_canStand 7 = .ok (.aload_n 0, 1) := dk_42 (dk_at dksX4_canStand_0 7 rfl rfl)
theorem dX4_canStand_8 : decode cX4_canStand 8 = .ok (.iload_n 2, 1) := dk_28 (dk_at dksX4_canStand_0 8 rfl rfl)
theorem dX4_canStand_9 : decode cX4_canStand 9 = .ok (.invokevirtual 296, 3) := dk_182 1 40 (dk_at dksX4_canStand_0 9 rfl rfl)
theorem dX4_canStand_12 : decode cX4_canStand 12 = .ok (.ifCond .eq 27, 3) := dk_153 0 27 (dk_at dksX4_canStand_0 12 rfl rfl)
theorem dX4_canStand_15 : decode cX4_canStand 15 = .ok (.iload_n 1, 1) := dk_27 (dk_at dksX4_canStand_0 15 rfl rfl)
theorem dX4_canStand_16 : decode cX4_canStand 16 = .ok (.ifCond .le 25, 3) := dk_158 0 25 (dk_at dksX4_canStand_0 16 rfl rfl)
theorem dX4_canStand_19 : decode cX4_canStand 19 = .ok (.aload_n 0, 1) := dk_42 (dk_at dksX4_canStand_0 19 rfl rfl)
theorem dX4_canStand_20 : decode cX4_canStand 20 = .ok (.getfield 49, 3) := dk_180 0 49 (dk_at dksX4_canStand_0 20 rfl rfl)
theorem dX4_canStand_23 : decode cX4_canStand 23 = .ok (.aload_n 0, 1) := dk_42 (dk_at dksX4_canStand_0 23 rfl rfl)
theorem dX4_canStand_24 : decode cX4_canStand 24 = .ok (.getfield 55, 3) := dk_180 0 55 (dk_at dksX4_canStand_1 0 rfl rfl)
theorem dX4_canStand_27 : decode cX4_canStand 27 = .ok (.iload_n 1, 1) := dk_27 (dk_at dksX4_canStand_1 3 rfl rfl)
theorem dX4_canStand_28 : decode cX4_canStand 28 = .ok (.iconst 1, 1) := dk_4 (dk_at dksX4_canStand_1 4 rfl rfl)
theorem dX4_canStand_29 : decode cX4_canStand 29 = .ok (.isub, 1) := dk_100 (dk_at dksX4_canStand_1 5 rfl rfl)
theorem dX4_canStand_30 : decode cX4_canStand 30 = .ok (.iaload, 1) := dk_46 (dk_at dksX4_canStand_1 6 rfl rfl)
theorem dX4_canStand_31 : decode cX4_canStand 31 = .ok (.iaload, 1) := dk_46 (dk_at dksX4_canStand_1 7 rfl rfl)
theorem dX4_canStand_32 : decode cX4_canStand 32 = .ok (.iload_n 2, 1) := dk_28 (dk_at dksX4_canStand_1 8 rfl rfl)
theorem dX4_canStand_33 : decode cX4_canStand 33 = .ok (.invokestatic 378, 3) := dk_184 1 122 (dk_at dksX4_canStand_1 9 rfl rfl)
theorem dX4_canStand_36 : decode cX4_canStand 36 = .ok (.ifCond .ne 5, 3) := dk_154 0 5 (dk_at dksX4_canStand_1 12 rfl rfl)
theorem dX4_canStand_39 : decode cX4_canStand 39 = .ok (.iconst 0, 1) := dk_3 (dk_at dksX4_canStand_1 15 rfl rfl)
theorem dX4_canStand_40 : decode cX4_canStand 40 = .ok (.ireturn, 1) := dk_172 (dk_at dksX4_canStand_1 16 rfl rfl)
theorem dX4_canStand_41 : decode cX4_canStand 41 = .ok (.iconst 0, 1) := dk_3 (dk_at dksX4_canStand_1 17 rfl rfl)
theorem dX4_canStand_42 : decode cX4_canStand 42 = .ok (.istore_n 3, 1) := dk_62 (dk_at dksX4_canStand_1 18 rfl rfl)
theorem dX4_canStand_43 : decode cX4_canStand 43 = .ok (.iload_n 3, 1) := dk_29 (dk_at dksX4_canStand_1 19 rfl rfl)
theorem dX4_canStand_44 : decode cX4_canStand 44 = .ok (.iload_n 1, 1) := dk_27 (dk_at dksX4_canStand_1 20 rfl rfl)
theorem dX4_canStand_45 : decode cX4_canStand 45 = .ok (.if_icmp .ge 21, 3) := dk_162 0 21 (dk_at dksX4_canStand_1 21 rfl rfl)
theorem dX4_canStand_48 : decode cX4_canStand 48 = .ok (.aload_n 0, 1) := dk_42 (dk_at dksX4_canStand_2 0 rfl rfl)
theorem dX4_canStand_49 : decode cX4_canStand 49 = .ok (.getfield 55, 3) := dk_180 0 55 (dk_at dksX4_canStand_2 1 rfl rfl)
theorem dX4_canStand_52 : decode cX4_canStand 52 = .ok (.iload_n 3, 1) := dk_29 (dk_at dksX4_canStand_2 4 rfl rfl)
theorem dX4_canStand_53 : decode cX4_canStand 53 = .ok (.iaload, 1) := dk_46 (dk_at dksX4_canStand_2 5 rfl rfl)
theorem dX4_canStand_54 : decode cX4_canStand 54 = .ok (.iload_n 2, 1) := dk_28 (dk_at dksX4_canStand_2 6 rfl rfl)
theorem dX4_canStand_55 : decode cX4_canStand 55 = .ok (.if_icmp .ne 5, 3) := dk_160 0 5 (dk_at dksX4_canStand_2 7 rfl rfl)
theorem dX4_canStand_58 : decode cX4_canStand 58 = .ok (.iconst 0, 1) := dk_3 (dk_at dksX4_canStand_2 10 rfl rfl)
theorem dX4_canStand_59 : decode cX4_canStand 59 = .ok (.ireturn, 1) := dk_172 (dk_at dksX4_canStand_2 11 rfl rfl)
theorem dX4_canStand_60 : decode cX4_canStand 60 = .ok (.iinc 3 1, 3) := dk_132 3 1 (dk_at dksX4_canStand_2 12 rfl rfl)
theorem dX4_canStand_63 : decode cX4_canStand 63 = .ok (.goto (-20), 3) := dk_167 255 236 (dk_at dksX4_canStand_2 15 rfl rfl)
theorem dX4_canStand_66 : decode cX4_canStand 66 = .ok (.iconst 1, 1) := dk_4 (dk_at dksX4_canStand_2 18 rfl rfl)
theorem dX4_canStand_67 : decode cX4_canStand 67 = .ok (.ireturn, 1) := dk_172 (dk_at dksX4_canStand_2 19 rfl rfl)
abbrev cX4_rings : ByteArray := prog_19_method_89_code
def yX4_rings : MethodName := ⟨RX4, "rings", "()I"⟩
def dkwX4_rings_2 : List UInt8 := [120, 167, 0, 4, 3, 128, 60, 132, 2, 1, 167, 255, 215, 27, 172]
abbrev dktX4_rings_2 : List UInt8 := dkwX4_rings_2 ++ []
def dkwX4_rings_1 : List UInt8 := [162, 0, 37, 27, 42, 42, 180, 0, 49, 28, 46, 3, 182, 1, 128, 28, 184, 1, 122, 153, 0, 9, 4, 28]
abbrev dktX4_rings_1 : List UInt8 := dkwX4_rings_1 ++ dktX4_rings_2
def dkwX4_rings_0 : List UInt8 := [42, 182, 1, 106, 154, 0, 5, 2, 172, 3, 60, 42, 182, 1, 125, 3, 61, 28, 42, 180, 0, 39, 5, 46]
abbrev dktX4_rings_0 : List UInt8 := dkwX4_rings_0 ++ dktX4_rings_1
theorem dksX4_rings_0 : cX4_rings.data.toList.drop 0 = dktX4_rings_0 := by decide +kernel
theorem dksX4_rings_1 : cX4_rings.data.toList.drop 24 = dktX4_rings_1 := dk_seg dksX4_rings_0 24 rfl rfl
theorem dksX4_rings_2 : cX4_rings.data.toList.drop 48 = dktX4_rings_2 := dk_seg dksX4_rings_1 24 rfl rfl
theorem dX4_rings_0 : decode cX4_rings 0 = .ok (.aload_n 0, 1) := dk_42 (dk_at dksX4_rings_0 0 rfl rfl)
theorem dX4_rings_1 : decode cX4_rings 1 = .ok (.invokevirtual 362, 3) := dk_182 1 106 (dk_at dksX4_rings_0 1 rfl rfl)
theorem dX4_rings_4 : decode cX4_rings 4 = .ok (.ifCond .ne 5, 3) := dk_154 0 5 (dk_at dksX4_rings_0 4 rfl rfl)
theorem dX4_rings_7 : decode cX4_rings 7 = .ok (.iconst (-1), 1) := dk_2 (dk_at dksX4_rings_0 7 rfl rfl)
theorem dX4_rings_8 : decode cX4_rings 8 = .ok (.ireturn, 1) := dk_172 (dk_at dksX4_rings_0 8 rfl rfl)
theorem dX4_rings_9 : decode cX4_rings 9 = .ok (.iconst 0, 1) := dk_3 (dk_at dksX4_rings_0 9 rfl rfl)
theorem dX4_rings_10 : decode cX4_rings 10 = .ok (.istore_n 1, 1) := dk_60 (dk_at dksX4_rings_0 10 rfl rfl)
theorem dX4_rings_11 : decode cX4_rings 11 = .ok (.aload_n 0, 1) := dk_42 (dk_at dksX4_rings_0 11 rfl rfl)
theorem dX4_rings_12 : decode cX4_rings 12 = .ok (.invokevirtual 381, 3) := dk_182 1 125 (dk_at dksX4_rings_0 12 rfl rfl)
theorem dX4_rings_15 : decode cX4_rings 15 = .ok (.iconst 0, 1) := dk_3 (dk_at dksX4_rings_0 15 rfl rfl)
theorem dX4_rings_16 : decode cX4_rings 16 = .ok (.istore_n 2, 1) := dk_61 (dk_at dksX4_rings_0 16 rfl rfl)
theorem dX4_rings_17 : decode cX4_rings 17 = .ok (.iload_n 2, 1) := dk_28 (dk_at dksX4_rings_0 17 rfl rfl)
theorem dX4_rings_18 : decode cX4_rings 18 = .ok (.aload_n 0, 1) := dk_42 (dk_at dksX4_rings_0 18 rfl rfl)
theorem dX4_rings_19 : decode cX4_rings 19 = .ok (.getfield 39, 3) := dk_180 0 39 (dk_at dksX4_rings_0 19 rfl rfl)
theorem dX4_rings_22 : decode cX4_rings 22 = .ok (.iconst 2, 1) := dk_5 (dk_at dksX4_rings_0 22 rfl rfl)
theorem dX4_rings_23 : decode cX4_rings 23 = .ok (.iaload, 1) := dk_46 (dk_at dksX4_rings_0 23 rfl rfl)
theorem dX4_rings_24 : decode cX4_rings 24 = .ok (.if_icmp .ge 37, 3) := dk_162 0 37 (dk_at dksX4_rings_1 0 rfl rfl)
theorem dX4_rings_27 : decode cX4_rings 27 = .ok (.iload_n 1, 1) := dk_27 (dk_at dksX4_rings_1 3 rfl rfl)
theorem dX4_rings_28 : decode cX4_rings 28 = .ok (.aload_n 0, 1) := dk_42 (dk_at dksX4_rings_1 4 rfl rfl)
theorem dX4_rings_29 : decode cX4_rings 29 = .ok (.aload_n 0, 1) := dk_42 (dk_at dksX4_rings_1 5 rfl rfl)
theorem dX4_rings_30 : decode cX4_rings 30 = .ok (.getfield 49, 3) := dk_180 0 49 (dk_at dksX4_rings_1 6 rfl rfl)
theorem dX4_rings_33 : decode cX4_rings 33 = .ok (.iload_n 2, 1) := dk_28 (dk_at dksX4_rings_1 9 rfl rfl)
theorem dX4_rings_34 : decode cX4_rings 34 = .ok (.iaload, 1) := dk_46 (dk_at dksX4_rings_1 10 rfl rfl)
theorem dX4_rings_35 : decode cX4_rings 35 = .ok (.iconst 0, 1) := dk_3 (dk_at dksX4_rings_1 11 rfl rfl)
theorem dX4_rings_36 : decode cX4_rings 36 = .ok (.invokevirtual 384, 3) := dk_182 1 128 (dk_at dksX4_rings_1 12 rfl rfl)
theorem dX4_rings_39 : decode cX4_rings 39 = .ok (.iload_n 2, 1) := dk_28 (dk_at dksX4_rings_1 15 rfl rfl)
theorem dX4_rings_40 : decode cX4_rings 40 = .ok (.invokestatic 378, 3) := dk_184 1 122 (dk_at dksX4_rings_1 16 rfl rfl)
theorem dX4_rings_43 : decode cX4_rings 43 = .ok (.ifCond .eq 9, 3) := dk_153 0 9 (dk_at dksX4_rings_1 19 rfl rfl)
theorem dX4_rings_46 : decode cX4_rings 46 = .ok (.iconst 1, 1) := dk_4 (dk_at dksX4_rings_1 22 rfl rfl)
theorem dX4_rings_47 : decode cX4_rings 47 = .ok (.iload_n 2, 1) := dk_28 (dk_at dksX4_rings_1 23 rfl rfl)
theorem dX4_rings_48 : decode cX4_rings 48 = .ok (.ishl, 1) := dk_120 (dk_at dksX4_rings_2 0 rfl rfl)
theorem dX4_rings_49 : decode cX4_rings 49 = .ok (.goto 4, 3) := dk_167 0 4 (dk_at dksX4_rings_2 1 rfl rfl)
theorem dX4_rings_52 : decode cX4_rings 52 = .ok (.iconst 0, 1) := dk_3 (dk_at dksX4_rings_2 4 rfl rfl)
theorem dX4_rings_53 : decode cX4_rings 53 = .ok (.ior, 1) := dk_128 (dk_at dksX4_rings_2 5 rfl rfl)
theorem dX4_rings_54 : decode cX4_rings 54 = .ok (.istore_n 1, 1) := dk_60 (dk_at dksX4_rings_2 6 rfl rfl)
theorem dX4_rings_55 : decode cX4_rings 55 = .ok (.iinc 2 1, 3) := dk_132 2 1 (dk_at dksX4_rings_2 7 rfl rfl)
theorem dX4_rings_58 : decode cX4_rings 58 = .ok (.goto (-41), 3) := dk_167 255 215 (dk_at dksX4_rings_2 10 rfl rfl)
theorem dX4_rings_61 : decode cX4_rings 61 = .ok (.iload_n 1, 1) := dk_27 (dk_at dksX4_rings_2 13 rfl rfl)
theorem dX4_rings_62 : decode cX4_rings 62 = .ok (.ireturn, 1) := dk_172 (dk_at dksX4_rings_2 14 rfl rfl)
abbrev cX4_kings : ByteArray := prog_19_method_91_code
def yX4_kings : MethodName := ⟨RX4, "kings", "()I"⟩
def dkwX4_kings_2 : List UInt8 := [4, 28, 120, 167, 0, 4, 3, 128, 60, 132, 2, 1, 167, 255, 213, 27, 172]
abbrev dktX4_kings_2 : List UInt8 := dkwX4_kings_2 ++ []
def dkwX4_kings_1 : List UInt8 := [162, 0, 39, 27, 42, 28, 182, 1, 40, 153, 0, 21, 42, 28, 182, 1, 153, 42, 182, 1, 71, 160, 0, 9]
abbrev dktX4_kings_1 : List UInt8 := dkwX4_kings_1 ++ dktX4_kings_2
def dkwX4_kings_0 : List UInt8 := [42, 182, 1, 106, 154, 0, 5, 2, 172, 3, 60, 42, 182, 1, 125, 3, 61, 28, 42, 180, 0, 39, 5, 46]
abbrev dktX4_kings_0 : List UInt8 := dkwX4_kings_0 ++ dktX4_kings_1
theorem dksX4_kings_0 : cX4_kings.data.toList.drop 0 = dktX4_kings_0 := by decide +kernel
theorem dksX4_kings_1 : cX4_kings.data.toList.drop 24 = dktX4_kings_1 := dk_seg dksX4_kings_0 24 rfl rfl
theorem dksX4_kings_2 : cX4_kings.data.toList.drop 48 = dktX4_kings_2 := dk_seg dksX4_kings_1 24 rfl rfl
theorem dX4_kings_0 : decode cX4_kings 0 = .ok (.aload_n 0, 1) := dk_42 (dk_at dksX4_kings_0 0 rfl rfl)
theorem dX4_kings_1 : decode cX4_kings 1 = .ok (.invokevirtual 362, 3) := dk_182 1 106 (dk_at dksX4_kings_0 1 rfl rfl)
theorem dX4_kings_4 : decode cX4_kings 4 = .ok (.ifCond .ne 5, 3) := dk_154 0 5 (dk_at dksX4_kings_0 4 rfl rfl)
theorem dX4_kings_7 : decode cX4_kings 7 = .ok (.iconst (-1), 1) := dk_2 (dk_at dksX4_kings_0 7 rfl rfl)
theorem dX4_kings_8 : decode cX4_kings 8 = .ok (.ireturn, 1) := dk_172 (dk_at dksX4_kings_0 8 rfl rfl)
theorem dX4_kings_9 : decode cX4_kings 9 = .ok (.iconst 0, 1) := dk_3 (dk_at dksX4_kings_0 9 rfl rfl)
theorem dX4_kings_10 : decode cX4_kings 10 = .ok (.istore_n 1, 1) := dk_60 (dk_at dksX4_kings_0 10 rfl rfl)
theorem dX4_kings_11 : decode cX4_kings 11 = .ok (.aload_n 0, 1) := dk_42 (dk_at dksX4_kings_0 11 rfl rfl)
theorem dX4_kings_12 : decode cX4_kings 12 = .ok (.invokevirtual 381, 3) := dk_182 1 125 (dk_at dksX4_kings_0 12 rfl rfl)
theorem dX4_kings_15 : decode cX4_kings 15 = .ok (.iconst 0, 1) := dk_3 (dk_at dksX4_kings_0 15 rfl rfl)
theorem dX4_kings_16 : decode cX4_kings 16 = .ok (.istore_n 2, 1) := dk_61 (dk_at dksX4_kings_0 16 rfl rfl)
theorem dX4_kings_17 : decode cX4_kings 17 = .ok (.iload_n 2, 1) := dk_28 (dk_at dksX4_kings_0 17 rfl rfl)
theorem dX4_kings_18 : decode cX4_kings 18 = .ok (.aload_n 0, 1) := dk_42 (dk_at dksX4_kings_0 18 rfl rfl)
theorem dX4_kings_19 : decode cX4_kings 19 = .ok (.getfield 39, 3) := dk_180 0 39 (dk_at dksX4_kings_0 19 rfl rfl)
theorem dX4_kings_22 : decode cX4_kings 22 = .ok (.iconst 2, 1) := dk_5 (dk_at dksX4_kings_0 22 rfl rfl)
theorem dX4_kings_23 : decode cX4_kings 23 = .ok (.iaload, 1) := dk_46 (dk_at dksX4_kings_0 23 rfl rfl)
theorem dX4_kings_24 : decode cX4_kings 24 = .ok (.if_icmp .ge 39, 3) := dk_162 0 39 (dk_at dksX4_kings_1 0 rfl rfl)
theorem dX4_kings_27 : decode cX4_kings 27 = .ok (.iload_n 1, 1) := dk_27 (dk_at dksX4_kings_1 3 rfl rfl)
theorem dX4_kings_28 : decode cX4_kings 28 = .ok (.aload_n 0, 1) := dk_42 (dk_at dksX4_kings_1 4 rfl rfl)
theorem dX4_kings_29 : decode cX4_kings 29 = .ok (.iload_n 2, 1) := dk_28 (dk_at dksX4_kings_1 5 rfl rfl)
theorem dX4_kings_30 : decode cX4_kings 30 = .ok (.invokevirtual 296, 3) := dk_182 1 40 (dk_at dksX4_kings_1 6 rfl rfl)
theorem dX4_kings_33 : decode cX4_kings 33 = .ok (.ifCond .eq 21, 3) := dk_153 0 21 (dk_at dksX4_kings_1 9 rfl rfl)
theorem dX4_kings_36 : decode cX4_kings 36 = .ok (.aload_n 0, 1) := dk_42 (dk_at dksX4_kings_1 12 rfl rfl)
theorem dX4_kings_37 : decode cX4_kings 37 = .ok (.iload_n 2, 1) := dk_28 (dk_at dksX4_kings_1 13 rfl rfl)
theorem dX4_kings_38 : decode cX4_kings 38 = .ok (.invokevirtual 409, 3) := dk_182 1 153 (dk_at dksX4_kings_1 14 rfl rfl)
theorem dX4_kings_41 : decode cX4_kings 41 = .ok (.aload_n 0, 1) := dk_42 (dk_at dksX4_kings_1 17 rfl rfl)
theorem dX4_kings_42 : decode cX4_kings 42 = .ok (.invokevirtual 327, 3) := dk_182 1 71 (dk_at dksX4_kings_1 18 rfl rfl)
theorem dX4_kings_45 : decode cX4_kings 45 = .ok (.if_icmp .ne 9, 3) := dk_160 0 9 (dk_at dksX4_kings_1 21 rfl rfl)
theorem dX4_kings_48 : decode cX4_kings 48 = .ok (.iconst 1, 1) := dk_4 (dk_at dksX4_kings_2 0 rfl rfl)
theorem dX4_kings_49 : decode cX4_kings 49 = .ok (.iload_n 2, 1) := dk_28 (dk_at dksX4_kings_2 1 rfl rfl)
theorem dX4_kings_50 : decode cX4_kings 50 = .ok (.ishl, 1) := dk_120 (dk_at dksX4_kings_2 2 rfl rfl)
theorem dX4_kings_51 : decode cX4_kings 51 = .ok (.goto 4, 3) := dk_167 0 4 (dk_at dksX4_kings_2 3 rfl rfl)
theorem dX4_kings_54 : decode cX4_kings 54 = .ok (.iconst 0, 1) := dk_3 (dk_at dksX4_kings_2 6 rfl rfl)
theorem dX4_kings_55 : decode cX4_kings 55 = .ok (.ior, 1) := dk_128 (dk_at dksX4_kings_2 7 rfl rfl)
theorem dX4_kings_56 : decode cX4_kings 56 = .ok (.istore_n 1, 1) := dk_60 (dk_at dksX4_kings_2 8 rfl rfl)
theorem dX4_kings_57 : decode cX4_kings 57 = .ok (.iinc 2 1, 3) := dk_132 2 1 (dk_at dksX4_kings_2 9 rfl rfl)
theorem dX4_kings_60 : decode cX4_kings 60 = .ok (.goto (-43), 3) := dk_167 255 213 (dk_at dksX4_kings_2 12 rfl rfl)
theorem dX4_kings_63 : decode cX4_kings 63 = .ok (.iload_n 1, 1) := dk_27 (dk_at dksX4_kings_2 15 rfl rfl)
theorem dX4_kings_64 : decode cX4_kings 64 = .ok (.ireturn, 1) := dk_172 (dk_at dksX4_kings_2 16 rfl rfl)
abbrev cX4_underOf : ByteArray := prog_19_method_90_code
def yX4_underOf : MethodName := ⟨RX4, "underOf", "(I)I"⟩
def dkwX4_underOf_2 : List UInt8 := [167, 255, 221, 28, 172]
abbrev dktX4_underOf_2 : List UInt8 := dkwX4_underOf_2 ++ []
def dkwX4_underOf_1 : List UInt8 := [180, 0, 49, 27, 46, 29, 184, 1, 122, 153, 0, 12, 28, 42, 180, 0, 49, 29, 46, 128, 61, 132, 3, 1]
abbrev dktX4_underOf_1 : List UInt8 := dkwX4_underOf_1 ++ dktX4_underOf_2
def dkwX4_underOf_0 : List UInt8 := [4, 27, 120, 42, 180, 0, 49, 27, 46, 128, 61, 3, 62, 29, 42, 180, 0, 39, 5, 46, 162, 0, 31, 42]
abbrev dktX4_underOf_0 : List UInt8 := dkwX4_underOf_0 ++ dktX4_underOf_1
theorem dksX4_underOf_0 : cX4_underOf.data.toList.drop 0 = dktX4_underOf_0 := by decide +kernel
theorem dksX4_underOf_1 : cX4_underOf.data.toList.drop 24 = dktX4_underOf_1 := dk_seg dksX4_underOf_0 24 rfl rfl
theorem dksX4_underOf_2 : cX4_underOf.data.toList.drop 48 = dktX4_underOf_2 := dk_seg dksX4_underOf_1 24 rfl rfl
theorem dX4_underOf_0 : decode cX4_underOf 0 = .ok (.iconst 1, 1) := dk_4 (dk_at dksX4_underOf_0 0 rfl rfl)
theorem dX4_underOf_1 : decode cX4_underOf 1 = .ok (.iload_n 1, 1) := dk_27 (dk_at dksX4_underOf_0 1 rfl rfl)
theorem dX4_underOf_2 : decode cX4_underOf 2 = .ok (.ishl, 1) := dk_120 (dk_at dksX4_underOf_0 2 rfl rfl)
theorem dX4_underOf_3 : decode cX4_underOf 3 = .ok (.aload_n 0, 1) := dk_42 (dk_at dksX4_underOf_0 3 rfl rfl)
theorem dX4_underOf_4 : decode cX4_underOf 4 = .ok (.getfield 49, 3) := dk_180 0 49 (dk_at dksX4_underOf_0 4 rfl rfl)
theorem dX4_underOf_7 : decode cX4_underOf 7 = .ok (.iload_n 1, 1) := dk_27 (dk_at dksX4_underOf_0 7 rfl rfl)
theorem dX4_underOf_8 : decode cX4_underOf 8 = .ok (.iaload, 1) := dk_46 (dk_at dksX4_underOf_0 8 rfl rfl)
theorem dX4_underOf_9 : decode cX4_underOf 9 = .ok (.ior, 1) := dk_128 (dk_at dksX4_underOf_0 9 rfl rfl)
theorem dX4_underOf_10 : decode cX4_underOf 10 = .ok (.istore_n 2, 1) := dk_61 (dk_at dksX4_underOf_0 10 rfl rfl)
theorem dX4_underOf_11 : decode cX4_underOf 11 = .ok (.iconst 0, 1) := dk_3 (dk_at dksX4_underOf_0 11 rfl rfl)
theorem dX4_underOf_12 : decode cX4_underOf 12 = .ok (.istore_n 3, 1) := dk_62 (dk_at dksX4_underOf_0 12 rfl rfl)
theorem dX4_underOf_13 : decode cX4_underOf 13 = .ok (.iload_n 3, 1) := dk_29 (dk_at dksX4_underOf_0 13 rfl rfl)
theorem dX4_underOf_14 : decode cX4_underOf 14 = .ok (.aload_n 0, 1) := dk_42 (dk_at dksX4_underOf_0 14 rfl rfl)
theorem dX4_underOf_15 : decode cX4_underOf 15 = .ok (.getfield 39, 3) := dk_180 0 39 (dk_at dksX4_underOf_0 15 rfl rfl)
theorem dX4_underOf_18 : decode cX4_underOf 18 = .ok (.iconst 2, 1) := dk_5 (dk_at dksX4_underOf_0 18 rfl rfl)
theorem dX4_underOf_19 : decode cX4_underOf 19 = .ok (.iaload, 1) := dk_46 (dk_at dksX4_underOf_0 19 rfl rfl)
theorem dX4_underOf_20 : decode cX4_underOf 20 = .ok (.if_icmp .ge 31, 3) := dk_162 0 31 (dk_at dksX4_underOf_0 20 rfl rfl)
theorem dX4_underOf_23 : decode cX4_underOf 23 = .ok (.aload_n 0, 1) := dk_42 (dk_at dksX4_underOf_0 23 rfl rfl)
theorem dX4_underOf_24 : decode cX4_underOf 24 = .ok (.getfield 49, 3) := dk_180 0 49 (dk_at dksX4_underOf_1 0 rfl rfl)
theorem dX4_underOf_27 : decode cX4_underOf 27 = .ok (.iload_n 1, 1) := dk_27 (dk_at dksX4_underOf_1 3 rfl rfl)
theorem dX4_underOf_28 : decode cX4_underOf 28 = .ok (.iaload, 1) := dk_46 (dk_at dksX4_underOf_1 4 rfl rfl)
theorem dX4_underOf_29 : decode cX4_underOf 29 = .ok (.iload_n 3, 1) := dk_29 (dk_at dksX4_underOf_1 5 rfl rfl)
theorem dX4_underOf_30 : decode cX4_underOf 30 = .ok (.invokestatic 378, 3) := dk_184 1 122 (dk_at dksX4_underOf_1 6 rfl rfl)
theorem dX4_underOf_33 : decode cX4_underOf 33 = .ok (.ifCond .eq 12, 3) := dk_153 0 12 (dk_at dksX4_underOf_1 9 rfl rfl)
theorem dX4_underOf_36 : decode cX4_underOf 36 = .ok (.iload_n 2, 1) := dk_28 (dk_at dksX4_underOf_1 12 rfl rfl)
theorem dX4_underOf_37 : decode cX4_underOf 37 = .ok (.aload_n 0, 1) := dk_42 (dk_at dksX4_underOf_1 13 rfl rfl)
theorem dX4_underOf_38 : decode cX4_underOf 38 = .ok (.getfield 49, 3) := dk_180 0 49 (dk_at dksX4_underOf_1 14 rfl rfl)
theorem dX4_underOf_41 : decode cX4_underOf 41 = .ok (.iload_n 3, 1) := dk_29 (dk_at dksX4_underOf_1 17 rfl rfl)
theorem dX4_underOf_42 : decode cX4_underOf 42 = .ok (.iaload, 1) := dk_46 (dk_at dksX4_underOf_1 18 rfl rfl)
theorem dX4_underOf_43 : decode cX4_underOf 43 = .ok (.ior, 1) := dk_128 (dk_at dksX4_underOf_1 19 rfl rfl)
theorem dX4_underOf_44 : decode cX4_underOf 44 = .ok (.istore_n 2, 1) := dk_61 (dk_at dksX4_underOf_1 20 rfl rfl)
theorem dX4_underOf_45 : decode cX4_underOf 45 = .ok (.iinc 3 1, 3) := dk_132 3 1 (dk_at dksX4_underOf_1 21 rfl rfl)
theorem dX4_underOf_48 : decode cX4_underOf 48 = .ok (.goto (-35), 3) := dk_167 255 221 (dk_at dksX4_underOf_2 0 rfl rfl)
theorem dX4_underOf_51 : decode cX4_underOf 51 = .ok (.iload_n 2, 1) := dk_28 (dk_at dksX4_underOf_2 3 rfl rfl)
theorem dX4_underOf_52 : decode cX4_underOf 52 = .ok (.ireturn, 1) := dk_172 (dk_at dksX4_underOf_2 4 rfl rfl)
abbrev cX4_ahead : ByteArray := prog_19_method_94_code
def yX4_ahead : MethodName := ⟨RX4, "ahead", "(III)I"⟩
def dkwX4_ahead_3 : List UInt8 := [42, 27, 6, 182, 1, 36, 167, 0, 9, 42, 27, 5, 182, 1, 36, 54, 4, 42, 182, 1, 166, 21, 4, 172]
abbrev dktX4_ahead_3 : List UInt8 := dkwX4_ahead_3 ++ []
def dkwX4_ahead_2 : List UInt8 := [182, 1, 160, 42, 28, 182, 1, 163, 29, 154, 0, 10, 42, 182, 1, 71, 167, 0, 23, 29, 4, 160, 0, 12]
abbrev dktX4_ahead_2 : List UInt8 := dkwX4_ahead_2 ++ dktX4_ahead_3
def dkwX4_ahead_1 : List UInt8 := [20, 1, 158, 184, 0, 124, 153, 0, 15, 29, 158, 0, 13, 42, 27, 182, 1, 33, 154, 0, 5, 2, 172, 42]
abbrev dktX4_ahead_1 : List UInt8 := dkwX4_ahead_1 ++ dktX4_ahead_2
def dkwX4_ahead_0 : List UInt8 := [42, 182, 1, 106, 153, 0, 39, 28, 133, 9, 20, 1, 156, 184, 0, 124, 153, 0, 27, 29, 133, 9]
abbrev dktX4_ahead_0 : List UInt8 := dkwX4_ahead_0 ++ dktX4_ahead_1
theorem dksX4_ahead_0 : cX4_ahead.data.toList.drop 0 = dktX4_ahead_0 := by decide +kernel
theorem dksX4_ahead_1 : cX4_ahead.data.toList.drop 22 = dktX4_ahead_1 := dk_seg dksX4_ahead_0 22 rfl rfl
theorem dksX4_ahead_2 : cX4_ahead.data.toList.drop 46 = dktX4_ahead_2 := dk_seg dksX4_ahead_1 24 rfl rfl
theorem dksX4_ahead_3 : cX4_ahead.data.toList.drop 70 = dktX4_ahead_3 := dk_seg dksX4_ahead_2 24 rfl rfl
theorem dX4_ahead_0 : decode cX4_ahead 0 = .ok (.aload_n 0, 1) := dk_42 (dk_at dksX4_ahead_0 0 rfl rfl)
theorem dX4_ahead_1 : decode cX4_ahead 1 = .ok (.invokevirtual 362, 3) := dk_182 1 106 (dk_at dksX4_ahead_0 1 rfl rfl)
theorem dX4_ahead_4 : decode cX4_ahead 4 = .ok (.ifCond .eq 39, 3) := dk_153 0 39 (dk_at dksX4_ahead_0 4 rfl rfl)
theorem dX4_ahead_7 : decode cX4_ahead 7 = .ok (.iload_n 2, 1) := dk_28 (dk_at dksX4_ahead_0 7 rfl rfl)
theorem dX4_ahead_8 : decode cX4_ahead 8 = .ok (.i2l, 1) := dk_133 (dk_at dksX4_ahead_0 8 rfl rfl)
theorem dX4_ahead_9 : decode cX4_ahead 9 = .ok (.lconst 0, 1) := dk_9 (dk_at dksX4_ahead_0 9 rfl rfl)
theorem dX4_ahead_10 : decode cX4_ahead 10 = .ok (.ldc2_w 412, 3) := dk_20 1 156 (dk_at dksX4_ahead_0 10 rfl rfl)
theorem dX4_ahead_13 : decode cX4_ahead 13 = .ok (.invokestatic 124, 3) := dk_184 0 124 (dk_at dksX4_ahead_0 13 rfl rfl)
theorem dX4_ahead_16 : decode cX4_ahead 16 = .ok (.ifCond .eq 27, 3) := dk_153 0 27 (dk_at dksX4_ahead_0 16 rfl rfl)
theorem dX4_ahead_19 : decode cX4_ahead 19 = .ok (.iload_n 3, 1) := dk_29 (dk_at dksX4_ahead_0 19 rfl rfl)
theorem dX4_ahead_20 : decode cX4_ahead 20 = .ok (.i2l, 1) := dk_133 (dk_at dksX4_ahead_0 20 rfl rfl)
theorem dX4_ahead_21 : decode cX4_ahead 21 = .ok (.lconst 0, 1) := dk_9 (dk_at dksX4_ahead_0 21 rfl rfl)
theorem dX4_ahead_22 : decode cX4_ahead 22 = .ok (.ldc2_w 414, 3) := dk_20 1 158 (dk_at dksX4_ahead_1 0 rfl rfl)
theorem dX4_ahead_25 : decode cX4_ahead 25 = .ok (.invokestatic 124, 3) := dk_184 0 124 (dk_at dksX4_ahead_1 3 rfl rfl)
theorem dX4_ahead_28 : decode cX4_ahead 28 = .ok (.ifCond .eq 15, 3) := dk_153 0 15 (dk_at dksX4_ahead_1 6 rfl rfl)
theorem dX4_ahead_31 : decode cX4_ahead 31 = .ok (.iload_n 3, 1) := dk_29 (dk_at dksX4_ahead_1 9 rfl rfl)
theorem dX4_ahead_32 : decode cX4_ahead 32 = .ok (.ifCond .le 13, 3) := dk_158 0 13 (dk_at dksX4_ahead_1 10 rfl rfl)
theorem dX4_ahead_35 : decode cX4_ahead 35 = .ok (.aload_n 0, 1) := dk_42 (dk_at dksX4_ahead_1 13 rfl rfl)
theorem dX4_ahead_36 : decode cX4_ahead 36 = .ok (.iload_n 1, 1) := dk_27 (dk_at dksX4_ahead_1 14 rfl rfl)
theorem dX4_ahead_37 : decode cX4_ahead 37 = .ok (.invokevirtual 289, 3) := dk_182 1 33 (dk_at dksX4_ahead_1 15 rfl rfl)
theorem dX4_ahead_40 : decode cX4_ahead 40 = .ok (.ifCond .ne 5, 3) := dk_154 0 5 (dk_at dksX4_ahead_1 18 rfl rfl)
theorem dX4_ahead_43 : decode cX4_ahead 43 = .ok (.iconst (-1), 1) := dk_2 (dk_at dksX4_ahead_1 21 rfl rfl)
theorem dX4_ahead_44 : decode cX4_ahead 44 = .ok (.ireturn, 1) := dk_172 (dk_at dksX4_ahead_1 22 rfl rfl)
theorem dX4_ahead_45 : decode cX4_ahead 45 = .ok (.aload_n 0, 1) := dk_42 (dk_at dksX4_ahead_1 23 rfl rfl)
theorem dX4_ahead_46 : decode cX4_ahead 46 = .ok (.invokevirtual 416, 3) := dk_182 1 160 (dk_at dksX4_ahead_2 0 rfl rfl)
theorem dX4_ahead_49 : decode cX4_ahead 49 = .ok (.aload_n 0, 1) := dk_42 (dk_at dksX4_ahead_2 3 rfl rfl)
theorem dX4_ahead_50 : decode cX4_ahead 50 = .ok (.iload_n 2, 1) := dk_28 (dk_at dksX4_ahead_2 4 rfl rfl)
theorem dX4_ahead_51 : decode cX4_ahead 51 = .ok (.invokevirtual 419, 3) := dk_182 1 163 (dk_at dksX4_ahead_2 5 rfl rfl)
theorem dX4_ahead_54 : decode cX4_ahead 54 = .ok (.iload_n 3, 1) := dk_29 (dk_at dksX4_ahead_2 8 rfl rfl)
theorem dX4_ahead_55 : decode cX4_ahead 55 = .ok (.ifCond .ne 10, 3) := dk_154 0 10 (dk_at dksX4_ahead_2 9 rfl rfl)
theorem dX4_ahead_58 : decode cX4_ahead 58 = .ok (.aload_n 0, 1) := dk_42 (dk_at dksX4_ahead_2 12 rfl rfl)
theorem dX4_ahead_59 : decode cX4_ahead 59 = .ok (.invokevirtual 327, 3) := dk_182 1 71 (dk_at dksX4_ahead_2 13 rfl rfl)
theorem dX4_ahead_62 : decode cX4_ahead 62 = .ok (.goto 23, 3) := dk_167 0 23 (dk_at dksX4_ahead_2 16 rfl rfl)
theorem dX4_ahead_65 : decode cX4_ahead 65 = .ok (.iload_n 3, 1) := dk_29 (dk_at dksX4_ahead_2 19 rfl rfl)
theorem dX4_ahead_66 : decode cX4_ahead 66 = .ok (.iconst 1, 1) := dk_4 (dk_at dksX4_ahead_2 20 rfl rfl)
theorem dX4_ahead_67 : decode cX4_ahead 67 = .ok (.if_icmp .ne 12, 3) := dk_160 0 12 (dk_at dksX4_ahead_2 21 rfl rfl)
theorem dX4_ahead_70 : decode cX4_ahead 70 = .ok (.aload_n 0, 1) := dk_42 (dk_at dksX4_ahead_3 0 rfl rfl)
theorem dX4_ahead_71 : decode cX4_ahead 71 = .ok (.iload_n 1, 1) := dk_27 (dk_at dksX4_ahead_3 1 rfl rfl)
theorem dX4_ahead_72 : decode cX4_ahead 72 = .ok (.iconst 3, 1) := dk_6 (dk_at dksX4_ahead_3 2 rfl rfl)
theorem dX4_ahead_73 : decode cX4_ahead 73 = .ok (.invokevirtual 292, 3) := dk_182 1 36 (dk_at dksX4_ahead_3 3 rfl rfl)
theorem dX4_ahead_76 : decode cX4_ahead 76 = .ok (.goto 9, 3) := dk_167 0 9 (dk_at dksX4_ahead_3 6 rfl rfl)
theorem dX4_ahead_79 : decode cX4_ahead 79 = .ok (.aload_n 0, 1) := dk_42 (dk_at dksX4_ahead_3 9 rfl rfl)
theorem dX4_ahead_80 : decode cX4_ahead 80 = .ok (.iload_n 1, 1) := dk_27 (dk_at dksX4_ahead_3 10 rfl rfl)
theorem dX4_ahead_81 : decode cX4_ahead 81 = .ok (.iconst 2, 1) := dk_5 (dk_at dksX4_ahead_3 11 rfl rfl)
theorem dX4_ahead_82 : decode cX4_ahead 82 = .ok (.invokevirtual 292, 3) := dk_182 1 36 (dk_at dksX4_ahead_3 12 rfl rfl)
theorem dX4_ahead_85 : decode cX4_ahead 85 = .ok (.istore 4, 2) := dk_54 4 (dk_at dksX4_ahead_3 15 rfl rfl)
theorem dX4_ahead_87 : decode cX4_ahead 87 = .ok (.aload_n 0, 1) := dk_42 (dk_at dksX4_ahead_3 17 rfl rfl)
theorem dX4_ahead_88 : decode cX4_ahead 88 = .ok (.invokevirtual 422, 3) := dk_182 1 166 (dk_at dksX4_ahead_3 18 rfl rfl)
theorem dX4_ahead_91 : decode cX4_ahead 91 = .ok (.iload 4, 2) := dk_21 4 (dk_at dksX4_ahead_3 21 rfl rfl)
theorem dX4_ahead_93 : decode cX4_ahead 93 = .ok (.ireturn, 1) := dk_172 (dk_at dksX4_ahead_3 23 rfl rfl)
abbrev cX4_keeps : ByteArray := prog_19_method_92_code
def yX4_keeps : MethodName := ⟨RX4, "keeps", "()V"⟩
def dkwX4_keeps_1 : List UInt8 := [132, 1, 1, 167, 255, 232, 177]
abbrev dktX4_keeps_1 : List UInt8 := dkwX4_keeps_1 ++ []
def dkwX4_keeps_0 : List UInt8 := [3, 60, 27, 16, 41, 162, 0, 24, 42, 180, 0, 61, 27, 42, 180, 0, 39, 16, 10, 27, 96, 46, 79]
abbrev dktX4_keeps_0 : List UInt8 := dkwX4_keeps_0 ++ dktX4_keeps_1
theorem dksX4_keeps_0 : cX4_keeps.data.toList.drop 0 = dktX4_keeps_0 := by decide +kernel
theorem dksX4_keeps_1 : cX4_keeps.data.toList.drop 23 = dktX4_keeps_1 := dk_seg dksX4_keeps_0 23 rfl rfl
theorem dX4_keeps_0 : decode cX4_keeps 0 = .ok (.iconst 0, 1) := dk_3 (dk_at dksX4_keeps_0 0 rfl rfl)
theorem dX4_keeps_1 : decode cX4_keeps 1 = .ok (.istore_n 1, 1) := dk_60 (dk_at dksX4_keeps_0 1 rfl rfl)
theorem dX4_keeps_2 : decode cX4_keeps 2 = .ok (.iload_n 1, 1) := dk_27 (dk_at dksX4_keeps_0 2 rfl rfl)
theorem dX4_keeps_3 : decode cX4_keeps 3 = .ok (.bipush 41, 2) := dk_16 41 (dk_at dksX4_keeps_0 3 rfl rfl)
theorem dX4_keeps_5 : decode cX4_keeps 5 = .ok (.if_icmp .ge 24, 3) := dk_162 0 24 (dk_at dksX4_keeps_0 5 rfl rfl)
theorem dX4_keeps_8 : decode cX4_keeps 8 = .ok (.aload_n 0, 1) := dk_42 (dk_at dksX4_keeps_0 8 rfl rfl)
theorem dX4_keeps_9 : decode cX4_keeps 9 = .ok (.getfield 61, 3) := dk_180 0 61 (dk_at dksX4_keeps_0 9 rfl rfl)
theorem dX4_keeps_12 : decode cX4_keeps 12 = .ok (.iload_n 1, 1) := dk_27 (dk_at dksX4_keeps_0 12 rfl rfl)
theorem dX4_keeps_13 : decode cX4_keeps 13 = .ok (.aload_n 0, 1) := dk_42 (dk_at dksX4_keeps_0 13 rfl rfl)
theorem dX4_keeps_14 : decode cX4_keeps 14 = .ok (.getfield 39, 3) := dk_180 0 39 (dk_at dksX4_keeps_0 14 rfl rfl)
theorem dX4_keeps_17 : decode cX4_keeps 17 = .ok (.bipush 10, 2) := dk_16 10 (dk_at dksX4_keeps_0 17 rfl rfl)
theorem dX4_keeps_19 : decode cX4_keeps 19 = .ok (.iload_n 1, 1) := dk_27 (dk_at dksX4_keeps_0 19 rfl rfl)
theorem dX4_keeps_20 : decode cX4_keeps 20 = .ok (.iadd, 1) := dk_96 (dk_at dksX4_keeps_0 20 rfl rfl)
theorem dX4_keeps_21 : decode cX4_keeps 21 = .ok (.iaload, 1) := dk_46 (dk_at dksX4_keeps_0 21 rfl rfl)
theorem dX4_keeps_22 : decode cX4_keeps 22 = .ok (.iastore, 1) := dk_79 (dk_at dksX4_keeps_0 22 rfl rfl)
theorem dX4_keeps_23 : decode cX4_keeps 23 = .ok (.iinc 1 1, 3) := dk_132 1 1 (dk_at dksX4_keeps_1 0 rfl rfl)
theorem dX4_keeps_26 : decode cX4_keeps 26 = .ok (.goto (-24), 3) := dk_167 255 232 (dk_at dksX4_keeps_1 3 rfl rfl)
theorem dX4_keeps_29 : decode cX4_keeps 29 = .ok (.return_, 1) := dk_177 (dk_at dksX4_keeps_1 6 rfl rfl)
abbrev cX4_passesAll : ByteArray := prog_19_method_65_code
def yX4_passesAll : MethodName := ⟨RX4, "passesAll", "(I)V"⟩
def dkwX4_passesAll_0 : List UInt8 := [3, 61, 28, 27, 162, 0, 14, 42, 182, 1, 103, 87, 132, 2, 1, 167, 255, 243, 177]
abbrev dktX4_passesAll_0 : List UInt8 := dkwX4_passesAll_0 ++ []
theorem dksX4_passesAll_0 : cX4_passesAll.data.toList.drop 0 = dktX4_passesAll_0 := by decide +kernel
theorem dX4_passesAll_0 : decode cX4_passesAll 0 = .ok (.iconst 0, 1) := dk_3 (dk_at dksX4_passesAll_0 0 rfl rfl)
theorem dX4_passesAll_1 : decode cX4_passesAll 1 = .ok (.istore_n 2, 1) := dk_61 (dk_at dksX4_passesAll_0 1 rfl rfl)
theorem dX4_passesAll_2 : decode cX4_passesAll 2 = .ok (.iload_n 2, 1) := dk_28 (dk_at dksX4_passesAll_0 2 rfl rfl)
theorem dX4_passesAll_3 : decode cX4_passesAll 3 = .ok (.iload_n 1, 1) := dk_27 (dk_at dksX4_passesAll_0 3 rfl rfl)
theorem dX4_passesAll_4 : decode cX4_passesAll 4 = .ok (.if_icmp .ge 14, 3) := dk_162 0 14 (dk_at dksX4_passesAll_0 4 rfl rfl)
theorem dX4_passesAll_7 : decode cX4_passesAll 7 = .ok (.aload_n 0, 1) := dk_42 (dk_at dksX4_passesAll_0 7 rfl rfl)
theorem dX4_passesAll_8 : decode cX4_passesAll 8 = .ok (.invokevirtual 359, 3) := dk_182 1 103 (dk_at dksX4_passesAll_0 8 rfl rfl)
theorem dX4_passesAll_11 : decode cX4_passesAll 11 = .ok (.pop, 1) := dk_87 (dk_at dksX4_passesAll_0 11 rfl rfl)
theorem dX4_passesAll_12 : decode cX4_passesAll 12 = .ok (.iinc 2 1, 3) := dk_132 2 1 (dk_at dksX4_passesAll_0 12 rfl rfl)
theorem dX4_passesAll_15 : decode cX4_passesAll 15 = .ok (.goto (-13), 3) := dk_167 255 243 (dk_at dksX4_passesAll_0 15 rfl rfl)
theorem dX4_passesAll_18 : decode cX4_passesAll 18 = .ok (.return_, 1) := dk_177 (dk_at dksX4_passesAll_0 18 rfl rfl)
abbrev cX4_laysBack : ByteArray := prog_19_method_93_code
def yX4_laysBack : MethodName := ⟨RX4, "laysBack", "()V"⟩
def dkwX4_laysBack_1 : List UInt8 := [132, 1, 1, 167, 255, 232, 177]
abbrev dktX4_laysBack_1 : List UInt8 := dkwX4_laysBack_1 ++ []
def dkwX4_laysBack_0 : List UInt8 := [3, 60, 27, 16, 41, 162, 0, 24, 42, 180, 0, 39, 16, 10, 27, 96, 42, 180, 0, 61, 27, 46, 79]
abbrev dktX4_laysBack_0 : List UInt8 := dkwX4_laysBack_0 ++ dktX4_laysBack_1
theorem dksX4_laysBack_0 : cX4_laysBack.data.toList.drop 0 = dktX4_laysBack_0 := by decide +kernel
theorem dksX4_laysBack_1 : cX4_laysBack.data.toList.drop 23 = dktX4_laysBack_1 := dk_seg dksX4_laysBack_0 23 rfl rfl
theorem dX4_laysBack_0 : decode cX4_laysBack 0 = .ok (.iconst 0, 1) := dk_3 (dk_at dksX4_laysBack_0 0 rfl rfl)
theorem dX4_laysBack_1 : decode cX4_laysBack 1 = .ok (.istore_n 1, 1) := dk_60 (dk_at dksX4_laysBack_0 1 rfl rfl)
theorem dX4_laysBack_2 : decode cX4_laysBack 2 = .ok (.iload_n 1, 1) := dk_27 (dk_at dksX4_laysBack_0 2 rfl rfl)
theorem dX4_laysBack_3 : decode cX4_laysBack 3 = .ok (.bipush 41, 2) := dk_16 41 (dk_at dksX4_laysBack_0 3 rfl rfl)
theorem dX4_laysBack_5 : decode cX4_laysBack 5 = .ok (.if_icmp .ge 24, 3) := dk_162 0 24 (dk_at dksX4_laysBack_0 5 rfl rfl)
theorem dX4_laysBack_8 : decode cX4_laysBack 8 = .ok (.aload_n 0, 1) := dk_42 (dk_at dksX4_laysBack_0 8 rfl rfl)
theorem dX4_laysBack_9 : decode cX4_laysBack 9 = .ok (.getfield 39, 3) := dk_180 0 39 (dk_at dksX4_laysBack_0 9 rfl rfl)
theorem dX4_laysBack_12 : decode cX4_laysBack 12 = .ok (.bipush 10, 2) := dk_16 10 (dk_at dksX4_laysBack_0 12 rfl rfl)
theorem dX4_laysBack_14 : decode cX4_laysBack 14 = .ok (.iload_n 1, 1) := dk_27 (dk_at dksX4_laysBack_0 14 rfl rfl)
theorem dX4_laysBack_15 : decode cX4_laysBack 15 = .ok (.iadd, 1) := dk_96 (dk_at dksX4_laysBack_0 15 rfl rfl)
theorem dX4_laysBack_16 : decode cX4_laysBack 16 = .ok (.aload_n 0, 1) := dk_42 (dk_at dksX4_laysBack_0 16 rfl rfl)
theorem dX4_laysBack_17 : decode cX4_laysBack 17 = .ok (.getfield 61, 3) := dk_180 0 61 (dk_at dksX4_laysBack_0 17 rfl rfl)
theorem dX4_laysBack_20 : decode cX4_laysBack 20 = .ok (.iload_n 1, 1) := dk_27 (dk_at dksX4_laysBack_0 20 rfl rfl)
theorem dX4_laysBack_21 : decode cX4_laysBack 21 = .ok (.iaload, 1) := dk_46 (dk_at dksX4_laysBack_0 21 rfl rfl)
theorem dX4_laysBack_22 : decode cX4_laysBack 22 = .ok (.iastore, 1) := dk_79 (dk_at dksX4_laysBack_0 22 rfl rfl)
theorem dX4_laysBack_23 : decode cX4_laysBack 23 = .ok (.iinc 1 1, 3) := dk_132 1 1 (dk_at dksX4_laysBack_1 0 rfl rfl)
theorem dX4_laysBack_26 : decode cX4_laysBack 26 = .ok (.goto (-24), 3) := dk_167 255 232 (dk_at dksX4_laysBack_1 3 rfl rfl)
theorem dX4_laysBack_29 : decode cX4_laysBack 29 = .ok (.return_, 1) := dk_177 (dk_at dksX4_laysBack_1 6 rfl rfl)
abbrev cX4_smashed : ByteArray := prog_19_method_95_code
def yX4_smashed : MethodName := ⟨RX4, "smashed", "(I)I"⟩
def dkwX4_smashed_2 : List UInt8 := [61, 132, 3, 1, 167, 255, 224, 42, 182, 1, 166, 28, 172]
abbrev dktX4_smashed_2 : List UInt8 := dkwX4_smashed_2 ++ []
def dkwX4_smashed_1 : List UInt8 := [162, 0, 31, 28, 156, 0, 27, 42, 182, 1, 103, 27, 160, 0, 13, 42, 180, 0, 39, 16, 10, 46, 4, 100]
abbrev dktX4_smashed_1 : List UInt8 := dkwX4_smashed_1 ++ dktX4_smashed_2
def dkwX4_smashed_0 : List UInt8 := [42, 27, 182, 1, 40, 154, 0, 5, 2, 172, 16, 254, 61, 42, 182, 1, 160, 3, 62, 29, 17, 0, 200]
abbrev dktX4_smashed_0 : List UInt8 := dkwX4_smashed_0 ++ dktX4_smashed_1
theorem dksX4_smashed_0 : cX4_smashed.data.toList.drop 0 = dktX4_smashed_0 := by decide +kernel
theorem dksX4_smashed_1 : cX4_smashed.data.toList.drop 23 = dktX4_smashed_1 := dk_seg dksX4_smashed_0 23 rfl rfl
theorem dksX4_smashed_2 : cX4_smashed.data.toList.drop 47 = dktX4_smashed_2 := dk_seg dksX4_smashed_1 24 rfl rfl
theorem dX4_smashed_0 : decode cX4_smashed 0 = .ok (.aload_n 0, 1) := dk_42 (dk_at dksX4_smashed_0 0 rfl rfl)
theorem dX4_smashed_1 : decode cX4_smashed 1 = .ok (.iload_n 1, 1) := dk_27 (dk_at dksX4_smashed_0 1 rfl rfl)
theorem dX4_smashed_2 : decode cX4_smashed 2 = .ok (.invokevirtual 296, 3) := dk_182 1 40 (dk_at dksX4_smashed_0 2 rfl rfl)
theorem dX4_smashed_5 : decode cX4_smashed 5 = .ok (.ifCond .ne 5, 3) := dk_154 0 5 (dk_at dksX4_smashed_0 5 rfl rfl)
theorem dX4_smashed_8 : decode cX4_smashed 8 = .ok (.iconst (-1), 1) := dk_2 (dk_at dksX4_smashed_0 8 rfl rfl)
theorem dX4_smashed_9 : decode cX4_smashed 9 = .ok (.ireturn, 1) := dk_172 (dk_at dksX4_smashed_0 9 rfl rfl)
theorem dX4_smashed_10 : decode cX4_smashed 10 = .ok (.bipush (-2), 2) := dk_16 254 (dk_at dksX4_smashed_0 10 rfl rfl)
theorem dX4_smashed_12 : decode cX4_smashed 12 = .ok (.istore_n 2, 1) := dk_61 (dk_at dksX4_smashed_0 12 rfl rfl)
theorem dX4_smashed_13 : decode cX4_smashed 13 = .ok (.aload_n 0, 1) := dk_42 (dk_at dksX4_smashed_0 13 rfl rfl)
theorem dX4_smashed_14 : decode cX4_smashed 14 = .ok (.invokevirtual 416, 3) := dk_182 1 160 (dk_at dksX4_smashed_0 14 rfl rfl)
theorem dX4_smashed_17 : decode cX4_smashed 17 = .ok (.iconst 0, 1) := dk_3 (dk_at dksX4_smashed_0 17 rfl rfl)
theorem dX4_smashed_18 : decode cX4_smashed 18 = .ok (.istore_n 3, 1) := dk_62 (dk_at dksX4_smashed_0 18 rfl rfl)
theorem dX4_smashed_19 : decode cX4_smashed 19 = .ok (.iload_n 3, 1) := dk_29 (dk_at dksX4_smashed_0 19 rfl rfl)
theorem dX4_smashed_20 : decode cX4_smashed 20 = .ok (.sipush 200, 3) := dk_17 0 200 (dk_at dksX4_smashed_0 20 rfl rfl)
theorem dX4_smashed_23 : decode cX4_smashed 23 = .ok (.if_icmp .ge 31, 3) := dk_162 0 31 (dk_at dksX4_smashed_1 0 rfl rfl)
theorem dX4_smashed_26 : decode cX4_smashed 26 = .ok (.iload_n 2, 1) := dk_28 (dk_at dksX4_smashed_1 3 rfl rfl)
theorem dX4_smashed_27 : decode cX4_smashed 27 = .ok (.ifCond .ge 27, 3) := dk_156 0 27 (dk_at dksX4_smashed_1 4 rfl rfl)
theorem dX4_smashed_30 : decode cX4_smashed 30 = .ok (.aload_n 0, 1) := dk_42 (dk_at dksX4_smashed_1 7 rfl rfl)
theorem dX4_smashed_31 : decode cX4_smashed 31 = .ok (.invokevirtual 359, 3) := dk_182 1 103 (dk_at dksX4_smashed_1 8 rfl rfl)
theorem dX4_smashed_34 : decode cX4_smashed 34 = .ok (.iload_n 1, 1) := dk_27 (dk_at dksX4_smashed_1 11 rfl rfl)
theorem dX4_smashed_35 : decode cX4_smashed 35 = .ok (.if_icmp .ne 13, 3) := dk_160 0 13 (dk_at dksX4_smashed_1 12 rfl rfl)
theorem dX4_smashed_38 : decode cX4_smashed 38 = .ok (.aload_n 0, 1) := dk_42 (dk_at dksX4_smashed_1 15 rfl rfl)
theorem dX4_smashed_39 : decode cX4_smashed 39 = .ok (.getfield 39, 3) := dk_180 0 39 (dk_at dksX4_smashed_1 16 rfl rfl)
theorem dX4_smashed_42 : decode cX4_smashed 42 = .ok (.bipush 10, 2) := dk_16 10 (dk_at dksX4_smashed_1 19 rfl rfl)
theorem dX4_smashed_44 : decode cX4_smashed 44 = .ok (.iaload, 1) := dk_46 (dk_at dksX4_smashed_1 21 rfl rfl)
theorem dX4_smashed_45 : decode cX4_smashed 45 = .ok (.iconst 1, 1) := dk_4 (dk_at dksX4_smashed_1 22 rfl rfl)
theorem dX4_smashed_46 : decode cX4_smashed 46 = .ok (.isub, 1) := dk_100 (dk_at dksX4_smashed_1 23 rfl rfl)
theorem dX4_smashed_47 : decode cX4_smashed 47 = .ok (.istore_n 2, 1) := dk_61 (dk_at dksX4_smashed_2 0 rfl rfl)
theorem dX4_smashed_48 : decode cX4_smashed 48 = .ok (.iinc 3 1, 3) := dk_132 3 1 (dk_at dksX4_smashed_2 1 rfl rfl)
theorem dX4_smashed_51 : decode cX4_smashed 51 = .ok (.goto (-32), 3) := dk_167 255 224 (dk_at dksX4_smashed_2 4 rfl rfl)
theorem dX4_smashed_54 : decode cX4_smashed 54 = .ok (.aload_n 0, 1) := dk_42 (dk_at dksX4_smashed_2 7 rfl rfl)
theorem dX4_smashed_55 : decode cX4_smashed 55 = .ok (.invokevirtual 422, 3) := dk_182 1 166 (dk_at dksX4_smashed_2 8 rfl rfl)
theorem dX4_smashed_58 : decode cX4_smashed 58 = .ok (.iload_n 2, 1) := dk_28 (dk_at dksX4_smashed_2 11 rfl rfl)
theorem dX4_smashed_59 : decode cX4_smashed 59 = .ok (.ireturn, 1) := dk_172 (dk_at dksX4_smashed_2 12 rfl rfl)
abbrev cX4_alone : ByteArray := prog_19_method_96_code
def yX4_alone : MethodName := ⟨RX4, "alone", "()I"⟩
def dkwX4_alone_2 : List UInt8 := [180, 0, 39, 16, 10, 46, 4, 100, 60, 132, 2, 1, 167, 255, 216, 42, 182, 1, 166, 27, 172]
abbrev dktX4_alone_2 : List UInt8 := dkwX4_alone_2 ++ []
def dkwX4_alone_1 : List UInt8 := [162, 0, 39, 27, 156, 0, 35, 42, 182, 1, 103, 87, 42, 182, 1, 71, 184, 1, 74, 5, 162, 0, 13, 42]
abbrev dktX4_alone_1 : List UInt8 := dkwX4_alone_1 ++ dktX4_alone_2
def dkwX4_alone_0 : List UInt8 := [42, 182, 1, 106, 154, 0, 5, 2, 172, 16, 254, 60, 42, 182, 1, 160, 3, 61, 28, 17, 0, 200]
abbrev dktX4_alone_0 : List UInt8 := dkwX4_alone_0 ++ dktX4_alone_1
theorem dksX4_alone_0 : cX4_alone.data.toList.drop 0 = dktX4_alone_0 := by decide +kernel
theorem dksX4_alone_1 : cX4_alone.data.toList.drop 22 = dktX4_alone_1 := dk_seg dksX4_alone_0 22 rfl rfl
theorem dksX4_alone_2 : cX4_alone.data.toList.drop 46 = dktX4_alone_2 := dk_seg dksX4_alone_1 24 rfl rfl
theorem dX4_alone_0 : decode cX4_alone 0 = .ok (.aload_n 0, 1) := dk_42 (dk_at dksX4_alone_0 0 rfl rfl)
theorem dX4_alone_1 : decode cX4_alone 1 = .ok (.invokevirtual 362, 3) := dk_182 1 106 (dk_at dksX4_alone_0 1 rfl rfl)
theorem dX4_alone_4 : decode cX4_alone 4 = .ok (.ifCond .ne 5, 3) := dk_154 0 5 (dk_at dksX4_alone_0 4 rfl rfl)
theorem dX4_alone_7 : decode cX4_alone 7 = .ok (.iconst (-1), 1) := dk_2 (dk_at dksX4_alone_0 7 rfl rfl)
theorem dX4_alone_8 : decode cX4_alone 8 = .ok (.ireturn, 1) := dk_172 (dk_at dksX4_alone_0 8 rfl rfl)
theorem dX4_alone_9 : decode cX4_alone 9 = .ok (.bipush (-2), 2) := dk_16 254 (dk_at dksX4_alone_0 9 rfl rfl)
theorem dX4_alone_11 : decode cX4_alone 11 = .ok (.istore_n 1, 1) := dk_60 (dk_at dksX4_alone_0 11 rfl rfl)
theorem dX4_alone_12 : decode cX4_alone 12 = .ok (.aload_n 0, 1) := dk_42 (dk_at dksX4_alone_0 12 rfl rfl)
theorem dX4_alone_13 : decode cX4_alone 13 = .ok (.invokevirtual 416, 3) := dk_182 1 160 (dk_at dksX4_alone_0 13 rfl rfl)
theorem dX4_alone_16 : decode cX4_alone 16 = .ok (.iconst 0, 1) := dk_3 (dk_at dksX4_alone_0 16 rfl rfl)
theorem dX4_alone_17 : decode cX4_alone 17 = .ok (.istore_n 2, 1) := dk_61 (dk_at dksX4_alone_0 17 rfl rfl)
theorem dX4_alone_18 : decode cX4_alone 18 = .ok (.iload_n 2, 1) := dk_28 (dk_at dksX4_alone_0 18 rfl rfl)
theorem dX4_alone_19 : decode cX4_alone 19 = .ok (.sipush 200, 3) := dk_17 0 200 (dk_at dksX4_alone_0 19 rfl rfl)
theorem dX4_alone_22 : decode cX4_alone 22 = .ok (.if_icmp .ge 39, 3) := dk_162 0 39 (dk_at dksX4_alone_1 0 rfl rfl)
theorem dX4_alone_25 : decode cX4_alone 25 = .ok (.iload_n 1, 1) := dk_27 (dk_at dksX4_alone_1 3 rfl rfl)
theorem dX4_alone_26 : decode cX4_alone 26 = .ok (.ifCond .ge 35, 3) := dk_156 0 35 (dk_at dksX4_alone_1 4 rfl rfl)
theorem dX4_alone_29 : decode cX4_alone 29 = .ok (.aload_n 0, 1) := dk_42 (dk_at dksX4_alone_1 7 rfl rfl)
theorem dX4_alone_30 : decode cX4_alone 30 = .ok (.invokevirtual 359, 3) := dk_182 1 103 (dk_at dksX4_alone_1 8 rfl rfl)
theorem dX4_alone_33 : decode cX4_alone 33 = .ok (.pop, 1) := dk_87 (dk_at dksX4_alone_1 11 rfl rfl)
theorem dX4_alone_34 : decode cX4_alone 34 = .ok (.aload_n 0, 1) := dk_42 (dk_at dksX4_alone_1 12 rfl rfl)
theorem dX4_alone_35 : decode cX4_alone 35 = .ok (.invokevirtual 327, 3) := dk_182 1 71 (dk_at dksX4_alone_1 13 rfl rfl)
theorem dX4_alone_38 : decode cX4_alone 38 = .ok (.invokestatic 330, 3) := dk_184 1 74 (dk_at dksX4_alone_1 16 rfl rfl)
theorem dX4_alone_41 : decode cX4_alone 41 = .ok (.iconst 2, 1) := dk_5 (dk_at dksX4_alone_1 19 rfl rfl)
theorem dX4_alone_42 : decode cX4_alone 42 = .ok (.if_icmp .ge 13, 3) := dk_162 0 13 (dk_at dksX4_alone_1 20 rfl rfl)
theorem dX4_alone_45 : decode cX4_alone 45 = .ok (.aload_n 0, 1) := dk_42 (dk_at dksX4_alone_1 23 rfl rfl)
theorem dX4_alone_46 : decode cX4_alone 46 = .ok (.getfield 39, 3) := dk_180 0 39 (dk_at dksX4_alone_2 0 rfl rfl)
theorem dX4_alone_49 : decode cX4_alone 49 = .ok (.bipush 10, 2) := dk_16 10 (dk_at dksX4_alone_2 3 rfl rfl)
theorem dX4_alone_51 : decode cX4_alone 51 = .ok (.iaload, 1) := dk_46 (dk_at dksX4_alone_2 5 rfl rfl)
theorem dX4_alone_52 : decode cX4_alone 52 = .ok (.iconst 1, 1) := dk_4 (dk_at dksX4_alone_2 6 rfl rfl)
theorem dX4_alone_53 : decode cX4_alone 53 = .ok (.isub, 1) := dk_100 (dk_at dksX4_alone_2 7 rfl rfl)
theorem dX4_alone_54 : decode cX4_alone 54 = .ok (.istore_n 1, 1) := dk_60 (dk_at dksX4_alone_2 8 rfl rfl)
theorem dX4_alone_55 : decode cX4_alone 55 = .ok (.iinc 2 1, 3) := dk_132 2 1 (dk_at dksX4_alone_2 9 rfl rfl)
theorem dX4_alone_58 : decode cX4_alone 58 = .ok (.goto (-40), 3) := dk_167 255 216 (dk_at dksX4_alone_2 12 rfl rfl)
theorem dX4_alone_61 : decode cX4_alone 61 = .ok (.aload_n 0, 1) := dk_42 (dk_at dksX4_alone_2 15 rfl rfl)
theorem dX4_alone_62 : decode cX4_alone 62 = .ok (.invokevirtual 422, 3) := dk_182 1 166 (dk_at dksX4_alone_2 16 rfl rfl)
theorem dX4_alone_65 : decode cX4_alone 65 = .ok (.iload_n 1, 1) := dk_27 (dk_at dksX4_alone_2 19 rfl rfl)
theorem dX4_alone_66 : decode cX4_alone 66 = .ok (.ireturn, 1) := dk_172 (dk_at dksX4_alone_2 20 rfl rfl)
abbrev cX4_best : ByteArray := prog_19_method_98_code
def yX4_best : MethodName := ⟨RX4, "best", "(II)I"⟩
def dkwX4_best_5 : List UInt8 := [21, 4, 172]
abbrev dktX4_best_5 : List UInt8 := dkwX4_best_5 ++ []
def dkwX4_best_4 : List UInt8 := [167, 0, 10, 21, 5, 62, 21, 6, 54, 4, 132, 5, 1, 167, 255, 199, 28, 154, 0, 7, 29, 167, 0, 5]
abbrev dktX4_best_4 : List UInt8 := dkwX4_best_4 ++ dktX4_best_5
def dkwX4_best_3 : List UInt8 := [167, 0, 34, 42, 21, 5, 8, 182, 1, 114, 42, 27, 182, 1, 171, 54, 6, 21, 6, 21, 4, 163, 0, 6]
abbrev dktX4_best_3 : List UInt8 := dkwX4_best_3 ++ dktX4_best_4
def dkwX4_best_2 : List UInt8 := [54, 5, 21, 5, 42, 180, 0, 39, 5, 46, 162, 0, 52, 42, 21, 5, 182, 1, 40, 154, 0, 6]
abbrev dktX4_best_2 : List UInt8 := dkwX4_best_2 ++ dktX4_best_3
def dkwX4_best_1 : List UInt8 := [184, 0, 124, 154, 0, 6, 16, 254, 172, 42, 182, 1, 160, 2, 62, 42, 27, 182, 1, 171, 54, 4, 3]
abbrev dktX4_best_1 : List UInt8 := dkwX4_best_1 ++ dktX4_best_2
def dkwX4_best_0 : List UInt8 := [42, 182, 1, 106, 153, 0, 25, 27, 133, 10, 20, 1, 169, 184, 0, 124, 153, 0, 13, 28, 133, 9, 10]
abbrev dktX4_best_0 : List UInt8 := dkwX4_best_0 ++ dktX4_best_1
theorem dksX4_best_0 : cX4_best.data.toList.drop 0 = dktX4_best_0 := by decide +kernel
theorem dksX4_best_1 : cX4_best.data.toList.drop 23 = dktX4_best_1 := dk_seg dksX4_best_0 23 rfl rfl
theorem dksX4_best_2 : cX4_best.data.toList.drop 46 = dktX4_best_2 := dk_seg dksX4_best_1 23 rfl rfl
theorem dksX4_best_3 : cX4_best.data.toList.drop 68 = dktX4_best_3 := dk_seg dksX4_best_2 22 rfl rfl
theorem dksX4_best_4 : cX4_best.data.toList.drop 92 = dktX4_best_4 := dk_seg dksX4_best_3 24 rfl rfl
theorem dksX4_best_5 : cX4_best.data.toList.drop 116 = dktX4_best_5 := dk_seg dksX4_best_4 24 rfl rfl
theorem dX4_best_0 : decode cX4_best 0 = .ok (.aload_n 0, 1) := dk_42 (dk_at dksX4_best_0 0 rfl rfl)
theorem dX4_best_1 : decode cX4_best 1 = .ok (.invokevirtual 362, 3) := dk_182 1 106 (dk_at dksX4_best_0 1 rfl rfl)
theorem dX4_best_4 : decode cX4_best 4 = .ok (.ifCond .eq 25, 3) := dk_153 0 25 (dk_at dksX4_best_0 4 rfl rfl)
theorem dX4_best_7 : decode cX4_best 7 = .ok (.iload_n 1, 1) := dk_27 (dk_at dksX4_best_0 7 rfl rfl)
theorem dX4_best_8 : decode cX4_best 8 = .ok (.i2l, 1) := dk_133 (dk_at dksX4_best_0 8 rfl rfl)
theorem dX4_best_9 : decode cX4_best 9 = .ok (.lconst 1, 1) := dk_10 (dk_at dksX4_best_0 9 rfl rfl)
theorem dX4_best_10 : decode cX4_best 10 = .ok (.ldc2_w 425, 3) := dk_20 1 169 (dk_at dksX4_best_0 10 rfl rfl)
theorem dX4_best_13 : decode cX4_best 13 = .ok (.invokestatic 124, 3) := dk_184 0 124 (dk_at dksX4_best_0 13 rfl rfl)
theorem dX4_best_16 : decode cX4_best 16 = .ok (.ifCond .eq 13, 3) := dk_153 0 13 (dk_at dksX4_best_0 16 rfl rfl)
theorem dX4_best_19 : decode cX4_best 19 = .ok (.iload_n 2, 1) := dk_28 (dk_at dksX4_best_0 19 rfl rfl)
theorem dX4_best_20 : decode cX4_best 20 = .ok (.i2l, 1) := dk_133 (dk_at dksX4_best_0 20 rfl rfl)
theorem dX4_best_21 : decode cX4_best 21 = .ok (.lconst 0, 1) := dk_9 (dk_at dksX4_best_0 21 rfl rfl)
theorem dX4_best_22 : decode cX4_best 22 = .ok (.lconst 1, 1) := dk_10 (dk_at dksX4_best_0 22 rfl rfl)
theorem dX4_best_23 : decode cX4_best 23 = .ok (.invokestatic 124, 3) := dk_184 0 124 (dk_at dksX4_best_1 0 rfl rfl)
theorem dX4_best_26 : decode cX4_best 26 = .ok (.ifCond .ne 6, 3) := dk_154 0 6 (dk_at dksX4_best_1 3 rfl rfl)
theorem dX4_best_29 : decode cX4_best 29 = .ok (.bipush (-2), 2) := dk_16 254 (dk_at dksX4_best_1 6 rfl rfl)
theorem dX4_best_31 : decode cX4_best 31 = .ok (.ireturn, 1) := dk_172 (dk_at dksX4_best_1 8 rfl rfl)
theorem dX4_best_32 : decode cX4_best 32 = .ok (.aload_n 0, 1) := dk_42 (dk_at dksX4_best_1 9 rfl rfl)
theorem dX4_best_33 : decode cX4_best 33 = .ok (.invokevirtual 416, 3) := dk_182 1 160 (dk_at dksX4_best_1 10 rfl rfl)
theorem dX4_best_36 : decode cX4_best 36 = .ok (.iconst (-1), 1) := dk_2 (dk_at dksX4_best_1 13 rfl rfl)
theorem dX4_best_37 : decode cX4_best 37 = .ok (.istore_n 3, 1) := dk_62 (dk_at dksX4_best_1 14 rfl rfl)
theorem dX4_best_38 : decode cX4_best 38 = .ok (.aload_n 0, 1) := dk_42 (dk_at dksX4_best_1 15 rfl rfl)
theorem dX4_best_39 : decode cX4_best 39 = .ok (.iload_n 1, 1) := dk_27 (dk_at dksX4_best_1 16 rfl rfl)
theorem dX4_best_40 : decode cX4_best 40 = .ok (.invokevirtual 427, 3) := dk_182 1 171 (dk_at dksX4_best_1 17 rfl rfl)
theorem dX4_best_43 : decode cX4_best 43 = .ok (.istore 4, 2) := dk_54 4 (dk_at dksX4_best_1 20 rfl rfl)
theorem dX4_best_45 : decode cX4_best 45 = .ok (.iconst 0, 1) := dk_3 (dk_at dksX4_best_1 22 rfl rfl)
theorem dX4_best_46 : decode cX4_best 46 = .ok (.istore 5, 2) := dk_54 5 (dk_at dksX4_best_2 0 rfl rfl)
theorem dX4_best_48 : decode cX4_best 48 = .ok (.iload 5, 2) := dk_21 5 (dk_at dksX4_best_2 2 rfl rfl)
theorem dX4_best_50 : decode cX4_best 50 = .ok (.aload_n 0, 1) := dk_42 (dk_at dksX4_best_2 4 rfl rfl)
theorem dX4_best_51 : decode cX4_best 51 = .ok (.getfield 39, 3) := dk_180 0 39 (dk_at dksX4_best_2 5 rfl rfl)
theorem dX4_best_54 : decode cX4_best 54 = .ok (.iconst 2, 1) := dk_5 (dk_at dksX4_best_2 8 rfl rfl)
theorem dX4_best_55 : decode cX4_best 55 = .ok (.iaload, 1) := dk_46 (dk_at dksX4_best_2 9 rfl rfl)
theorem dX4_best_56 : decode cX4_best 56 = .ok (.if_icmp .ge 52, 3) := dk_162 0 52 (dk_at dksX4_best_2 10 rfl rfl)
theorem dX4_best_59 : decode cX4_best 59 = .ok (.aload_n 0, 1) := dk_42 (dk_at dksX4_best_2 13 rfl rfl)
theorem dX4_best_60 : decode cX4_best 60 = .ok (.iload 5, 2) := dk_21 5 (dk_at dksX4_best_2 14 rfl rfl)
theorem dX4_best_62 : decode cX4_best 62 = .ok (.invokevirtual 296, 3) := dk_182 1 40 (dk_at dksX4_best_2 16 rfl rfl)
theorem dX4_best_65 : decode cX4_best 65 = .ok (.ifCond .ne 6, 3) := dk_154 0 6 (dk_at dksX4_best_2 19 rfl rfl)
theorem dX4_best_68 : decode cX4_best 68 = .ok (.goto 34, 3) := dk_167 0 34 (dk_at dksX4_best_3 0 rfl rfl)
theorem dX4_best_71 : decode cX4_best 71 = .ok (.aload_n 0, 1) := dk_42 (dk_at dksX4_best_3 3 rfl rfl)
theorem dX4_best_72 : decode cX4_best 72 = .ok (.iload 5, 2) := dk_21 5 (dk_at dksX4_best_3 4 rfl rfl)
theorem dX4_best_74 : decode cX4_best 74 = .ok (.iconst 5, 1) := dk_8 (dk_at dksX4_best_3 6 rfl rfl)
theorem dX4_best_75 : decode cX4_best 75 = .ok (.invokevirtual 370, 3) := dk_182 1 114 (dk_at dksX4_best_3 7 rfl rfl)
theorem dX4_best_78 : decode cX4_best 78 = .ok (.aload_n 0, 1) := dk_42 (dk_at dksX4_best_3 10 rfl rfl)
theorem dX4_best_79 : decode cX4_best 79 = .ok (.iload_n 1, 1) := dk_27 (dk_at dksX4_best_3 11 rfl rfl)
theorem dX4_best_80 : decode cX4_best 80 = .ok (.invokevirtual 427, 3) := dk_182 1 171 (dk_at dksX4_best_3 12 rfl rfl)
theorem dX4_best_83 : decode cX4_best 83 = .ok (.istore 6, 2) := dk_54 6 (dk_at dksX4_best_3 15 rfl rfl)
theorem dX4_best_85 : decode cX4_best 85 = .ok (.iload 6, 2) := dk_21 6 (dk_at dksX4_best_3 17 rfl rfl)
theorem dX4_best_87 : decode cX4_best 87 = .ok (.iload 4, 2) := dk_21 4 (dk_at dksX4_best_3 19 rfl rfl)
theorem dX4_best_89 : decode cX4_best 89 = .ok (.if_icmp .gt 6, 3) := dk_163 0 6 (dk_at dksX4_best_3 21 rfl rfl)
theorem dX4_best_92 : decode cX4_best 92 = .ok (.goto 10, 3) := dk_167 0 10 (dk_at dksX4_best_4 0 rfl rfl)
theorem dX4_best_95 : decode cX4_best 95 = .ok (.iload 5, 2) := dk_21 5 (dk_at dksX4_best_4 3 rfl rfl)
theorem dX4_best_97 : decode cX4_best 97 = .ok (.istore_n 3, 1) := dk_62 (dk_at dksX4_best_4 5 rfl rfl)
theorem dX4_best_98 : decode cX4_best 98 = .ok (.iload 6, 2) := dk_21 6 (dk_at dksX4_best_4 6 rfl rfl)
theorem dX4_best_100 : decode cX4_best 100 = .ok (.istore 4, 2) := dk_54 4 (dk_at dksX4_best_4 8 rfl rfl)
theorem dX4_best_102 : decode cX4_best 102 = .ok (.iinc 5 1, 3) := dk_132 5 1 (dk_at dksX4_best_4 10 rfl rfl)
theorem dX4_best_105 : decode cX4_best 105 = .ok (.goto (-57), 3) := dk_167 255 199 (dk_at dksX4_best_4 13 rfl rfl)
theorem dX4_best_108 : decode cX4_best 108 = .ok (.iload_n 2, 1) := dk_28 (dk_at dksX4_best_4 16 rfl rfl)
theorem dX4_best_109 : decode cX4_best 109 = .ok (.ifCond .ne 7, 3) := dk_154 0 7 (dk_at dksX4_best_4 17 rfl rfl)
theorem dX4_best_112 : decode cX4_best 112 = .ok (.iload_n 3, 1) := dk_29 (dk_at dksX4_best_4 20 rfl rfl)
theorem dX4_best_113 : decode cX4_best 113 = .ok (.goto 5, 3) := dk_167 0 5 (dk_at dksX4_best_4 21 rfl rfl)
theorem dX4_best_116 : decode cX4_best 116 = .ok (.iload 4, 2) := dk_21 4 (dk_at dksX4_best_5 0 rfl rfl)
theorem dX4_best_118 : decode cX4_best 118 = .ok (.ireturn, 1) := dk_172 (dk_at dksX4_best_5 2 rfl rfl)
abbrev cX4_wholeIn : ByteArray := prog_19_method_97_code
def yX4_wholeIn : MethodName := ⟨RX4, "wholeIn", "(I)I"⟩
def dkwX4_wholeIn_0 : List UInt8 := [42, 27, 182, 1, 163, 42, 182, 1, 71, 184, 1, 74, 61, 42, 182, 1, 166, 28, 172]
abbrev dktX4_wholeIn_0 : List UInt8 := dkwX4_wholeIn_0 ++ []
theorem dksX4_wholeIn_0 : cX4_wholeIn.data.toList.drop 0 = dktX4_wholeIn_0 := by decide +kernel
theorem dX4_wholeIn_0 : decode cX4_wholeIn 0 = .ok (.aload_n 0, 1) := dk_42 (dk_at dksX4_wholeIn_0 0 rfl rfl)
theorem dX4_wholeIn_1 : decode cX4_wholeIn 1 = .ok (.iload_n 1, 1) := dk_27 (dk_at dksX4_wholeIn_0 1 rfl rfl)
theorem dX4_wholeIn_2 : decode cX4_wholeIn 2 = .ok (.invokevirtual 419, 3) := dk_182 1 163 (dk_at dksX4_wholeIn_0 2 rfl rfl)
theorem dX4_wholeIn_5 : decode cX4_wholeIn 5 = .ok (.aload_n 0, 1) := dk_42 (dk_at dksX4_wholeIn_0 5 rfl rfl)
theorem dX4_wholeIn_6 : decode cX4_wholeIn 6 = .ok (.invokevirtual 327, 3) := dk_182 1 71 (dk_at dksX4_wholeIn_0 6 rfl rfl)
theorem dX4_wholeIn_9 : decode cX4_wholeIn 9 = .ok (.invokestatic 330, 3) := dk_184 1 74 (dk_at dksX4_wholeIn_0 9 rfl rfl)
theorem dX4_wholeIn_12 : decode cX4_wholeIn 12 = .ok (.istore_n 2, 1) := dk_61 (dk_at dksX4_wholeIn_0 12 rfl rfl)
theorem dX4_wholeIn_13 : decode cX4_wholeIn 13 = .ok (.aload_n 0, 1) := dk_42 (dk_at dksX4_wholeIn_0 13 rfl rfl)
theorem dX4_wholeIn_14 : decode cX4_wholeIn 14 = .ok (.invokevirtual 422, 3) := dk_182 1 166 (dk_at dksX4_wholeIn_0 14 rfl rfl)
theorem dX4_wholeIn_17 : decode cX4_wholeIn 17 = .ok (.iload_n 2, 1) := dk_28 (dk_at dksX4_wholeIn_0 17 rfl rfl)
theorem dX4_wholeIn_18 : decode cX4_wholeIn 18 = .ok (.ireturn, 1) := dk_172 (dk_at dksX4_wholeIn_0 18 rfl rfl)
abbrev cX4_rests : ByteArray := prog_19_method_102_code
def yX4_rests : MethodName := ⟨RX4, "rests", "(IIII)I"⟩
def dkwX4_rests_7 : List UInt8 := [104, 172]
abbrev dktX4_rests_7 : List UInt8 := dkwX4_rests_7 ++ []
def dkwX4_rests_6 : List UInt8 := [21, 4, 4, 160, 0, 14, 7, 21, 6, 7, 108, 4, 96, 104, 167, 0, 11, 7, 21, 6, 7, 112, 4, 96]
abbrev dktX4_rests_6 : List UInt8 := dkwX4_rests_6 ++ dktX4_rests_7
def dkwX4_rests_5 : List UInt8 := [132, 7, 255, 167, 255, 223, 21, 4, 154, 0, 6, 21, 5, 172, 21, 6, 156, 0, 8, 16, 254, 167, 0, 28]
abbrev dktX4_rests_5 : List UInt8 := dkwX4_rests_5 ++ dktX4_rests_6
def dkwX4_rests_4 : List UInt8 := [7, 108, 21, 7, 7, 112, 182, 1, 181, 154, 0, 6, 167, 0, 10, 21, 7, 54, 6, 132, 5, 1]
abbrev dktX4_rests_4 : List UInt8 := dkwX4_rests_4 ++ dktX4_rests_5
def dkwX4_rests_3 : List UInt8 := [132, 5, 1, 167, 255, 237, 3, 54, 5, 2, 54, 6, 16, 15, 54, 7, 21, 7, 155, 0, 34, 42, 21, 7]
abbrev dktX4_rests_3 : List UInt8 := dkwX4_rests_3 ++ dktX4_rests_4
def dkwX4_rests_2 : List UInt8 := [42, 182, 1, 160, 3, 54, 5, 21, 5, 16, 16, 162, 0, 18, 42, 27, 28, 21, 5, 29, 182, 1, 177]
abbrev dktX4_rests_2 : List UInt8 := dkwX4_rests_2 ++ dktX4_rests_3
def dkwX4_rests_1 : List UInt8 := [20, 1, 117, 184, 0, 124, 153, 0, 16, 21, 4, 133, 9, 20, 1, 158, 184, 0, 124, 154, 0, 5, 2, 172]
abbrev dktX4_rests_1 : List UInt8 := dkwX4_rests_1 ++ dktX4_rests_2
def dkwX4_rests_0 : List UInt8 := [42, 27, 182, 1, 40, 153, 0, 41, 42, 28, 182, 1, 40, 153, 0, 33, 27, 28, 159, 0, 28, 29, 133, 10]
abbrev dktX4_rests_0 : List UInt8 := dkwX4_rests_0 ++ dktX4_rests_1
theorem dksX4_rests_0 : cX4_rests.data.toList.drop 0 = dktX4_rests_0 := by decide +kernel
theorem dksX4_rests_1 : cX4_rests.data.toList.drop 24 = dktX4_rests_1 := dk_seg dksX4_rests_0 24 rfl rfl
theorem dksX4_rests_2 : cX4_rests.data.toList.drop 48 = dktX4_rests_2 := dk_seg dksX4_rests_1 24 rfl rfl
theorem dksX4_rests_3 : cX4_rests.data.toList.drop 71 = dktX4_rests_3 := dk_seg dksX4_rests_2 23 rfl rfl
theorem dksX4_rests_4 : cX4_rests.data.toList.drop 95 = dktX4_rests_4 := dk_seg dksX4_rests_3 24 rfl rfl
theorem dksX4_rests_5 : cX4_rests.data.toList.drop 117 = dktX4_rests_5 := dk_seg dksX4_rests_4 22 rfl rfl
theorem dksX4_rests_6 : cX4_rests.data.toList.drop 141 = dktX4_rests_6 := dk_seg dksX4_rests_5 24 rfl rfl
theorem dksX4_rests_7 : cX4_rests.data.toList.drop 165 = dktX4_rests_7 := dk_seg dksX4_rests_6 24 rfl rfl
theorem dX4_rests_0 : decode cX4_rests 0 = .ok (.aload_n 0, 1) := dk_42 (dk_at dksX4_rests_0 0 rfl rfl)
theorem dX4_rests_1 : decode cX4_rests 1 = .ok (.iload_n 1, 1) := dk_27 (dk_at dksX4_rests_0 1 rfl rfl)
theorem dX4_rests_2 : decode cX4_rests 2 = .ok (.invokevirtual 296, 3) := dk_182 1 40 (dk_at dksX4_rests_0 2 rfl rfl)
theorem dX4_rests_5 : decode cX4_rests 5 = .ok (.ifCond .eq 41, 3) := dk_153 0 41 (dk_at dksX4_rests_0 5 rfl rfl)
theorem dX4_rests_8 : decode cX4_rests 8 = .ok (.aload_n 0, 1) := dk_42 (dk_at dksX4_rests_0 8 rfl rfl)
theorem dX4_rests_9 : decode cX4_rests 9 = .ok (.iload_n 2, 1) := dk_28 (dk_at dksX4_rests_0 9 rfl rfl)
theorem dX4_rests_10 : decode cX4_rests 10 = .ok (.invokevirtual 296, 3) := dk_182 1 40 (dk_at dksX4_rests_0 10 rfl rfl)
theorem dX4_rests_13 : decode cX4_rests 13 = .ok (.ifCond .eq 33, 3) := dk_153 0 33 (dk_at dksX4_rests_0 13 rfl rfl)
theorem dX4_rests_16 : decode cX4_rests 16 = .ok (.iload_n 1, 1) := dk_27 (dk_at dksX4_rests_0 16 rfl rfl)
theorem dX4_rests_17 : decode cX4_rests 17 = .ok (.iload_n 2, 1) := dk_28 (dk_at dksX4_rests_0 17 rfl rfl)
theorem dX4_rests_18 : decode cX4_rests 18 = .ok (.if_icmp .eq 28, 3) := dk_159 0 28 (dk_at dksX4_rests_0 18 rfl rfl)
theorem dX4_rests_21 : decode cX4_rests 21 = .ok (.iload_n 3, 1) := dk_29 (dk_at dksX4_rests_0 21 rfl rfl)
theorem dX4_rests_22 : decode cX4_rests 22 = .ok (.i2l, 1) := dk_133 (dk_at dksX4_rests_0 22 rfl rfl)
theorem dX4_rests_23 : decode cX4_rests 23 = .ok (.lconst 1, 1) := dk_10 (dk_at dksX4_rests_0 23 rfl rfl)
theorem dX4_rests_24 : decode cX4_rests 24 = .ok (.ldc2_w 373, 3) := dk_20 1 117 (dk_at dksX4_rests_1 0 rfl rfl)
theorem dX4_rests_27 : decode cX4_rests 27 = .ok (.invokestatic 124, 3) := dk_184 0 124 (dk_at dksX4_rests_1 3 rfl rfl)
theorem dX4_rests_30 : decode cX4_rests 30 = .ok (.ifCond .eq 16, 3) := dk_153 0 16 (dk_at dksX4_rests_1 6 rfl rfl)
theorem dX4_rests_33 : decode cX4_rests 33 = .ok (.iload 4, 2) := dk_21 4 (dk_at dksX4_rests_1 9 rfl rfl)
theorem dX4_rests_35 : decode cX4_rests 35 = .ok (.i2l, 1) := dk_133 (dk_at dksX4_rests_1 11 rfl rfl)
theorem dX4_rests_36 : decode cX4_rests 36 = .ok (.lconst 0, 1) := dk_9 (dk_at dksX4_rests_1 12 rfl rfl)
theorem dX4_rests_37 : decode cX4_rests 37 = .ok (.ldc2_w 414, 3) := dk_20 1 158 (dk_at dksX4_rests_1 13 rfl rfl)
theorem dX4_rests_40 : decode cX4_rests 40 = .ok (.invokestatic 124, 3) := dk_184 0 124 (dk_at dksX4_rests_1 16 rfl rfl)
theorem dX4_rests_43 : decode cX4_rests 43 = .ok (.ifCond .ne 5, 3) := dk_154 0 5 (dk_at dksX4_rests_1 19 rfl rfl)
theorem dX4_rests_46 : decode cX4_rests 46 = .ok (.iconst (-1), 1) := dk_2 (dk_at dksX4_rests_1 22 rfl rfl)
theorem dX4_rests_47 : decode cX4_rests 47 = .ok (.ireturn, 1) := dk_172 (dk_at dksX4_rests_1 23 rfl rfl)
theorem dX4_rests_48 : decode cX4_rests 48 = .ok (.aload_n 0, 1) := dk_42 (dk_at dksX4_rests_2 0 rfl rfl)
theorem dX4_rests_49 : decode cX4_rests 49 = .ok (.invokevirtual 416, 3) := dk_182 1 160 (dk_at dksX4_rests_2 1 rfl rfl)
theorem dX4_rests_52 : decode cX4_rests 52 = .ok (.iconst 0, 1) := dk_3 (dk_at dksX4_rests_2 4 rfl rfl)
theorem dX4_rests_53 : decode cX4_rests 53 = .ok (.istore 5, 2) := dk_54 5 (dk_at dksX4_rests_2 5 rfl rfl)
theorem dX4_rests_55 : decode cX4_rests 55 = .ok (.iload 5, 2) := dk_21 5 (dk_at dksX4_rests_2 7 rfl rfl)
theorem dX4_rests_57 : decode cX4_rests 57 = .ok (.bipush 16, 2) := dk_16 16 (dk_at dksX4_rests_2 9 rfl rfl)
theorem dX4_rests_59 : decode cX4_rests 59 = .ok (.if_icmp .ge 18, 3) := dk_162 0 18 (dk_at dksX4_rests_2 11 rfl rfl)
theorem dX4_rests_62 : decode cX4_rests 62 = .ok (.aload_n 0, 1) := dk_42 (dk_at dksX4_rests_2 14 rfl rfl)
theorem dX4_rests_63 : decode cX4_rests 63 = .ok (.iload_n 1, 1) := dk_27 (dk_at dksX4_rests_2 15 rfl rfl)
theorem dX4_rests_64 : decode cX4_rests 64 = .ok (.iload_n 2, 1) := dk_28 (dk_at dksX4_rests_2 16 rfl rfl)
theorem dX4_rests_65 : decode cX4_rests 65 = .ok (.iload 5, 2) := dk_21 5 (dk_at dksX4_rests_2 17 rfl rfl)
theorem dX4_rests_67 : decode cX4_rests 67 = .ok (.iload_n 3, 1) := dk_29 (dk_at dksX4_rests_2 19 rfl rfl)
theorem dX4_rests_68 : decode cX4_rests 68 = .ok (.invokevirtual 433, 3) := dk_182 1 177 (dk_at dksX4_rests_2 20 rfl rfl)
theorem dX4_rests_71 : decode cX4_rests 71 = .ok (.iinc 5 1, 3) := dk_132 5 1 (dk_at dksX4_rests_3 0 rfl rfl)
theorem dX4_rests_74 : decode cX4_rests 74 = .ok (.goto (-19), 3) := dk_167 255 237 (dk_at dksX4_rests_3 3 rfl rfl)
theorem dX4_rests_77 : decode cX4_rests 77 = .ok (.iconst 0, 1) := dk_3 (dk_at dksX4_rests_3 6 rfl rfl)
theorem dX4_rests_78 : decode cX4_rests 78 = .ok (.istore 5, 2) := dk_54 5 (dk_at dksX4_rests_3 7 rfl rfl)
theorem dX4_rests_80 : decode cX4_rests 80 = .ok (.iconst (-1), 1) := dk_2 (dk_at dksX4_rests_3 9 rfl rfl)
theorem dX4_rests_81 : decode cX4_rests 81 = .ok (.istore 6, 2) := dk_54 6 (dk_at dksX4_rests_3 10 rfl rfl)
theorem dX4_rests_83 : decode cX4_rests 83 = .ok (.bipush 15, 2) := dk_16 15 (dk_at dksX4_rests_3 12 rfl rfl)
theorem dX4_rests_85 : decode cX4_rests 85 = .ok (.istore 7, 2) := dk_54 7 (dk_at dksX4_rests_3 14 rfl rfl)
theorem dX4_rests_87 : decode cX4_rests 87 = .ok (.iload 7, 2) := dk_21 7 (dk_at dksX4_rests_3 16 rfl rfl)
theorem dX4_rests_89 : decode cX4_rests 89 = .ok (.ifCond .lt 34, 3) := dk_155 0 34 (dk_at dksX4_rests_3 18 rfl rfl)
theorem dX4_rests_92 : decode cX4_rests 92 = .ok (.aload_n 0, 1) := dk_42 (dk_at dksX4_rests_3 21 rfl rfl)
theorem dX4_rests_93 : decode cX4_rests 93 = .ok (.iload 7, 2) := dk_21 7 (dk_at dksX4_rests_3 22 rfl rfl)
theorem dX4_rests_95 : decode cX4_rests 95 = .ok (.iconst 4, 1) := dk_7 (dk_at dksX4_rests_4 0 rfl rfl)
theorem dX4_rests_96 : decode cX4_rests 96 = .ok (.idiv, 1) := dk_108 (dk_at dksX4_rests_4 1 rfl rfl)
theorem dX4_rests_97 : decode cX4_rests 97 = .ok (.iload 7, 2) := dk_21 7 (dk_at dksX4_rests_4 2 rfl rfl)
theorem dX4_rests_99 : decode cX4_rests 99 = .ok (.iconst 4, 1) := dk_7 (dk_at dksX4_rests_4 4 rfl rfl)
theorem dX4_rests_100 : decode cX4_rests 100 = .ok (.irem, 1) := dk_112 (dk_at dksX4_rests_4 5 rfl rfl)
theorem dX4_rests_101 : decode cX4_rests 101 = .ok (.invokevirtual 437, 3) := dk_182 1 181 (dk_at dksX4_rests_4 6 rfl rfl)
theorem dX4_rests_104 : decode cX4_rests 104 = .ok (.ifCond .ne 6, 3) := dk_154 0 6 (dk_at dksX4_rests_4 9 rfl rfl)
theorem dX4_rests_107 : decode cX4_rests 107 = .ok (.goto 10, 3) := dk_167 0 10 (dk_at dksX4_rests_4 12 rfl rfl)
theorem dX4_rests_110 : decode cX4_rests 110 = .ok (.iload 7, 2) := dk_21 7 (dk_at dksX4_rests_4 15 rfl rfl)
theorem dX4_rests_112 : decode cX4_rests 112 = .ok (.istore 6, 2) := dk_54 6 (dk_at dksX4_rests_4 17 rfl rfl)
theorem dX4_rests_114 : decode cX4_rests 114 = .ok (.iinc 5 1, 3) := dk_132 5 1 (dk_at dksX4_rests_4 19 rfl rfl)
theorem dX4_rests_117 : decode cX4_rests 117 = .ok (.iinc 7 (-1), 3) := dk_132 7 255 (dk_at dksX4_rests_5 0 rfl rfl)
theorem dX4_rests_120 : decode cX4_rests 120 = .ok (.goto (-33), 3) := dk_167 255 223 (dk_at dksX4_rests_5 3 rfl rfl)
theorem dX4_rests_123 : decode cX4_rests 123 = .ok (.iload 4, 2) := dk_21 4 (dk_at dksX4_rests_5 6 rfl rfl)
theorem dX4_rests_125 : decode cX4_rests 125 = .ok (.ifCond .ne 6, 3) := dk_154 0 6 (dk_at dksX4_rests_5 8 rfl rfl)
theorem dX4_rests_128 : decode cX4_rests 128 = .ok (.iload 5, 2) := dk_21 5 (dk_at dksX4_rests_5 11 rfl rfl)
theorem dX4_rests_130 : decode cX4_rests 130 = .ok (.ireturn, 1) := dk_172 (dk_at dksX4_rests_5 13 rfl rfl)
theorem dX4_rests_131 : decode cX4_rests 131 = .ok (.iload 6, 2) := dk_21 6 (dk_at dksX4_rests_5 14 rfl rfl)
theorem dX4_rests_133 : decode cX4_rests 133 = .ok (.ifCond .ge 8, 3) := dk_156 0 8 (dk_at dksX4_rests_5 16 rfl rfl)
theorem dX4_rests_136 : decode cX4_rests 136 = .ok (.bipush (-2), 2) := dk_16 254 (dk_at dksX4_rests_5 19 rfl rfl)
theorem dX4_rests_138 : decode cX4_rests 138 = .ok (.goto 28, 3) := dk_167 0 28 (dk_at dksX4_rests_5 21 rfl rfl)
theorem dX4_rests_141 : decode cX4_rests 141 = .ok (.iload 4, 2) := dk_21 4 (dk_at dksX4_rests_6 0 rfl rfl)
theorem dX4_rests_143 : decode cX4_rests 143 = .ok (.iconst 1, 1) := dk_4 (dk_at dksX4_rests_6 2 rfl rfl)
theorem dX4_rests_144 : decode cX4_rests 144 = .ok (.if_icmp .ne 14, 3) := dk_160 0 14 (dk_at dksX4_rests_6 3 rfl rfl)
theorem dX4_rests_147 : decode cX4_rests 147 = .ok (.iconst 4, 1) := dk_7 (dk_at dksX4_rests_6 6 rfl rfl)
theorem dX4_rests_148 : decode cX4_rests 148 = .ok (.iload 6, 2) := dk_21 6 (dk_at dksX4_rests_6 7 rfl rfl)
theorem dX4_rests_150 : decode cX4_rests 150 = .ok (.iconst 4, 1) := dk_7 (dk_at dksX4_rests_6 9 rfl rfl)
theorem dX4_rests_151 : decode cX4_rests 151 = .ok (.idiv, 1) := dk_108 (dk_at dksX4_rests_6 10 rfl rfl)
theorem dX4_rests_152 : decode cX4_rests 152 = .ok (.iconst 1, 1) := dk_4 (dk_at dksX4_rests_6 11 rfl rfl)
theorem dX4_rests_153 : decode cX4_rests 153 = .ok (.iadd, 1) := dk_96 (dk_at dksX4_rests_6 12 rfl rfl)
theorem dX4_rests_154 : decode cX4_rests 154 = .ok (.imul, 1) := dk_104 (dk_at dksX4_rests_6 13 rfl rfl)
theorem dX4_rests_155 : decode cX4_rests 155 = .ok (.goto 11, 3) := dk_167 0 11 (dk_at dksX4_rests_6 14 rfl rfl)
theorem dX4_rests_158 : decode cX4_rests 158 = .ok (.iconst 4, 1) := dk_7 (dk_at dksX4_rests_6 17 rfl rfl)
theorem dX4_rests_159 : decode cX4_rests 159 = .ok (.iload 6, 2) := dk_21 6 (dk_at dksX4_rests_6 18 rfl rfl)
theorem dX4_rests_161 : decode cX4_rests 161 = .ok (.iconst 4, 1) := dk_7 (dk_at dksX4_rests_6 20 rfl rfl)
theorem dX4_rests_162 : decode cX4_rests 162 = .ok (.irem, 1) := dk_112 (dk_at dksX4_rests_6 21 rfl rfl)
theorem dX4_rests_163 : decode cX4_rests 163 = .ok (.iconst 1, 1) := dk_4 (dk_at dksX4_rests_6 22 rfl rfl)
theorem dX4_rests_164 : decode cX4_rests 164 = .ok (.iadd, 1) := dk_96 (dk_at dksX4_rests_6 23 rfl rfl)
theorem dX4_rests_165 : decode cX4_rests 165 = .ok (.imul, 1) := dk_104 (dk_at dksX4_rests_7 0 rfl rfl)
theorem dX4_rests_166 : decode cX4_rests 166 = .ok (.ireturn, 1) := dk_172 (dk_at dksX4_rests_7 1 rfl rfl)
abbrev cX4_fillsRest : ByteArray := prog_19_method_101_code
def yX4_fillsRest : MethodName := ⟨RX4, "fillsRest", "(IIII)V"⟩
def dkwX4_fillsRest_2 : List UInt8 := [180, 0, 64, 5, 29, 104, 4, 96, 42, 28, 182, 1, 174, 79, 42, 182, 1, 166, 177]
abbrev dktX4_fillsRest_2 : List UInt8 := dkwX4_fillsRest_2 ++ []
def dkwX4_fillsRest_1 : List UInt8 := [182, 1, 43, 42, 21, 4, 182, 1, 163, 42, 180, 0, 64, 5, 29, 104, 42, 27, 182, 1, 174, 79, 42]
abbrev dktX4_fillsRest_1 : List UInt8 := dkwX4_fillsRest_1 ++ dktX4_fillsRest_2
def dkwX4_fillsRest_0 : List UInt8 := [42, 27, 4, 7, 29, 7, 108, 4, 96, 104, 182, 1, 43, 42, 28, 4, 7, 29, 7, 112, 4, 96, 104]
abbrev dktX4_fillsRest_0 : List UInt8 := dkwX4_fillsRest_0 ++ dktX4_fillsRest_1
theorem dksX4_fillsRest_0 : cX4_fillsRest.data.toList.drop 0 = dktX4_fillsRest_0 := by decide +kernel
theorem dksX4_fillsRest_1 : cX4_fillsRest.data.toList.drop 23 = dktX4_fillsRest_1 := dk_seg dksX4_fillsRest_0 23 rfl rfl
theorem dksX4_fillsRest_2 : cX4_fillsRest.data.toList.drop 46 = dktX4_fillsRest_2 := dk_seg dksX4_fillsRest_1 23 rfl rfl
theorem dX4_fillsRest_0 : decode cX4_fillsRest 0 = .ok (.aload_n 0, 1) := dk_42 (dk_at dksX4_fillsRest_0 0 rfl rfl)
theorem dX4_fillsRest_1 : decode cX4_fillsRest 1 = .ok (.iload_n 1, 1) := dk_27 (dk_at dksX4_fillsRest_0 1 rfl rfl)
theorem dX4_fillsRest_2 : decode cX4_fillsRest 2 = .ok (.iconst 1, 1) := dk_4 (dk_at dksX4_fillsRest_0 2 rfl rfl)
theorem dX4_fillsRest_3 : decode cX4_fillsRest 3 = .ok (.iconst 4, 1) := dk_7 (dk_at dksX4_fillsRest_0 3 rfl rfl)
theorem dX4_fillsRest_4 : decode cX4_fillsRest 4 = .ok (.iload_n 3, 1) := dk_29 (dk_at dksX4_fillsRest_0 4 rfl rfl)
theorem dX4_fillsRest_5 : decode cX4_fillsRest 5 = .ok (.iconst 4, 1) := dk_7 (dk_at dksX4_fillsRest_0 5 rfl rfl)
theorem dX4_fillsRest_6 : decode cX4_fillsRest 6 = .ok (.idiv, 1) := dk_108 (dk_at dksX4_fillsRest_0 6 rfl rfl)
theorem dX4_fillsRest_7 : decode cX4_fillsRest 7 = .ok (.iconst 1, 1) := dk_4 (dk_at dksX4_fillsRest_0 7 rfl rfl)
theorem dX4_fillsRest_8 : decode cX4_fillsRest 8 = .ok (.iadd, 1) := dk_96 (dk_at dksX4_fillsRest_0 8 rfl rfl)
theorem dX4_fillsRest_9 : decode cX4_fillsRest 9 = .ok (.imul, 1) := dk_104 (dk_at dksX4_fillsRest_0 9 rfl rfl)
theorem dX4_fillsRest_10 : decode cX4_fillsRest 10 = .ok (.invokevirtual 299, 3) := dk_182 1 43 (dk_at dksX4_fillsRest_0 10 rfl rfl)
theorem dX4_fillsRest_13 : decode cX4_fillsRest 13 = .ok (.aload_n 0, 1) := dk_42 (dk_at dksX4_fillsRest_0 13 rfl rfl)
theorem dX4_fillsRest_14 : decode cX4_fillsRest 14 = .ok (.iload_n 2, 1) := dk_28 (dk_at dksX4_fillsRest_0 14 rfl rfl)
theorem dX4_fillsRest_15 : decode cX4_fillsRest 15 = .ok (.iconst 1, 1) := dk_4 (dk_at dksX4_fillsRest_0 15 rfl rfl)
theorem dX4_fillsRest_16 : decode cX4_fillsRest 16 = .ok (.iconst 4, 1) := dk_7 (dk_at dksX4_fillsRest_0 16 rfl rfl)
theorem dX4_fillsRest_17 : decode cX4_fillsRest 17 = .ok (.iload_n 3, 1) := dk_29 (dk_at dksX4_fillsRest_0 17 rfl rfl)
theorem dX4_fillsRest_18 : decode cX4_fillsRest 18 = .ok (.iconst 4, 1) := dk_7 (dk_at dksX4_fillsRest_0 18 rfl rfl)
theorem dX4_fillsRest_19 : decode cX4_fillsRest 19 = .ok (.irem, 1) := dk_112 (dk_at dksX4_fillsRest_0 19 rfl rfl)
theorem dX4_fillsRest_20 : decode cX4_fillsRest 20 = .ok (.iconst 1, 1) := dk_4 (dk_at dksX4_fillsRest_0 20 rfl rfl)
theorem dX4_fillsRest_21 : decode cX4_fillsRest 21 = .ok (.iadd, 1) := dk_96 (dk_at dksX4_fillsRest_0 21 rfl rfl)
theorem dX4_fillsRest_22 : decode cX4_fillsRest 22 = .ok (.imul, 1) := dk_104 (dk_at dksX4_fillsRest_0 22 rfl rfl)
theorem dX4_fillsRest_23 : decode cX4_fillsRest 23 = .ok (.invokevirtual 299, 3) := dk_182 1 43 (dk_at dksX4_fillsRest_1 0 rfl rfl)
theorem dX4_fillsRest_26 : decode cX4_fillsRest 26 = .ok (.aload_n 0, 1) := dk_42 (dk_at dksX4_fillsRest_1 3 rfl rfl)
theorem dX4_fillsRest_27 : decode cX4_fillsRest 27 = .ok (.iload 4, 2) := dk_21 4 (dk_at dksX4_fillsRest_1 4 rfl rfl)
theorem dX4_fillsRest_29 : decode cX4_fillsRest 29 = .ok (.invokevirtual 419, 3) := dk_182 1 163 (dk_at dksX4_fillsRest_1 6 rfl rfl)
theorem dX4_fillsRest_32 : decode cX4_fillsRest 32 = .ok (.aload_n 0, 1) := dk_42 (dk_at dksX4_fillsRest_1 9 rfl rfl)
theorem dX4_fillsRest_33 : decode cX4_fillsRest 33 = .ok (.getfield 64, 3) := dk_180 0 64 (dk_at dksX4_fillsRest_1 10 rfl rfl)
theorem dX4_fillsRest_36 : decode cX4_fillsRest 36 = .ok (.iconst 2, 1) := dk_5 (dk_at dksX4_fillsRest_1 13 rfl rfl)
theorem dX4_fillsRest_37 : decode cX4_fillsRest 37 = .ok (.iload_n 3, 1) := dk_29 (dk_at dksX4_fillsRest_1 14 rfl rfl)
theorem dX4_fillsRest_38 : decode cX4_fillsRest 38 = .ok (.imul, 1) := dk_104 (dk_at dksX4_fillsRest_1 15 rfl rfl)
theorem dX4_fillsRest_39 : decode cX4_fillsRest 39 = .ok (.aload_n 0, 1) := dk_42 (dk_at dksX4_fillsRest_1 16 rfl rfl)
theorem dX4_fillsRest_40 : decode cX4_fillsRest 40 = .ok (.iload_n 1, 1) := dk_27 (dk_at dksX4_fillsRest_1 17 rfl rfl)
theorem dX4_fillsRest_41 : decode cX4_fillsRest 41 = .ok (.invokevirtual 430, 3) := dk_182 1 174 (dk_at dksX4_fillsRest_1 18 rfl rfl)
theorem dX4_fillsRest_44 : decode cX4_fillsRest 44 = .ok (.iastore, 1) := dk_79 (dk_at dksX4_fillsRest_1 21 rfl rfl)
theorem dX4_fillsRest_45 : decode cX4_fillsRest 45 = .ok (.aload_n 0, 1) := dk_42 (dk_at dksX4_fillsRest_1 22 rfl rfl)
theorem dX4_fillsRest_46 : decode cX4_fillsRest 46 = .ok (.getfield 64, 3) := dk_180 0 64 (dk_at dksX4_fillsRest_2 0 rfl rfl)
theorem dX4_fillsRest_49 : decode cX4_fillsRest 49 = .ok (.iconst 2, 1) := dk_5 (dk_at dksX4_fillsRest_2 3 rfl rfl)
theorem dX4_fillsRest_50 : decode cX4_fillsRest 50 = .ok (.iload_n 3, 1) := dk_29 (dk_at dksX4_fillsRest_2 4 rfl rfl)
theorem dX4_fillsRest_51 : decode cX4_fillsRest 51 = .ok (.imul, 1) := dk_104 (dk_at dksX4_fillsRest_2 5 rfl rfl)
theorem dX4_fillsRest_52 : decode cX4_fillsRest 52 = .ok (.iconst 1, 1) := dk_4 (dk_at dksX4_fillsRest_2 6 rfl rfl)
theorem dX4_fillsRest_53 : decode cX4_fillsRest 53 = .ok (.iadd, 1) := dk_96 (dk_at dksX4_fillsRest_2 7 rfl rfl)
theorem dX4_fillsRest_54 : decode cX4_fillsRest 54 = .ok (.aload_n 0, 1) := dk_42 (dk_at dksX4_fillsRest_2 8 rfl rfl)
theorem dX4_fillsRest_55 : decode cX4_fillsRest 55 = .ok (.iload_n 2, 1) := dk_28 (dk_at dksX4_fillsRest_2 9 rfl rfl)
theorem dX4_fillsRest_56 : decode cX4_fillsRest 56 = .ok (.invokevirtual 430, 3) := dk_182 1 174 (dk_at dksX4_fillsRest_2 10 rfl rfl)
theorem dX4_fillsRest_59 : decode cX4_fillsRest 59 = .ok (.iastore, 1) := dk_79 (dk_at dksX4_fillsRest_2 13 rfl rfl)
theorem dX4_fillsRest_60 : decode cX4_fillsRest 60 = .ok (.aload_n 0, 1) := dk_42 (dk_at dksX4_fillsRest_2 14 rfl rfl)
theorem dX4_fillsRest_61 : decode cX4_fillsRest 61 = .ok (.invokevirtual 422, 3) := dk_182 1 166 (dk_at dksX4_fillsRest_2 15 rfl rfl)
theorem dX4_fillsRest_64 : decode cX4_fillsRest 64 = .ok (.return_, 1) := dk_177 (dk_at dksX4_fillsRest_2 18 rfl rfl)
abbrev cX4_hasThen : ByteArray := prog_19_method_100_code
def yX4_hasThen : MethodName := ⟨RX4, "hasThen", "(I)I"⟩
def dkwX4_hasThen_0 : List UInt8 := [42, 27, 6, 182, 1, 36, 16, 10, 42, 27, 7, 182, 1, 36, 104, 96, 172]
abbrev dktX4_hasThen_0 : List UInt8 := dkwX4_hasThen_0 ++ []
theorem dksX4_hasThen_0 : cX4_hasThen.data.toList.drop 0 = dktX4_hasThen_0 := by decide +kernel
theorem dX4_hasThen_0 : decode cX4_hasThen 0 = .ok (.aload_n 0, 1) := dk_42 (dk_at dksX4_hasThen_0 0 rfl rfl)
theorem dX4_hasThen_1 : decode cX4_hasThen 1 = .ok (.iload_n 1, 1) := dk_27 (dk_at dksX4_hasThen_0 1 rfl rfl)
theorem dX4_hasThen_2 : decode cX4_hasThen 2 = .ok (.iconst 3, 1) := dk_6 (dk_at dksX4_hasThen_0 2 rfl rfl)
theorem dX4_hasThen_3 : decode cX4_hasThen 3 = .ok (.invokevirtual 292, 3) := dk_182 1 36 (dk_at dksX4_hasThen_0 3 rfl rfl)
theorem dX4_hasThen_6 : decode cX4_hasThen 6 = .ok (.bipush 10, 2) := dk_16 10 (dk_at dksX4_hasThen_0 6 rfl rfl)
theorem dX4_hasThen_8 : decode cX4_hasThen 8 = .ok (.aload_n 0, 1) := dk_42 (dk_at dksX4_hasThen_0 8 rfl rfl)
theorem dX4_hasThen_9 : decode cX4_hasThen 9 = .ok (.iload_n 1, 1) := dk_27 (dk_at dksX4_hasThen_0 9 rfl rfl)
theorem dX4_hasThen_10 : decode cX4_hasThen 10 = .ok (.iconst 4, 1) := dk_7 (dk_at dksX4_hasThen_0 10 rfl rfl)
theorem dX4_hasThen_11 : decode cX4_hasThen 11 = .ok (.invokevirtual 292, 3) := dk_182 1 36 (dk_at dksX4_hasThen_0 11 rfl rfl)
theorem dX4_hasThen_14 : decode cX4_hasThen 14 = .ok (.imul, 1) := dk_104 (dk_at dksX4_hasThen_0 14 rfl rfl)
theorem dX4_hasThen_15 : decode cX4_hasThen 15 = .ok (.iadd, 1) := dk_96 (dk_at dksX4_hasThen_0 15 rfl rfl)
theorem dX4_hasThen_16 : decode cX4_hasThen 16 = .ok (.ireturn, 1) := dk_172 (dk_at dksX4_hasThen_0 16 rfl rfl)
abbrev cX4_isRest : ByteArray := prog_19_method_99_code
def yX4_isRest : MethodName := ⟨RX4, "isRest", "(II)Z"⟩
def dkwX4_isRest_3 : List UInt8 := [167, 255, 188, 4, 172]
abbrev dktX4_isRest_3 : List UInt8 := dkwX4_isRest_3 ++ []
def dkwX4_isRest_2 : List UInt8 := [42, 180, 0, 64, 5, 7, 27, 104, 28, 96, 104, 4, 96, 46, 164, 0, 5, 3, 172, 132, 3, 1]
abbrev dktX4_isRest_2 : List UInt8 := dkwX4_isRest_2 ++ dktX4_isRest_3
def dkwX4_isRest_1 : List UInt8 := [7, 27, 104, 28, 96, 104, 46, 163, 0, 34, 42, 180, 0, 64, 5, 7, 27, 104, 29, 96, 104, 4, 96, 46]
abbrev dktX4_isRest_1 : List UInt8 := dkwX4_isRest_1 ++ dktX4_isRest_2
def dkwX4_isRest_0 : List UInt8 := [3, 62, 29, 7, 162, 0, 69, 42, 180, 0, 64, 5, 7, 29, 104, 28, 96, 104, 46, 42, 180, 0, 64, 5]
abbrev dktX4_isRest_0 : List UInt8 := dkwX4_isRest_0 ++ dktX4_isRest_1
theorem dksX4_isRest_0 : cX4_isRest.data.toList.drop 0 = dktX4_isRest_0 := by decide +kernel
theorem dksX4_isRest_1 : cX4_isRest.data.toList.drop 24 = dktX4_isRest_1 := dk_seg dksX4_isRest_0 24 rfl rfl
theorem dksX4_isRest_2 : cX4_isRest.data.toList.drop 48 = dktX4_isRest_2 := dk_seg dksX4_isRest_1 24 rfl rfl
theorem dksX4_isRest_3 : cX4_isRest.data.toList.drop 70 = dktX4_isRest_3 := dk_seg dksX4_isRest_2 22 rfl rfl
theorem dX4_isRest_0 : decode cX4_isRest 0 = .ok (.iconst 0, 1) := dk_3 (dk_at dksX4_isRest_0 0 rfl rfl)
theorem dX4_isRest_1 : decode cX4_isRest 1 = .ok (.istore_n 3, 1) := dk_62 (dk_at dksX4_isRest_0 1 rfl rfl)
theorem dX4_isRest_2 : decode cX4_isRest 2 = .ok (.iload_n 3, 1) := dk_29 (dk_at dksX4_isRest_0 2 rfl rfl)
theorem dX4_isRest_3 : decode cX4_isRest 3 = .ok (.iconst 4, 1) := dk_7 (dk_at dksX4_isRest_0 3 rfl rfl)
theorem dX4_isRest_4 : decode cX4_isRest 4 = .ok (.if_icmp .ge 69, 3) := dk_162 0 69 (dk_at dksX4_isRest_0 4 rfl rfl)
theorem dX4_isRest_7 : decode cX4_isRest 7 = .ok (.aload_n 0, 1) := dk_42 (dk_at dksX4_isRest_0 7 rfl rfl)
theorem dX4_isRest_8 : decode cX4_isRest 8 = .ok (.getfield 64, 3) := dk_180 0 64 (dk_at dksX4_isRest_0 8 rfl rfl)
theorem dX4_isRest_11 : decode cX4_isRest 11 = .ok (.iconst 2, 1) := dk_5 (dk_at dksX4_isRest_0 11 rfl rfl)
theorem dX4_isRest_12 : decode cX4_isRest 12 = .ok (.iconst 4, 1) := dk_7 (dk_at dksX4_isRest_0 12 rfl rfl)
theorem dX4_isRest_13 : decode cX4_isRest 13 = .ok (.iload_n 3, 1) := dk_29 (dk_at dksX4_isRest_0 13 rfl rfl)
theorem dX4_isRest_14 : decode cX4_isRest 14 = .ok (.imul, 1) := dk_104 (dk_at dksX4_isRest_0 14 rfl rfl)
theorem dX4_isRest_15 : decode cX4_isRest 15 = .ok (.iload_n 2, 1) := dk_28 (dk_at dksX4_isRest_0 15 rfl rfl)
theorem dX4_isRest_16 : decode cX4_isRest 16 = .ok (.iadd, 1) := dk_96 (dk_at dksX4_isRest_0 16 rfl rfl)
theorem dX4_isRest_17 : decode cX4_isRest 17 = .ok (.imul, 1) := dk_104 (dk_at dksX4_isRest_0 17 rfl rfl)
theorem dX4_isRest_18 : decode cX4_isRest 18 = .ok (.iaload, 1) := dk_46 (dk_at dksX4_isRest_0 18 rfl rfl)
theorem dX4_isRest_19 : decode cX4_isRest 19 = .ok (.aload_n 0, 1) := dk_42 (dk_at dksX4_isRest_0 19 rfl rfl)
theorem dX4_isRest_20 : decode cX4_isRest 20 = .ok (.getfield 64, 3) := dk_180 0 64 (dk_at dksX4_isRest_0 20 rfl rfl)
theorem dX4_isRest_23 : decode cX4_isRest 23 = .ok (.iconst 2, 1) := dk_5 (dk_at dksX4_isRest_0 23 rfl rfl)
theorem dX4_isRest_24 : decode cX4_isRest 24 = .ok (.iconst 4, 1) := dk_7 (dk_at dksX4_isRest_1 0 rfl rfl)
theorem dX4_isRest_25 : decode cX4_isRest 25 = .ok (.iload_n 1, 1) := dk_27 (dk_at dksX4_isRest_1 1 rfl rfl)
theorem dX4_isRest_26 : decode cX4_isRest 26 = .ok (.imul, 1) := dk_104 (dk_at dksX4_isRest_1 2 rfl rfl)
theorem dX4_isRest_27 : decode cX4_isRest 27 = .ok (.iload_n 2, 1) := dk_28 (dk_at dksX4_isRest_1 3 rfl rfl)
theorem dX4_isRest_28 : decode cX4_isRest 28 = .ok (.iadd, 1) := dk_96 (dk_at dksX4_isRest_1 4 rfl rfl)
theorem dX4_isRest_29 : decode cX4_isRest 29 = .ok (.imul, 1) := dk_104 (dk_at dksX4_isRest_1 5 rfl rfl)
theorem dX4_isRest_30 : decode cX4_isRest 30 = .ok (.iaload, 1) := dk_46 (dk_at dksX4_isRest_1 6 rfl rfl)
theorem dX4_isRest_31 : decode cX4_isRest 31 = .ok (.if_icmp .gt 34, 3) := dk_163 0 34 (dk_at dksX4_isRest_1 7 rfl rfl)
theorem dX4_isRest_34 : decode cX4_isRest 34 = .ok (.aload_n 0, 1) := dk_42 (dk_at dksX4_isRest_1 10 rfl rfl)
theorem dX4_isRest_35 : decode cX4_isRest 35 = .ok (.getfield 64, 3) := dk_180 0 64 (dk_at dksX4_isRest_1 11 rfl rfl)
theorem dX4_isRest_38 : decode cX4_isRest 38 = .ok (.iconst 2, 1) := dk_5 (dk_at dksX4_isRest_1 14 rfl rfl)
theorem dX4_isRest_39 : decode cX4_isRest 39 = .ok (.iconst 4, 1) := dk_7 (dk_at dksX4_isRest_1 15 rfl rfl)
theorem dX4_isRest_40 : decode cX4_isRest 40 = .ok (.iload_n 1, 1) := dk_27 (dk_at dksX4_isRest_1 16 rfl rfl)
theorem dX4_isRest_41 : decode cX4_isRest 41 = .ok (.imul, 1) := dk_104 (dk_at dksX4_isRest_1 17 rfl rfl)
theorem dX4_isRest_42 : decode cX4_isRest 42 = .ok (.iload_n 3, 1) := dk_29 (dk_at dksX4_isRest_1 18 rfl rfl)
theorem dX4_isRest_43 : decode cX4_isRest 43 = .ok (.iadd, 1) := dk_96 (dk_at dksX4_isRest_1 19 rfl rfl)
theorem dX4_isRest_44 : decode cX4_isRest 44 = .ok (.imul, 1) := dk_104 (dk_at dksX4_isRest_1 20 rfl rfl)
theorem dX4_isRest_45 : decode cX4_isRest 45 = .ok (.iconst 1, 1) := dk_4 (dk_at dksX4_isRest_1 21 rfl rfl)
theorem dX4_isRest_46 : decode cX4_isRest 46 = .ok (.iadd, 1) := dk_96 (dk_at dksX4_isRest_1 22 rfl rfl)
theorem dX4_isRest_47 : decode cX4_isRest 47 = .ok (.iaload, 1) := dk_46 (dk_at dksX4_isRest_1 23 rfl rfl)
theorem dX4_isRest_48 : decode cX4_isRest 48 = .ok (.aload_n 0, 1) := dk_42 (dk_at dksX4_isRest_2 0 rfl rfl)
theorem dX4_isRest_49 : decode cX4_isRest 49 = .ok (.getfield 64, 3) := dk_180 0 64 (dk_at dksX4_isRest_2 1 rfl rfl)
theorem dX4_isRest_52 : decode cX4_isRest 52 = .ok (.iconst 2, 1) := dk_5 (dk_at dksX4_isRest_2 4 rfl rfl)
theorem dX4_isRest_53 : decode cX4_isRest 53 = .ok (.iconst 4, 1) := dk_7 (dk_at dksX4_isRest_2 5 rfl rfl)
theorem dX4_isRest_54 : decode cX4_isRest 54 = .ok (.iload_n 1, 1) := dk_27 (dk_at dksX4_isRest_2 6 rfl rfl)
theorem dX4_isRest_55 : decode cX4_isRest 55 = .ok (.imul, 1) := dk_104 (dk_at dksX4_isRest_2 7 rfl rfl)
theorem dX4_isRest_56 : decode cX4_isRest 56 = .ok (.iload_n 2, 1) := dk_28 (dk_at dksX4_isRest_2 8 rfl rfl)
theorem dX4_isRest_57 : decode cX4_isRest 57 = .ok (.iadd, 1) := dk_96 (dk_at dksX4_isRest_2 9 rfl rfl)
theorem dX4_isRest_58 : decode cX4_isRest 58 = .ok (.imul, 1) := dk_104 (dk_at dksX4_isRest_2 10 rfl rfl)
theorem dX4_isRest_59 : decode cX4_isRest 59 = .ok (.iconst 1, 1) := dk_4 (dk_at dksX4_isRest_2 11 rfl rfl)
theorem dX4_isRest_60 : decode cX4_isRest 60 = .ok (.iadd, 1) := dk_96 (dk_at dksX4_isRest_2 12 rfl rfl)
theorem dX4_isRest_61 : decode cX4_isRest 61 = .ok (.iaload, 1) := dk_46 (dk_at dksX4_isRest_2 13 rfl rfl)
theorem dX4_isRest_62 : decode cX4_isRest 62 = .ok (.if_icmp .le 5, 3) := dk_164 0 5 (dk_at dksX4_isRest_2 14 rfl rfl)
theorem dX4_isRest_65 : decode cX4_isRest 65 = .ok (.iconst 0, 1) := dk_3 (dk_at dksX4_isRest_2 17 rfl rfl)
theorem dX4_isRest_66 : decode cX4_isRest 66 = .ok (.ireturn, 1) := dk_172 (dk_at dksX4_isRest_2 18 rfl rfl)
theorem dX4_isRest_67 : decode cX4_isRest 67 = .ok (.iinc 3 1, 3) := dk_132 3 1 (dk_at dksX4_isRest_2 19 rfl rfl)
theorem dX4_isRest_70 : decode cX4_isRest 70 = .ok (.goto (-68), 3) := dk_167 255 188 (dk_at dksX4_isRest_3 0 rfl rfl)
theorem dX4_isRest_73 : decode cX4_isRest 73 = .ok (.iconst 1, 1) := dk_4 (dk_at dksX4_isRest_3 3 rfl rfl)
theorem dX4_isRest_74 : decode cX4_isRest 74 = .ok (.ireturn, 1) := dk_172 (dk_at dksX4_isRest_3 4 rfl rfl)
abbrev cX4_pence : ByteArray := prog_19_method_103_code
def yX4_pence : MethodName := ⟨RX4, "pence", "(II)I"⟩
def dkwX4_pence_7 : List UInt8 := [96, 172]
abbrev dktX4_pence_7 : List UInt8 := dkwX4_pence_7 ++ []
def dkwX4_pence_6 : List UInt8 := [54, 6, 132, 7, 1, 167, 255, 172, 21, 4, 29, 108, 21, 6, 21, 5, 162, 0, 7, 4, 167, 0, 4, 3]
abbrev dktX4_pence_6 : List UInt8 := dkwX4_pence_6 ++ dktX4_pence_7
def dkwX4_pence_5 : List UInt8 := [21, 8, 29, 112, 21, 4, 29, 112, 160, 0, 13, 21, 7, 28, 162, 0, 7, 4, 167, 0, 4, 3, 96]
abbrev dktX4_pence_5 : List UInt8 := dkwX4_pence_5 ++ dktX4_pence_6
def dkwX4_pence_4 : List UInt8 := [54, 8, 21, 5, 21, 8, 29, 108, 100, 54, 5, 21, 6, 21, 8, 29, 112, 21, 4, 29, 112, 163, 0, 20]
abbrev dktX4_pence_4 : List UInt8 := dkwX4_pence_4 ++ dktX4_pence_5
def dkwX4_pence_3 : List UInt8 := [162, 0, 79, 42, 21, 7, 182, 1, 40, 154, 0, 6, 167, 0, 61, 27, 42, 21, 7, 6, 182, 1, 36, 104]
abbrev dktX4_pence_3 : List UInt8 := dkwX4_pence_3 ++ dktX4_pence_4
def dkwX4_pence_2 : List UInt8 := [182, 1, 36, 104, 54, 4, 27, 54, 5, 3, 54, 6, 3, 54, 7, 21, 7, 42, 180, 0, 39, 5, 46]
abbrev dktX4_pence_2 : List UInt8 := dkwX4_pence_2 ++ dktX4_pence_3
def dkwX4_pence_1 : List UInt8 := [182, 1, 186, 62, 29, 153, 0, 11, 42, 28, 182, 1, 40, 154, 0, 5, 3, 172, 27, 42, 28, 6]
abbrev dktX4_pence_1 : List UInt8 := dkwX4_pence_1 ++ dktX4_pence_2
def dkwX4_pence_0 : List UInt8 := [42, 28, 182, 1, 33, 153, 0, 15, 27, 133, 9, 20, 1, 184, 184, 0, 124, 154, 0, 5, 2, 172, 42, 6]
abbrev dktX4_pence_0 : List UInt8 := dkwX4_pence_0 ++ dktX4_pence_1
theorem dksX4_pence_0 : cX4_pence.data.toList.drop 0 = dktX4_pence_0 := by decide +kernel
theorem dksX4_pence_1 : cX4_pence.data.toList.drop 24 = dktX4_pence_1 := dk_seg dksX4_pence_0 24 rfl rfl
theorem dksX4_pence_2 : cX4_pence.data.toList.drop 46 = dktX4_pence_2 := dk_seg dksX4_pence_1 22 rfl rfl
theorem dksX4_pence_3 : cX4_pence.data.toList.drop 69 = dktX4_pence_3 := dk_seg dksX4_pence_2 23 rfl rfl
theorem dksX4_pence_4 : cX4_pence.data.toList.drop 93 = dktX4_pence_4 := dk_seg dksX4_pence_3 24 rfl rfl
theorem dksX4_pence_5 : cX4_pence.data.toList.drop 117 = dktX4_pence_5 := dk_seg dksX4_pence_4 24 rfl rfl
theorem dksX4_pence_6 : cX4_pence.data.toList.drop 140 = dktX4_pence_6 := dk_seg dksX4_pence_5 23 rfl rfl
theorem dksX4_pence_7 : cX4_pence.data.toList.drop 164 = dktX4_pence_7 := dk_seg dksX4_pence_6 24 rfl rfl
theorem dX4_pence_0 : decode cX4_pence 0 = .ok (.aload_n 0, 1) := dk_42 (dk_at dksX4_pence_0 0 rfl rfl)
theorem dX4_pence_1 : decode cX4_pence 1 = .ok (.iload_n 2, 1) := dk_28 (dk_at dksX4_pence_0 1 rfl rfl)
theorem dX4_pence_2 : decode cX4_pence 2 = .ok (.invokevirtual 289, 3) := dk_182 1 33 (dk_at dksX4_pence_0 2 rfl rfl)
theorem dX4_pence_5 : decode cX4_pence 5 = .ok (.ifCond .eq 15, 3) := dk_153 0 15 (dk_at dksX4_pence_0 5 rfl rfl)
theorem dX4_pence_8 : decode cX4_pence 8 = .ok (.iload_n 1, 1) := dk_27 (dk_at dksX4_pence_0 8 rfl rfl)
theorem dX4_pence_9 : decode cX4_pence 9 = .ok (.i2l, 1) := dk_133 (dk_at dksX4_pence_0 9 rfl rfl)
theorem dX4_pence_10 : decode cX4_pence 10 = .ok (.lconst 0, 1) := dk_9 (dk_at dksX4_pence_0 10 rfl rfl)
theorem dX4_pence_11 : decode cX4_pence 11 = .ok (.ldc2_w 440, 3) := dk_20 1 184 (dk_at dksX4_pence_0 11 rfl rfl)
theorem dX4_pence_14 : decode cX4_pence 14 = .ok (.invokestatic 124, 3) := dk_184 0 124 (dk_at dksX4_pence_0 14 rfl rfl)
theorem dX4_pence_17 : decode cX4_pence 17 = .ok (.ifCond .ne 5, 3) := dk_154 0 5 (dk_at dksX4_pence_0 17 rfl rfl)
theorem dX4_pence_20 : decode cX4_pence 20 = .ok (.iconst (-1), 1) := dk_2 (dk_at dksX4_pence_0 20 rfl rfl)
theorem dX4_pence_21 : decode cX4_pence 21 = .ok (.ireturn, 1) := dk_172 (dk_at dksX4_pence_0 21 rfl rfl)
theorem dX4_pence_22 : decode cX4_pence 22 = .ok (.aload_n 0, 1) := dk_42 (dk_at dksX4_pence_0 22 rfl rfl)
theorem dX4_pence_23 : decode cX4_pence 23 = .ok (.iconst 3, 1) := dk_6 (dk_at dksX4_pence_0 23 rfl rfl)
theorem dX4_pence_24 : decode cX4_pence 24 = .ok (.invokevirtual 442, 3) := dk_182 1 186 (dk_at dksX4_pence_1 0 rfl rfl)
theorem dX4_pence_27 : decode cX4_pence 27 = .ok (.istore_n 3, 1) := dk_62 (dk_at dksX4_pence_1 3 rfl rfl)
theorem dX4_pence_28 : decode cX4_pence 28 = .ok (.iload_n 3, 1) := dk_29 (dk_at dksX4_pence_1 4 rfl rfl)
theorem dX4_pence_29 : decode cX4_pence 29 = .ok (.ifCond .eq 11, 3) := dk_153 0 11 (dk_at dksX4_pence_1 5 rfl rfl)
theorem dX4_pence_32 : decode cX4_pence 32 = .ok (.aload_n 0, 1) := dk_42 (dk_at dksX4_pence_1 8 rfl rfl)
theorem dX4_pence_33 : decode cX4_pence 33 = .ok (.iload_n 2, 1) := dk_28 (dk_at dksX4_pence_1 9 rfl rfl)
theorem dX4_pence_34 : decode cX4_pence 34 = .ok (.invokevirtual 296, 3) := dk_182 1 40 (dk_at dksX4_pence_1 10 rfl rfl)
theorem dX4_pence_37 : decode cX4_pence 37 = .ok (.ifCond .ne 5, 3) := dk_154 0 5 (dk_at dksX4_pence_1 13 rfl rfl)
theorem dX4_pence_40 : decode cX4_pence 40 = .ok (.iconst 0, 1) := dk_3 (dk_at dksX4_pence_1 16 rfl rfl)
theorem dX4_pence_41 : decode cX4_pence 41 = .ok (.ireturn, 1) := dk_172 (dk_at dksX4_pence_1 17 rfl rfl)
theorem dX4_pence_42 : decode cX4_pence 42 = .ok (.iload_n 1, 1) := dk_27 (dk_at dksX4_pence_1 18 rfl rfl)
theorem dX4_pence_43 : decode cX4_pence 43 = .ok (.aload_n 0, 1) := dk_42 (dk_at dksX4_pence_1 19 rfl rfl)
theorem dX4_pence_44 : decode cX4_pence 44 = .ok (.iload_n 2, 1) := dk_28 (dk_at dksX4_pence_1 20 rfl rfl)
theorem dX4_pence_45 : decode cX4_pence 45 = .ok (.iconst 3, 1) := dk_6 (dk_at dksX4_pence_1 21 rfl rfl)
theorem dX4_pence_46 : decode cX4_pence 46 = .ok (.invokevirtual 292, 3) := dk_182 1 36 (dk_at dksX4_pence_2 0 rfl rfl)
theorem dX4_pence_49 : decode cX4_pence 49 = .ok (.imul, 1) := dk_104 (dk_at dksX4_pence_2 3 rfl rfl)
theorem dX4_pence_50 : decode cX4_pence 50 = .ok (.istore 4, 2) := dk_54 4 (dk_at dksX4_pence_2 4 rfl rfl)
theorem dX4_pence_52 : decode cX4_pence 52 = .ok (.iload_n 1, 1) := dk_27 (dk_at dksX4_pence_2 6 rfl rfl)
theorem dX4_pence_53 : decode cX4_pence 53 = .ok (.istore 5, 2) := dk_54 5 (dk_at dksX4_pence_2 7 rfl rfl)
theorem dX4_pence_55 : decode cX4_pence 55 = .ok (.iconst 0, 1) := dk_3 (dk_at dksX4_pence_2 9 rfl rfl)
theorem dX4_pence_56 : decode cX4_pence 56 = .ok (.istore 6, 2) := dk_54 6 (dk_at dksX4_pence_2 10 rfl rfl)
theorem dX4_pence_58 : decode cX4_pence 58 = .ok (.iconst 0, 1) := dk_3 (dk_at dksX4_pence_2 12 rfl rfl)
theorem dX4_pence_59 : decode cX4_pence 59 = .ok (.istore 7, 2) := dk_54 7 (dk_at dksX4_pence_2 13 rfl rfl)
theorem dX4_pence_61 : decode cX4_pence 61 = .ok (.iload 7, 2) := dk_21 7 (dk_at dksX4_pence_2 15 rfl rfl)
theorem dX4_pence_63 : decode cX4_pence 63 = .ok (.aload_n 0, 1) := dk_42 (dk_at dksX4_pence_2 17 rfl rfl)
theorem dX4_pence_64 : decode cX4_pence 64 = .ok (.getfield 39, 3) := dk_180 0 39 (dk_at dksX4_pence_2 18 rfl rfl)
theorem dX4_pence_67 : decode cX4_pence 67 = .ok (.iconst 2, 1) := dk_5 (dk_at dksX4_pence_2 21 rfl rfl)
theorem dX4_pence_68 : decode cX4_pence 68 = .ok (.iaload, 1) := dk_46 (dk_at dksX4_pence_2 22 rfl rfl)
theorem dX4_pence_69 : decode cX4_pence 69 = .ok (.if_icmp .ge 79, 3) := dk_162 0 79 (dk_at dksX4_pence_3 0 rfl rfl)
theorem dX4_pence_72 : decode cX4_pence 72 = .ok (.aload_n 0, 1) := dk_42 (dk_at dksX4_pence_3 3 rfl rfl)
theorem dX4_pence_73 : decode cX4_pence 73 = .ok (.iload 7, 2) := dk_21 7 (dk_at dksX4_pence_3 4 rfl rfl)
theorem dX4_pence_75 : decode cX4_pence 75 = .ok (.invokevirtual 296, 3) := dk_182 1 40 (dk_at dksX4_pence_3 6 rfl rfl)
theorem dX4_pence_78 : decode cX4_pence 78 = .ok (.ifCond .ne 6, 3) := dk_154 0 6 (dk_at dksX4_pence_3 9 rfl rfl)
theorem dX4_pence_81 : decode cX4_pence 81 = .ok (.goto 61, 3) := dk_167 0 61 (dk_at dksX4_pence_3 12 rfl rfl)
theorem dX4_pence_84 : decode cX4_pence 84 = .ok (.iload_n 1, 1) := dk_27 (dk_at dksX4_pence_3 15 rfl rfl)
theorem dX4_pence_85 : decode cX4_pence 85 = .ok (.aload_n 0, 1) := dk_42 (dk_at dksX4_pence_3 16 rfl rfl)
theorem dX4_pence_86 : decode cX4_pence 86 = .ok (.iload 7, 2) := dk_21 7 (dk_at dksX4_pence_3 17 rfl rfl)
theorem dX4_pence_88 : decode cX4_pence 88 = .ok (.iconst 3, 1) := dk_6 (dk_at dksX4_pence_3 19 rfl rfl)
theorem dX4_pence_89 : decode cX4_pence 89 = .ok (.invokevirtual 292, 3) := dk_182 1 36 (dk_at dksX4_pence_3 20 rfl rfl)
theorem dX4_pence_92 : decode cX4_pence 92 = .ok (.imul, 1) := dk_104 (dk_at dksX4_pence_3 23 rfl rfl)
theorem dX4_pence_93 : decode cX4_pence 93 = .ok (.istore 8, 2) := dk_54 8 (dk_at dksX4_pence_4 0 rfl rfl)
theorem dX4_pence_95 : decode cX4_pence 95 = .ok (.iload 5, 2) := dk_21 5 (dk_at dksX4_pence_4 2 rfl rfl)
theorem dX4_pence_97 : decode cX4_pence 97 = .ok (.iload 8, 2) := dk_21 8 (dk_at dksX4_pence_4 4 rfl rfl)
theorem dX4_pence_99 : decode cX4_pence 99 = .ok (.iload_n 3, 1) := dk_29 (dk_at dksX4_pence_4 6 rfl rfl)
theorem dX4_pence_100 : decode cX4_pence 100 = .ok (.idiv, 1) := dk_108 (dk_at dksX4_pence_4 7 rfl rfl)
theorem dX4_pence_101 : decode cX4_pence 101 = .ok (.isub, 1) := dk_100 (dk_at dksX4_pence_4 8 rfl rfl)
theorem dX4_pence_102 : decode cX4_pence 102 = .ok (.istore 5, 2) := dk_54 5 (dk_at dksX4_pence_4 9 rfl rfl)
theorem dX4_pence_104 : decode cX4_pence 104 = .ok (.iload 6, 2) := dk_21 6 (dk_at dksX4_pence_4 11 rfl rfl)
theorem dX4_pence_106 : decode cX4_pence 106 = .ok (.iload 8, 2) := dk_21 8 (dk_at dksX4_pence_4 13 rfl rfl)
theorem dX4_pence_108 : decode cX4_pence 108 = .ok (.iload_n 3, 1) := dk_29 (dk_at dksX4_pence_4 15 rfl rfl)
theorem dX4_pence_109 : decode cX4_pence 109 = .ok (.irem, 1) := dk_112 (dk_at dksX4_pence_4 16 rfl rfl)
theorem dX4_pence_110 : decode cX4_pence 110 = .ok (.iload 4, 2) := dk_21 4 (dk_at dksX4_pence_4 17 rfl rfl)
theorem dX4_pence_112 : decode cX4_pence 112 = .ok (.iload_n 3, 1) := dk_29 (dk_at dksX4_pence_4 19 rfl rfl)
theorem dX4_pence_113 : decode cX4_pence 113 = .ok (.irem, 1) := dk_112 (dk_at dksX4_pence_4 20 rfl rfl)
theorem dX4_pence_114 : decode cX4_pence 114 = .ok (.if_icmp .gt 20, 3) := dk_163 0 20 (dk_at dksX4_pence_4 21 rfl rfl)
theorem dX4_pence_117 : decode cX4_pence 117 = .ok (.iload 8, 2) := dk_21 8 (dk_at dksX4_pence_5 0 rfl rfl)
theorem dX4_pence_119 : decode cX4_pence 119 = .ok (.iload_n 3, 1) := dk_29 (dk_at dksX4_pence_5 2 rfl rfl)
theorem dX4_pence_120 : decode cX4_pence 120 = .ok (.irem, 1) := dk_112 (dk_at dksX4_pence_5 3 rfl rfl)
theorem dX4_pence_121 : decode cX4_pence 121 = .ok (.iload 4, 2) := dk_21 4 (dk_at dksX4_pence_5 4 rfl rfl)
theorem dX4_pence_123 : decode cX4_pence 123 = .ok (.iload_n 3, 1) := dk_29 (dk_at dksX4_pence_5 6 rfl rfl)
theorem dX4_pence_124 : decode cX4_pence 124 = .ok (.irem, 1) := dk_112 (dk_at dksX4_pence_5 7 rfl rfl)
theorem dX4_pence_125 : decode cX4_pence 125 = .ok (.if_icmp .ne 13, 3) := dk_160 0 13 (dk_at dksX4_pence_5 8 rfl rfl)
theorem dX4_pence_128 : decode cX4_pence 128 = .ok (.iload 7, 2) := dk_21 7 (dk_at dksX4_pence_5 11 rfl rfl)
theorem dX4_pence_130 : decode cX4_pence 130 = .ok (.iload_n 2, 1) := dk_28 (dk_at dksX4_pence_5 13 rfl rfl)
theorem dX4_pence_131 : decode cX4_pence 131 = .ok (.if_icmp .ge 7, 3) := dk_162 0 7 (dk_at dksX4_pence_5 14 rfl rfl)
theorem dX4_pence_134 : decode cX4_pence 134 = .ok (.iconst 1, 1) := dk_4 (dk_at dksX4_pence_5 17 rfl rfl)
theorem dX4_pence_135 : decode cX4_pence 135 = .ok (.goto 4, 3) := dk_167 0 4 (dk_at dksX4_pence_5 18 rfl rfl)
theorem dX4_pence_138 : decode cX4_pence 138 = .ok (.iconst 0, 1) := dk_3 (dk_at dksX4_pence_5 21 rfl rfl)
theorem dX4_pence_139 : decode cX4_pence 139 = .ok (.iadd, 1) := dk_96 (dk_at dksX4_pence_5 22 rfl rfl)
theorem dX4_pence_140 : decode cX4_pence 140 = .ok (.istore 6, 2) := dk_54 6 (dk_at dksX4_pence_6 0 rfl rfl)
theorem dX4_pence_142 : decode cX4_pence 142 = .ok (.iinc 7 1, 3) := dk_132 7 1 (dk_at dksX4_pence_6 2 rfl rfl)
theorem dX4_pence_145 : decode cX4_pence 145 = .ok (.goto (-84), 3) := dk_167 255 172 (dk_at dksX4_pence_6 5 rfl rfl)
theorem dX4_pence_148 : decode cX4_pence 148 = .ok (.iload 4, 2) := dk_21 4 (dk_at dksX4_pence_6 8 rfl rfl)
theorem dX4_pence_150 : decode cX4_pence 150 = .ok (.iload_n 3, 1) := dk_29 (dk_at dksX4_pence_6 10 rfl rfl)
theorem dX4_pence_151 : decode cX4_pence 151 = .ok (.idiv, 1) := dk_108 (dk_at dksX4_pence_6 11 rfl rfl)
theorem dX4_pence_152 : decode cX4_pence 152 = .ok (.iload 6, 2) := dk_21 6 (dk_at dksX4_pence_6 12 rfl rfl)
theorem dX4_pence_154 : decode cX4_pence 154 = .ok (.iload 5, 2) := dk_21 5 (dk_at dksX4_pence_6 14 rfl rfl)
theorem dX4_pence_156 : decode cX4_pence 156 = .ok (.if_icmp .ge 7, 3) := dk_162 0 7 (dk_at dksX4_pence_6 16 rfl rfl)
theorem dX4_pence_159 : decode cX4_pence 159 = .ok (.iconst 1, 1) := dk_4 (dk_at dksX4_pence_6 19 rfl rfl)
theorem dX4_pence_160 : decode cX4_pence 160 = .ok (.goto 4, 3) := dk_167 0 4 (dk_at dksX4_pence_6 20 rfl rfl)
theorem dX4_pence_163 : decode cX4_pence 163 = .ok (.iconst 0, 1) := dk_3 (dk_at dksX4_pence_6 23 rfl rfl)
theorem dX4_pence_164 : decode cX4_pence 164 = .ok (.iadd, 1) := dk_96 (dk_at dksX4_pence_7 0 rfl rfl)
theorem dX4_pence_165 : decode cX4_pence 165 = .ok (.ireturn, 1) := dk_172 (dk_at dksX4_pence_7 1 rfl rfl)
abbrev cX4_sumOver : ByteArray := prog_19_method_52_code
def yX4_sumOver : MethodName := ⟨RX4, "sumOver", "(I)I"⟩
def dkwX4_sumOver_1 : List UInt8 := [29, 27, 182, 1, 36, 167, 0, 4, 3, 96, 61, 132, 3, 1, 167, 255, 222, 28, 172]
abbrev dktX4_sumOver_1 : List UInt8 := dkwX4_sumOver_1 ++ []
def dkwX4_sumOver_0 : List UInt8 := [3, 61, 3, 62, 29, 42, 180, 0, 39, 5, 46, 162, 0, 30, 28, 42, 29, 182, 1, 40, 153, 0, 12, 42]
abbrev dktX4_sumOver_0 : List UInt8 := dkwX4_sumOver_0 ++ dktX4_sumOver_1
theorem dksX4_sumOver_0 : cX4_sumOver.data.toList.drop 0 = dktX4_sumOver_0 := by decide +kernel
theorem dksX4_sumOver_1 : cX4_sumOver.data.toList.drop 24 = dktX4_sumOver_1 := dk_seg dksX4_sumOver_0 24 rfl rfl
theorem dX4_sumOver_0 : decode cX4_sumOver 0 = .ok (.iconst 0, 1) := dk_3 (dk_at dksX4_sumOver_0 0 rfl rfl)
theorem dX4_sumOver_1 : decode cX4_sumOver 1 = .ok (.istore_n 2, 1) := dk_61 (dk_at dksX4_sumOver_0 1 rfl rfl)
theorem dX4_sumOver_2 : decode cX4_sumOver 2 = .ok (.iconst 0, 1) := dk_3 (dk_at dksX4_sumOver_0 2 rfl rfl)
theorem dX4_sumOver_3 : decode cX4_sumOver 3 = .ok (.istore_n 3, 1) := dk_62 (dk_at dksX4_sumOver_0 3 rfl rfl)
theorem dX4_sumOver_4 : decode cX4_sumOver 4 = .ok (.iload_n 3, 1) := dk_29 (dk_at dksX4_sumOver_0 4 rfl rfl)
theorem dX4_sumOver_5 : decode cX4_sumOver 5 = .ok (.aload_n 0, 1) := dk_42 (dk_at dksX4_sumOver_0 5 rfl rfl)
theorem dX4_sumOver_6 : decode cX4_sumOver 6 = .ok (.getfield 39, 3) := dk_180 0 39 (dk_at dksX4_sumOver_0 6 rfl rfl)
theorem dX4_sumOver_9 : decode cX4_sumOver 9 = .ok (.iconst 2, 1) := dk_5 (dk_at dksX4_sumOver_0 9 rfl rfl)
theorem dX4_sumOver_10 : decode cX4_sumOver 10 = .ok (.iaload, 1) := dk_46 (dk_at dksX4_sumOver_0 10 rfl rfl)
theorem dX4_sumOver_11 : decode cX4_sumOver 11 = .ok (.if_icmp .ge 30, 3) := dk_162 0 30 (dk_at dksX4_sumOver_0 11 rfl rfl)
theorem dX4_sumOver_14 : decode cX4_sumOver 14 = .ok (.iload_n 2, 1) := dk_28 (dk_at dksX4_sumOver_0 14 rfl rfl)
theorem dX4_sumOver_15 : decode cX4_sumOver 15 = .ok (.aload_n 0, 1) := dk_42 (dk_at dksX4_sumOver_0 15 rfl rfl)
theorem dX4_sumOver_16 : decode cX4_sumOver 16 = .ok (.iload_n 3, 1) := dk_29 (dk_at dksX4_sumOver_0 16 rfl rfl)
theorem dX4_sumOver_17 : decode cX4_sumOver 17 = .ok (.invokevirtual 296, 3) := dk_182 1 40 (dk_at dksX4_sumOver_0 17 rfl rfl)
theorem dX4_sumOver_20 : decode cX4_sumOver 20 = .ok (.ifCond .eq 12, 3) := dk_153 0 12 (dk_at dksX4_sumOver_0 20 rfl rfl)
theorem dX4_sumOver_23 : decode cX4_sumOver 23 = .ok (.aload_n 0, 1) := dk_42 (dk_at dksX4_sumOver_0 23 rfl rfl)
theorem dX4_sumOver_24 : decode cX4_sumOver 24 = .ok (.iload_n 3, 1) := dk_29 (dk_at dksX4_sumOver_1 0 rfl rfl)
theorem dX4_sumOver_25 : decode cX4_sumOver 25 = .ok (.iload_n 1, 1) := dk_27 (dk_at dksX4_sumOver_1 1 rfl rfl)
theorem dX4_sumOver_26 : decode cX4_sumOver 26 = .ok (.invokevirtual 292, 3) := dk_182 1 36 (dk_at dksX4_sumOver_1 2 rfl rfl)
theorem dX4_sumOver_29 : decode cX4_sumOver 29 = .ok (.goto 4, 3) := dk_167 0 4 (dk_at dksX4_sumOver_1 5 rfl rfl)
theorem dX4_sumOver_32 : decode cX4_sumOver 32 = .ok (.iconst 0, 1) := dk_3 (dk_at dksX4_sumOver_1 8 rfl rfl)
theorem dX4_sumOver_33 : decode cX4_sumOver 33 = .ok (.iadd, 1) := dk_96 (dk_at dksX4_sumOver_1 9 rfl rfl)
theorem dX4_sumOver_34 : decode cX4_sumOver 34 = .ok (.istore_n 2, 1) := dk_61 (dk_at dksX4_sumOver_1 10 rfl rfl)
theorem dX4_sumOver_35 : decode cX4_sumOver 35 = .ok (.iinc 3 1, 3) := dk_132 3 1 (dk_at dksX4_sumOver_1 11 rfl rfl)
theorem dX4_sumOver_38 : decode cX4_sumOver 38 = .ok (.goto (-34), 3) := dk_167 255 222 (dk_at dksX4_sumOver_1 14 rfl rfl)
theorem dX4_sumOver_41 : decode cX4_sumOver 41 = .ok (.iload_n 2, 1) := dk_28 (dk_at dksX4_sumOver_1 17 rfl rfl)
theorem dX4_sumOver_42 : decode cX4_sumOver 42 = .ok (.ireturn, 1) := dk_172 (dk_at dksX4_sumOver_1 18 rfl rfl)
abbrev cX4_note : ByteArray := prog_19_method_104_code
def yX4_note : MethodName := ⟨RX4, "note", "(III)I"⟩
def dkwX4_note_5 : List UInt8 := [16, 113, 46, 172]
abbrev dktX4_note_5 : List UInt8 := dkwX4_note_5 ++ []
def dkwX4_note_4 : List UInt8 := [180, 0, 39, 21, 4, 5, 96, 29, 79, 42, 180, 0, 39, 16, 113, 92, 46, 4, 96, 79, 42, 180, 0, 39]
abbrev dktX4_note_4 : List UInt8 := dkwX4_note_4 ++ dktX4_note_5
def dkwX4_note_3 : List UInt8 := [104, 96, 54, 4, 42, 180, 0, 39, 21, 4, 27, 79, 42, 180, 0, 39, 21, 4, 4, 96, 28, 79, 42]
abbrev dktX4_note_3 : List UInt8 := dkwX4_note_3 ++ dktX4_note_4
def dkwX4_note_2 : List UInt8 := [180, 0, 39, 16, 113, 46, 16, 10, 160, 0, 6, 16, 254, 172, 16, 83, 6, 42, 180, 0, 39, 16, 113, 46]
abbrev dktX4_note_2 : List UInt8 := dkwX4_note_2 ++ dktX4_note_3
def dkwX4_note_1 : List UInt8 := [153, 0, 33, 42, 28, 182, 1, 33, 153, 0, 25, 29, 133, 9, 10, 184, 0, 124, 153, 0, 15, 42]
abbrev dktX4_note_1 : List UInt8 := dkwX4_note_1 ++ dktX4_note_2
def dkwX4_note_0 : List UInt8 := [27, 2, 160, 0, 13, 42, 180, 0, 39, 16, 113, 3, 79, 3, 172, 27, 133, 9, 20, 1, 189, 184, 0, 124]
abbrev dktX4_note_0 : List UInt8 := dkwX4_note_0 ++ dktX4_note_1
theorem dksX4_note_0 : cX4_note.data.toList.drop 0 = dktX4_note_0 := by decide +kernel
theorem dksX4_note_1 : cX4_note.data.toList.drop 24 = dktX4_note_1 := dk_seg dksX4_note_0 24 rfl rfl
theorem dksX4_note_2 : cX4_note.data.toList.drop 46 = dktX4_note_2 := dk_seg dksX4_note_1 22 rfl rfl
theorem dksX4_note_3 : cX4_note.data.toList.drop 70 = dktX4_note_3 := dk_seg dksX4_note_2 24 rfl rfl
theorem dksX4_note_4 : cX4_note.data.toList.drop 93 = dktX4_note_4 := dk_seg dksX4_note_3 23 rfl rfl
theorem dksX4_note_5 : cX4_note.data.toList.drop 117 = dktX4_note_5 := dk_seg dksX4_note_4 24 rfl rfl
theorem dX4_note_0 : decode cX4_note 0 = .ok (.iload_n 1, 1) := dk_27 (dk_at dksX4_note_0 0 rfl rfl)
theorem dX4_note_1 : decode cX4_note 1 = .ok (.iconst (-1), 1) := dk_2 (dk_at dksX4_note_0 1 rfl rfl)
theorem dX4_note_2 : decode cX4_note 2 = .ok (.if_icmp .ne 13, 3) := dk_160 0 13 (dk_at dksX4_note_0 2 rfl rfl)
theorem dX4_note_5 : decode cX4_note 5 = .ok (.aload_n 0, 1) := dk_42 (dk_at dksX4_note_0 5 rfl rfl)
theorem dX4_note_6 : decode cX4_note 6 = .ok (.getfield 39, 3) := dk_180 0 39 (dk_at dksX4_note_0 6 rfl rfl)
theorem dX4_note_9 : decode cX4_note 9 = .ok (.bipush 113, 2) := dk_16 113 (dk_at dksX4_note_0 9 rfl rfl)
theorem dX4_note_11 : decode cX4_note 11 = .ok (.iconst 0, 1) := dk_3 (dk_at dksX4_note_0 11 rfl rfl)
theorem dX4_note_12 : decode cX4_note 12 = .ok (.iastore, 1) := dk_79 (dk_at dksX4_note_0 12 rfl rfl)
theorem dX4_note_13 : decode cX4_note 13 = .ok (.iconst 0, 1) := dk_3 (dk_at dksX4_note_0 13 rfl rfl)
theorem dX4_note_14 : decode cX4_note 14 = .ok (.ireturn, 1) := dk_172 (dk_at dksX4_note_0 14 rfl rfl)
theorem dX4_note_15 : decode cX4_note 15 = .ok (.iload_n 1, 1) := dk_27 (dk_at dksX4_note_0 15 rfl rfl)
theorem dX4_note_16 : decode cX4_note 16 = .ok (.i2l, 1) := dk_133 (dk_at dksX4_note_0 16 rfl rfl)
theorem dX4_note_17 : decode cX4_note 17 = .ok (.lconst 0, 1) := dk_9 (dk_at dksX4_note_0 17 rfl rfl)
theorem dX4_note_18 : decode cX4_note 18 = .ok (.ldc2_w 445, 3) := dk_20 1 189 (dk_at dksX4_note_0 18 rfl rfl)
theorem dX4_note_21 : decode cX4_note 21 = .ok (.invokestatic 124, 3) := dk_184 0 124 (dk_at dksX4_note_0 21 rfl rfl)
theorem dX4_note_24 : decode cX4_note 24 = .ok (.ifCond .eq 33, 3) := dk_153 0 33 (dk_at dksX4_note_1 0 rfl rfl)
theorem dX4_note_27 : decode cX4_note 27 = .ok (.aload_n 0, 1) := dk_42 (dk_at dksX4_note_1 3 rfl rfl)
theorem dX4_note_28 : decode cX4_note 28 = .ok (.iload_n 2, 1) := dk_28 (dk_at dksX4_note_1 4 rfl rfl)
theorem dX4_note_29 : decode cX4_note 29 = .ok (.invokevirtual 289, 3) := dk_182 1 33 (dk_at dksX4_note_1 5 rfl rfl)
theorem dX4_note_32 : decode cX4_note 32 = .ok (.ifCond .eq 25, 3) := dk_153 0 25 (dk_at dksX4_note_1 8 rfl rfl)
theorem dX4_note_35 : decode cX4_note 35 = .ok (.iload_n 3, 1) := dk_29 (dk_at dksX4_note_1 11 rfl rfl)
theorem dX4_note_36 : decode cX4_note 36 = .ok (.i2l, 1) := dk_133 (dk_at dksX4_note_1 12 rfl rfl)
theorem dX4_note_37 : decode cX4_note 37 = .ok (.lconst 0, 1) := dk_9 (dk_at dksX4_note_1 13 rfl rfl)
theorem dX4_note_38 : decode cX4_note 38 = .ok (.lconst 1, 1) := dk_10 (dk_at dksX4_note_1 14 rfl rfl)
theorem dX4_note_39 : decode cX4_note 39 = .ok (.invokestatic 124, 3) := dk_184 0 124 (dk_at dksX4_note_1 15 rfl rfl)
theorem dX4_note_42 : decode cX4_note 42 = .ok (.ifCond .eq 15, 3) := dk_153 0 15 (dk_at dksX4_note_1 18 rfl rfl)
theorem dX4_note_45 : decode cX4_note 45 = .ok (.aload_n 0, 1) := dk_42 (dk_at dksX4_note_1 21 rfl rfl)
theorem dX4_note_46 : decode cX4_note 46 = .ok (.getfield 39, 3) := dk_180 0 39 (dk_at dksX4_note_2 0 rfl rfl)
theorem dX4_note_49 : decode cX4_note 49 = .ok (.bipush 113, 2) := dk_16 113 (dk_at dksX4_note_2 3 rfl rfl)
theorem dX4_note_51 : decode cX4_note 51 = .ok (.iaload, 1) := dk_46 (dk_at dksX4_note_2 5 rfl rfl)
theorem dX4_note_52 : decode cX4_note 52 = .ok (.bipush 10, 2) := dk_16 10 (dk_at dksX4_note_2 6 rfl rfl)
theorem dX4_note_54 : decode cX4_note 54 = .ok (.if_icmp .ne 6, 3) := dk_160 0 6 (dk_at dksX4_note_2 8 rfl rfl)
theorem dX4_note_57 : decode cX4_note 57 = .ok (.bipush (-2), 2) := dk_16 254 (dk_at dksX4_note_2 11 rfl rfl)
theorem dX4_note_59 : decode cX4_note 59 = .ok (.ireturn, 1) := dk_172 (dk_at dksX4_note_2 13 rfl rfl)
theorem dX4_note_60 : decode cX4_note 60 = .ok (.bipush 83, 2) := dk_16 83 (dk_at dksX4_note_2 14 rfl rfl)
theorem dX4_note_62 : decode cX4_note 62 = .ok (.iconst 3, 1) := dk_6 (dk_at dksX4_note_2 16 rfl rfl)
theorem dX4_note_63 : decode cX4_note 63 = .ok (.aload_n 0, 1) := dk_42 (dk_at dksX4_note_2 17 rfl rfl)
theorem dX4_note_64 : decode cX4_note 64 = .ok (.getfield 39, 3) := dk_180 0 39 (dk_at dksX4_note_2 18 rfl rfl)
theorem dX4_note_67 : decode cX4_note 67 = .ok (.bipush 113, 2) := dk_16 113 (dk_at dksX4_note_2 21 rfl rfl)
theorem dX4_note_69 : decode cX4_note 69 = .ok (.iaload, 1) := dk_46 (dk_at dksX4_note_2 23 rfl rfl)
theorem dX4_note_70 : decode cX4_note 70 = .ok (.imul, 1) := dk_104 (dk_at dksX4_note_3 0 rfl rfl)
theorem dX4_note_71 : decode cX4_note 71 = .ok (.iadd, 1) := dk_96 (dk_at dksX4_note_3 1 rfl rfl)
theorem dX4_note_72 : decode cX4_note 72 = .ok (.istore 4, 2) := dk_54 4 (dk_at dksX4_note_3 2 rfl rfl)
theorem dX4_note_74 : decode cX4_note 74 = .ok (.aload_n 0, 1) := dk_42 (dk_at dksX4_note_3 4 rfl rfl)
theorem dX4_note_75 : decode cX4_note 75 = .ok (.getfield 39, 3) := dk_180 0 39 (dk_at dksX4_note_3 5 rfl rfl)
theorem dX4_note_78 : decode cX4_note 78 = .ok (.iload 4, 2) := dk_21 4 (dk_at dksX4_note_3 8 rfl rfl)
theorem dX4_note_80 : decode cX4_note 80 = .ok (.iload_n 1, 1) := dk_27 (dk_at dksX4_note_3 10 rfl rfl)
theorem dX4_note_81 : decode cX4_note 81 = .ok (.iastore, 1) := dk_79 (dk_at dksX4_note_3 11 rfl rfl)
theorem dX4_note_82 : decode cX4_note 82 = .ok (.aload_n 0, 1) := dk_42 (dk_at dksX4_note_3 12 rfl rfl)
theorem dX4_note_83 : decode cX4_note 83 = .ok (.getfield 39, 3) := dk_180 0 39 (dk_at dksX4_note_3 13 rfl rfl)
theorem dX4_note_86 : decode cX4_note 86 = .ok (.iload 4, 2) := dk_21 4 (dk_at dksX4_note_3 16 rfl rfl)
theorem dX4_note_88 : decode cX4_note 88 = .ok (.iconst 1, 1) := dk_4 (dk_at dksX4_note_3 18 rfl rfl)
theorem dX4_note_89 : decode cX4_note 89 = .ok (.iadd, 1) := dk_96 (dk_at dksX4_note_3 19 rfl rfl)
theorem dX4_note_90 : decode cX4_note 90 = .ok (.iload_n 2, 1) := dk_28 (dk_at dksX4_note_3 20 rfl rfl)
theorem dX4_note_91 : decode cX4_note 91 = .ok (.iastore, 1) := dk_79 (dk_at dksX4_note_3 21 rfl rfl)
theorem dX4_note_92 : decode cX4_note 92 = .ok (.aload_n 0, 1) := dk_42 (dk_at dksX4_note_3 22 rfl rfl)
theorem dX4_note_93 : decode cX4_note 93 = .ok (.getfield 39, 3) := dk_180 0 39 (dk_at dksX4_note_4 0 rfl rfl)
theorem dX4_note_96 : decode cX4_note 96 = .ok (.iload 4, 2) := dk_21 4 (dk_at dksX4_note_4 3 rfl rfl)
theorem dX4_note_98 : decode cX4_note 98 = .ok (.iconst 2, 1) := dk_5 (dk_at dksX4_note_4 5 rfl rfl)
theorem dX4_note_99 : decode cX4_note 99 = .ok (.iadd, 1) := dk_96 (dk_at dksX4_note_4 6 rfl rfl)
theorem dX4_note_100 : decode cX4_note 100 = .ok (.iload_n 3, 1) := dk_29 (dk_at dksX4_note_4 7 rfl rfl)
theorem dX4_note_101 : decode cX4_note 101 = .ok (.iastore, 1) := dk_79 (dk_at dksX4_note_4 8 rfl rfl)
theorem dX4_note_102 : decode cX4_note 102 = .ok (.aload_n 0, 1) := dk_42 (dk_at dksX4_note_4 9 rfl rfl)
theorem dX4_note_103 : decode cX4_note 103 = .ok (.getfield 39, 3) := dk_180 0 39 (dk_at dksX4_note_4 10 rfl rfl)
theorem dX4_note_106 : decode cX4_note 106 = .ok (.bipush 113, 2) := dk_16 113 (dk_at dksX4_note_4 13 rfl rfl)
theorem dX4_note_108 : decode cX4_note 108 = .ok (.dup2, 1) := dk_92 (dk_at dksX4_note_4 15 rfl rfl)
theorem dX4_note_109 : decode cX4_note 109 = .ok (.iaload, 1) := dk_46 (dk_at dksX4_note_4 16 rfl rfl)
theorem dX4_note_110 : decode cX4_note 110 = .ok (.iconst 1, 1) := dk_4 (dk_at dksX4_note_4 17 rfl rfl)
theorem dX4_note_111 : decode cX4_note 111 = .ok (.iadd, 1) := dk_96 (dk_at dksX4_note_4 18 rfl rfl)
theorem dX4_note_112 : decode cX4_note 112 = .ok (.iastore, 1) := dk_79 (dk_at dksX4_note_4 19 rfl rfl)
theorem dX4_note_113 : decode cX4_note 113 = .ok (.aload_n 0, 1) := dk_42 (dk_at dksX4_note_4 20 rfl rfl)
theorem dX4_note_114 : decode cX4_note 114 = .ok (.getfield 39, 3) := dk_180 0 39 (dk_at dksX4_note_4 21 rfl rfl)
theorem dX4_note_117 : decode cX4_note 117 = .ok (.bipush 113, 2) := dk_16 113 (dk_at dksX4_note_5 0 rfl rfl)
theorem dX4_note_119 : decode cX4_note 119 = .ok (.iaload, 1) := dk_46 (dk_at dksX4_note_5 2 rfl rfl)
theorem dX4_note_120 : decode cX4_note 120 = .ok (.ireturn, 1) := dk_172 (dk_at dksX4_note_5 3 rfl rfl)
abbrev cX4_ruled : ByteArray := prog_19_method_108_code
def yX4_ruled : MethodName := ⟨RX4, "ruled", "(I)I"⟩
def dkwX4_ruled_3 : List UInt8 := [154, 0, 7, 28, 167, 0, 4, 29, 172]
abbrev dktX4_ruled_3 : List UInt8 := dkwX4_ruled_3 ++ []
def dkwX4_ruled_2 : List UInt8 := [21, 4, 51, 154, 0, 6, 167, 0, 11, 21, 4, 4, 100, 62, 132, 2, 1, 132, 4, 255, 167, 255, 227, 27]
abbrev dktX4_ruled_2 : List UInt8 := dkwX4_ruled_2 ++ dktX4_ruled_3
def dkwX4_ruled_1 : List UInt8 := [182, 1, 197, 3, 61, 16, 254, 62, 42, 180, 1, 6, 54, 4, 21, 4, 155, 0, 30, 42, 180, 0, 67]
abbrev dktX4_ruled_1 : List UInt8 := dkwX4_ruled_1 ++ dktX4_ruled_2
def dkwX4_ruled_0 : List UInt8 := [42, 182, 1, 106, 153, 0, 13, 27, 133, 9, 10, 184, 0, 124, 154, 0, 6, 16, 253, 172, 42, 3]
abbrev dktX4_ruled_0 : List UInt8 := dkwX4_ruled_0 ++ dktX4_ruled_1
theorem dksX4_ruled_0 : cX4_ruled.data.toList.drop 0 = dktX4_ruled_0 := by decide +kernel
theorem dksX4_ruled_1 : cX4_ruled.data.toList.drop 22 = dktX4_ruled_1 := dk_seg dksX4_ruled_0 22 rfl rfl
theorem dksX4_ruled_2 : cX4_ruled.data.toList.drop 45 = dktX4_ruled_2 := dk_seg dksX4_ruled_1 23 rfl rfl
theorem dksX4_ruled_3 : cX4_ruled.data.toList.drop 69 = dktX4_ruled_3 := dk_seg dksX4_ruled_2 24 rfl rfl
theorem dX4_ruled_0 : decode cX4_ruled 0 = .ok (.aload_n 0, 1) := dk_42 (dk_at dksX4_ruled_0 0 rfl rfl)
theorem dX4_ruled_1 : decode cX4_ruled 1 = .ok (.invokevirtual 362, 3) := dk_182 1 106 (dk_at dksX4_ruled_0 1 rfl rfl)
theorem dX4_ruled_4 : decode cX4_ruled 4 = .ok (.ifCond .eq 13, 3) := dk_153 0 13 (dk_at dksX4_ruled_0 4 rfl rfl)
theorem dX4_ruled_7 : decode cX4_ruled 7 = .ok (.iload_n 1, 1) := dk_27 (dk_at dksX4_ruled_0 7 rfl rfl)
theorem dX4_ruled_8 : decode cX4_ruled 8 = .ok (.i2l, 1) := dk_133 (dk_at dksX4_ruled_0 8 rfl rfl)
theorem dX4_ruled_9 : decode cX4_ruled 9 = .ok (.lconst 0, 1) := dk_9 (dk_at dksX4_ruled_0 9 rfl rfl)
theorem dX4_ruled_10 : decode cX4_ruled 10 = .ok (.lconst 1, 1) := dk_10 (dk_at dksX4_ruled_0 10 rfl rfl)
theorem dX4_ruled_11 : decode cX4_ruled 11 = .ok (.invokestatic 124, 3) := dk_184 0 124 (dk_at dksX4_ruled_0 11 rfl rfl)
theorem dX4_ruled_14 : decode cX4_ruled 14 = .ok (.ifCond .ne 6, 3) := dk_154 0 6 (dk_at dksX4_ruled_0 14 rfl rfl)
theorem dX4_ruled_17 : decode cX4_ruled 17 = .ok (.bipush (-3), 2) := dk_16 253 (dk_at dksX4_ruled_0 17 rfl rfl)
theorem dX4_ruled_19 : decode cX4_ruled 19 = .ok (.ireturn, 1) := dk_172 (dk_at dksX4_ruled_0 19 rfl rfl)
theorem dX4_ruled_20 : decode cX4_ruled 20 = .ok (.aload_n 0, 1) := dk_42 (dk_at dksX4_ruled_0 20 rfl rfl)
theorem dX4_ruled_21 : decode cX4_ruled 21 = .ok (.iconst 0, 1) := dk_3 (dk_at dksX4_ruled_0 21 rfl rfl)
theorem dX4_ruled_22 : decode cX4_ruled 22 = .ok (.invokevirtual 453, 3) := dk_182 1 197 (dk_at dksX4_ruled_1 0 rfl rfl)
theorem dX4_ruled_25 : decode cX4_ruled 25 = .ok (.iconst 0, 1) := dk_3 (dk_at dksX4_ruled_1 3 rfl rfl)
theorem dX4_ruled_26 : decode cX4_ruled 26 = .ok (.istore_n 2, 1) := dk_61 (dk_at dksX4_ruled_1 4 rfl rfl)
theorem dX4_ruled_27 : decode cX4_ruled 27 = .ok (.bipush (-2), 2) := dk_16 254 (dk_at dksX4_ruled_1 5 rfl rfl)
theorem dX4_ruled_29 : decode cX4_ruled 29 = .ok (.istore_n 3, 1) := dk_62 (dk_at dksX4_ruled_1 7 rfl rfl)
theorem dX4_ruled_30 : decode cX4_ruled 30 = .ok (.aload_n 0, 1) := dk_42 (dk_at dksX4_ruled_1 8 rfl rfl)
theorem dX4_ruled_31 : decode cX4_ruled 31 = .ok (.getfield 262, 3) := dk_180 1 6 (dk_at dksX4_ruled_1 9 rfl rfl)
theorem dX4_ruled_34 : decode cX4_ruled 34 = .ok (.istore 4, 2) := dk_54 4 (dk_at dksX4_ruled_1 12 rfl rfl)
theorem dX4_ruled_36 : decode cX4_ruled 36 = .ok (.iload 4, 2) := dk_21 4 (dk_at dksX4_ruled_1 14 rfl rfl)
theorem dX4_ruled_38 : decode cX4_ruled 38 = .ok (.ifCond .lt 30, 3) := dk_155 0 30 (dk_at dksX4_ruled_1 16 rfl rfl)
theorem dX4_ruled_41 : decode cX4_ruled 41 = .ok (.aload_n 0, 1) := dk_42 (dk_at dksX4_ruled_1 19 rfl rfl)
theorem dX4_ruled_42 : decode cX4_ruled 42 = .ok (.getfield 67, 3) := dk_180 0 67 (dk_at dksX4_ruled_1 20 rfl rfl)
theorem dX4_ruled_45 : decode cX4_ruled 45 = .ok (.iload 4, 2) := dk_21 4 (dk_at dksX4_ruled_2 0 rfl rfl)
theorem dX4_ruled_47 : decode cX4_ruled 47 = .ok (.baload, 1) := dk_51 (dk_at dksX4_ruled_2 2 rfl rfl)
theorem dX4_ruled_48 : decode cX4_ruled 48 = .ok (.ifCond .ne 6, 3) := dk_154 0 6 (dk_at dksX4_ruled_2 3 rfl rfl)
theorem dX4_ruled_51 : decode cX4_ruled 51 = .ok (.goto 11, 3) := dk_167 0 11 (dk_at dksX4_ruled_2 6 rfl rfl)
theorem dX4_ruled_54 : decode cX4_ruled 54 = .ok (.iload 4, 2) := dk_21 4 (dk_at dksX4_ruled_2 9 rfl rfl)
theorem dX4_ruled_56 : decode cX4_ruled 56 = .ok (.iconst 1, 1) := dk_4 (dk_at dksX4_ruled_2 11 rfl rfl)
theorem dX4_ruled_57 : decode cX4_ruled 57 = .ok (.isub, 1) := dk_100 (dk_at dksX4_ruled_2 12 rfl rfl)
theorem dX4_ruled_58 : decode cX4_ruled 58 = .ok (.istore_n 3, 1) := dk_62 (dk_at dksX4_ruled_2 13 rfl rfl)
theorem dX4_ruled_59 : decode cX4_ruled 59 = .ok (.iinc 2 1, 3) := dk_132 2 1 (dk_at dksX4_ruled_2 14 rfl rfl)
theorem dX4_ruled_62 : decode cX4_ruled 62 = .ok (.iinc 4 (-1), 3) := dk_132 4 255 (dk_at dksX4_ruled_2 17 rfl rfl)
theorem dX4_ruled_65 : decode cX4_ruled 65 = .ok (.goto (-29), 3) := dk_167 255 227 (dk_at dksX4_ruled_2 20 rfl rfl)
theorem dX4_ruled_68 : decode cX4_ruled 68 = .ok (.iload_n 1, 1) := dk_27 (dk_at dksX4_ruled_2 23 rfl rfl)
theorem dX4_ruled_69 : decode cX4_ruled 69 = .ok (.ifCond .ne 7, 3) := dk_154 0 7 (dk_at dksX4_ruled_3 0 rfl rfl)
theorem dX4_ruled_72 : decode cX4_ruled 72 = .ok (.iload_n 2, 1) := dk_28 (dk_at dksX4_ruled_3 3 rfl rfl)
theorem dX4_ruled_73 : decode cX4_ruled 73 = .ok (.goto 4, 3) := dk_167 0 4 (dk_at dksX4_ruled_3 4 rfl rfl)
theorem dX4_ruled_76 : decode cX4_ruled 76 = .ok (.iload_n 3, 1) := dk_29 (dk_at dksX4_ruled_3 7 rfl rfl)
theorem dX4_ruled_77 : decode cX4_ruled 77 = .ok (.ireturn, 1) := dk_172 (dk_at dksX4_ruled_3 8 rfl rfl)
abbrev cX4_fillsFits : ByteArray := prog_19_method_107_code
def yX4_fillsFits : MethodName := ⟨RX4, "fillsFits", "(I)V"⟩
def dkwX4_fillsFits_2 : List UInt8 := [167, 255, 222, 42, 28, 181, 0, 42, 42, 182, 1, 166, 177]
abbrev dktX4_fillsFits_2 : List UInt8 := dkwX4_fillsFits_2 ++ []
def dkwX4_fillsFits_1 : List UInt8 := [181, 0, 42, 42, 182, 1, 12, 42, 180, 0, 67, 29, 42, 29, 27, 182, 1, 194, 84, 132, 3, 1]
abbrev dktX4_fillsFits_1 : List UInt8 := dkwX4_fillsFits_1 ++ dktX4_fillsFits_2
def dkwX4_fillsFits_0 : List UInt8 := [42, 180, 0, 42, 61, 42, 182, 1, 160, 3, 62, 29, 42, 180, 1, 6, 163, 0, 32, 42, 29, 4, 100]
abbrev dktX4_fillsFits_0 : List UInt8 := dkwX4_fillsFits_0 ++ dktX4_fillsFits_1
theorem dksX4_fillsFits_0 : cX4_fillsFits.data.toList.drop 0 = dktX4_fillsFits_0 := by decide +kernel
theorem dksX4_fillsFits_1 : cX4_fillsFits.data.toList.drop 23 = dktX4_fillsFits_1 := dk_seg dksX4_fillsFits_0 23 rfl rfl
theorem dksX4_fillsFits_2 : cX4_fillsFits.data.toList.drop 45 = dktX4_fillsFits_2 := dk_seg dksX4_fillsFits_1 22 rfl rfl
theorem dX4_fillsFits_0 : decode cX4_fillsFits 0 = .ok (.aload_n 0, 1) := dk_42 (dk_at dksX4_fillsFits_0 0 rfl rfl)
theorem dX4_fillsFits_1 : decode cX4_fillsFits 1 = .ok (.getfield 42, 3) := dk_180 0 42 (dk_at dksX4_fillsFits_0 1 rfl rfl)
theorem dX4_fillsFits_4 : decode cX4_fillsFits 4 = .ok (.istore_n 2, 1) := dk_61 (dk_at dksX4_fillsFits_0 4 rfl rfl)
theorem dX4_fillsFits_5 : decode cX4_fillsFits 5 = .ok (.aload_n 0, 1) := dk_42 (dk_at dksX4_fillsFits_0 5 rfl rfl)
theorem dX4_fillsFits_6 : decode cX4_fillsFits 6 = .ok (.invokevirtual 416, 3) := dk_182 1 160 (dk_at dksX4_fillsFits_0 6 rfl rfl)
theorem dX4_fillsFits_9 : decode cX4_fillsFits 9 = .ok (.iconst 0, 1) := dk_3 (dk_at dksX4_fillsFits_0 9 rfl rfl)
theorem dX4_fillsFits_10 : decode cX4_fillsFits 10 = .ok (.istore_n 3, 1) := dk_62 (dk_at dksX4_fillsFits_0 10 rfl rfl)
theorem dX4_fillsFits_11 : decode cX4_fillsFits 11 = .ok (.iload_n 3, 1) := dk_29 (dk_at dksX4_fillsFits_0 11 rfl rfl)
theorem dX4_fillsFits_12 : decode cX4_fillsFits 12 = .ok (.aload_n 0, 1) := dk_42 (dk_at dksX4_fillsFits_0 12 rfl rfl)
theorem dX4_fillsFits_13 : decode cX4_fillsFits 13 = .ok (.getfield 262, 3) := dk_180 1 6 (dk_at dksX4_fillsFits_0 13 rfl rfl)
theorem dX4_fillsFits_16 : decode cX4_fillsFits 16 = .ok (.if_icmp .gt 32, 3) := dk_163 0 32 (dk_at dksX4_fillsFits_0 16 rfl rfl)
theorem dX4_fillsFits_19 : decode cX4_fillsFits 19 = .ok (.aload_n 0, 1) := dk_42 (dk_at dksX4_fillsFits_0 19 rfl rfl)
theorem dX4_fillsFits_20 : decode cX4_fillsFits 20 = .ok (.iload_n 3, 1) := dk_29 (dk_at dksX4_fillsFits_0 20 rfl rfl)
theorem dX4_fillsFits_21 : decode cX4_fillsFits 21 = .ok (.iconst 1, 1) := dk_4 (dk_at dksX4_fillsFits_0 21 rfl rfl)
theorem dX4_fillsFits_22 : decode cX4_fillsFits 22 = .ok (.isub, 1) := dk_100 (dk_at dksX4_fillsFits_0 22 rfl rfl)
theorem dX4_fillsFits_23 : decode cX4_fillsFits 23 = .ok (.putfield 42, 3) := dk_181 0 42 (dk_at dksX4_fillsFits_1 0 rfl rfl)
theorem dX4_fillsFits_26 : decode cX4_fillsFits 26 = .ok (.aload_n 0, 1) := dk_42 (dk_at dksX4_fillsFits_1 3 rfl rfl)
theorem dX4_fillsFits_27 : decode cX4_fillsFits 27 = .ok (.invokevirtual 268, 3) := dk_182 1 12 (dk_at dksX4_fillsFits_1 4 rfl rfl)
theorem dX4_fillsFits_30 : decode cX4_fillsFits 30 = .ok (.aload_n 0, 1) := dk_42 (dk_at dksX4_fillsFits_1 7 rfl rfl)
theorem dX4_fillsFits_31 : decode cX4_fillsFits 31 = .ok (.getfield 67, 3) := dk_180 0 67 (dk_at dksX4_fillsFits_1 8 rfl rfl)
theorem dX4_fillsFits_34 : decode cX4_fillsFits 34 = .ok (.iload_n 3, 1) := dk_29 (dk_at dksX4_fillsFits_1 11 rfl rfl)
theorem dX4_fillsFits_35 : decode cX4_fillsFits 35 = .ok (.aload_n 0, 1) := dk_42 (dk_at dksX4_fillsFits_1 12 rfl rfl)
theorem dX4_fillsFits_36 : decode cX4_fillsFits 36 = .ok (.iload_n 3, 1) := dk_29 (dk_at dksX4_fillsFits_1 13 rfl rfl)
theorem dX4_fillsFits_37 : decode cX4_fillsFits 37 = .ok (.iload_n 1, 1) := dk_27 (dk_at dksX4_fillsFits_1 14 rfl rfl)
theorem dX4_fillsFits_38 : decode cX4_fillsFits 38 = .ok (.invokevirtual 450, 3) := dk_182 1 194 (dk_at dksX4_fillsFits_1 15 rfl rfl)
theorem dX4_fillsFits_41 : decode cX4_fillsFits 41 = .ok (.bastore, 1) := dk_84 (dk_at dksX4_fillsFits_1 18 rfl rfl)
theorem dX4_fillsFits_42 : decode cX4_fillsFits 42 = .ok (.iinc 3 1, 3) := dk_132 3 1 (dk_at dksX4_fillsFits_1 19 rfl rfl)
theorem dX4_fillsFits_45 : decode cX4_fillsFits 45 = .ok (.goto (-34), 3) := dk_167 255 222 (dk_at dksX4_fillsFits_2 0 rfl rfl)
theorem dX4_fillsFits_48 : decode cX4_fillsFits 48 = .ok (.aload_n 0, 1) := dk_42 (dk_at dksX4_fillsFits_2 3 rfl rfl)
theorem dX4_fillsFits_49 : decode cX4_fillsFits 49 = .ok (.iload_n 2, 1) := dk_28 (dk_at dksX4_fillsFits_2 4 rfl rfl)
theorem dX4_fillsFits_50 : decode cX4_fillsFits 50 = .ok (.putfield 42, 3) := dk_181 0 42 (dk_at dksX4_fillsFits_2 5 rfl rfl)
theorem dX4_fillsFits_53 : decode cX4_fillsFits 53 = .ok (.aload_n 0, 1) := dk_42 (dk_at dksX4_fillsFits_2 8 rfl rfl)
theorem dX4_fillsFits_54 : decode cX4_fillsFits 54 = .ok (.invokevirtual 422, 3) := dk_182 1 166 (dk_at dksX4_fillsFits_2 9 rfl rfl)
theorem dX4_fillsFits_57 : decode cX4_fillsFits 57 = .ok (.return_, 1) := dk_177 (dk_at dksX4_fillsFits_2 12 rfl rfl)
abbrev cX4_areAllSo : ByteArray := prog_19_method_106_code
def yX4_areAllSo : MethodName := ⟨RX4, "areAllSo", "(II)Z"⟩
def dkwX4_areAllSo_2 : List UInt8 := [182, 1, 71, 79, 132, 4, 1, 167, 255, 206, 29, 172]
abbrev dktX4_areAllSo_2 : List UInt8 := dkwX4_areAllSo_2 ++ []
def dkwX4_areAllSo_1 : List UInt8 := [182, 1, 191, 153, 0, 7, 4, 167, 0, 4, 3, 62, 21, 4, 28, 160, 0, 13, 42, 180, 0, 71, 27, 42]
abbrev dktX4_areAllSo_1 : List UInt8 := dkwX4_areAllSo_1 ++ dktX4_areAllSo_2
def dkwX4_areAllSo_0 : List UInt8 := [4, 62, 3, 54, 4, 21, 4, 16, 60, 163, 0, 49, 42, 182, 1, 103, 87, 29, 153, 0, 16, 42, 21, 4]
abbrev dktX4_areAllSo_0 : List UInt8 := dkwX4_areAllSo_0 ++ dktX4_areAllSo_1
theorem dksX4_areAllSo_0 : cX4_areAllSo.data.toList.drop 0 = dktX4_areAllSo_0 := by decide +kernel
theorem dksX4_areAllSo_1 : cX4_areAllSo.data.toList.drop 24 = dktX4_areAllSo_1 := dk_seg dksX4_areAllSo_0 24 rfl rfl
theorem dksX4_areAllSo_2 : cX4_areAllSo.data.toList.drop 48 = dktX4_areAllSo_2 := dk_seg dksX4_areAllSo_1 24 rfl rfl
theorem dX4_areAllSo_0 : decode cX4_areAllSo 0 = .ok (.iconst 1, 1) := dk_4 (dk_at dksX4_areAllSo_0 0 rfl rfl)
theorem dX4_areAllSo_1 : decode cX4_areAllSo 1 = .ok (.istore_n 3, 1) := dk_62 (dk_at dksX4_areAllSo_0 1 rfl rfl)
theorem dX4_areAllSo_2 : decode cX4_areAllSo 2 = .ok (.iconst 0, 1) := dk_3 (dk_at dksX4_areAllSo_0 2 rfl rfl)
theorem dX4_areAllSo_3 : decode cX4_areAllSo 3 = .ok (.istore 4, 2) := dk_54 4 (dk_at dksX4_areAllSo_0 3 rfl rfl)
theorem dX4_areAllSo_5 : decode cX4_areAllSo 5 = .ok (.iload 4, 2) := dk_21 4 (dk_at dksX4_areAllSo_0 5 rfl rfl)
theorem dX4_areAllSo_7 : decode cX4_areAllSo 7 = .ok (.bipush 60, 2) := dk_16 60 (dk_at dksX4_areAllSo_0 7 rfl rfl)
theorem dX4_areAllSo_9 : decode cX4_areAllSo 9 = .ok (.if_icmp .gt 49, 3) := dk_163 0 49 (dk_at dksX4_areAllSo_0 9 rfl rfl)
theorem dX4_areAllSo_12 : decode cX4_areAllSo 12 = .ok (.aload_n 0, 1) := dk_42 (dk_at dksX4_areAllSo_0 12 rfl rfl)
theorem dX4_areAllSo_13 : decode cX4_areAllSo 13 = .ok (.invokevirtual 359, 3) := dk_182 1 103 (dk_at dksX4_areAllSo_0 13 rfl rfl)
theorem dX4_areAllSo_16 : decode cX4_areAllSo 16 = .ok (.pop, 1) := dk_87 (dk_at dksX4_areAllSo_0 16 rfl rfl)
theorem dX4_areAllSo_17 : decode cX4_areAllSo 17 = .ok (.iload_n 3, 1) := dk_29 (dk_at dksX4_areAllSo_0 17 rfl rfl)
theorem dX4_areAllSo_18 : decode cX4_areAllSo 18 = .ok (.ifCond .eq 16, 3) := dk_153 0 16 (dk_at dksX4_areAllSo_0 18 rfl rfl)
theorem dX4_areAllSo_21 : decode cX4_areAllSo 21 = .ok (.aload_n 0, 1) := dk_42 (dk_at dksX4_areAllSo_0 21 rfl rfl)
theorem dX4_areAllSo_22 : decode cX4_areAllSo 22 = .ok (.iload 4, 2) := dk_21 4 (dk_at dksX4_areAllSo_0 22 rfl rfl)
theorem dX4_areAllSo_24 : decode cX4_areAllSo 24 = .ok (.invokevirtual 447, 3) := dk_182 1 191 (dk_at dksX4_areAllSo_1 0 rfl rfl)
theorem dX4_areAllSo_27 : decode cX4_areAllSo 27 = .ok (.ifCond .eq 7, 3) := dk_153 0 7 (dk_at dksX4_areAllSo_1 3 rfl rfl)
theorem dX4_areAllSo_30 : decode cX4_areAllSo 30 = .ok (.iconst 1, 1) := dk_4 (dk_at dksX4_areAllSo_1 6 rfl rfl)
theorem dX4_areAllSo_31 : decode cX4_areAllSo 31 = .ok (.goto 4, 3) := dk_167 0 4 (dk_at dksX4_areAllSo_1 7 rfl rfl)
theorem dX4_areAllSo_34 : decode cX4_areAllSo 34 = .ok (.iconst 0, 1) := dk_3 (dk_at dksX4_areAllSo_1 10 rfl rfl)
theorem dX4_areAllSo_35 : decode cX4_areAllSo 35 = .ok (.istore_n 3, 1) := dk_62 (dk_at dksX4_areAllSo_1 11 rfl rfl)
theorem dX4_areAllSo_36 : decode cX4_areAllSo 36 = .ok (.iload 4, 2) := dk_21 4 (dk_at dksX4_areAllSo_1 12 rfl rfl)
theorem dX4_areAllSo_38 : decode cX4_areAllSo 38 = .ok (.iload_n 2, 1) := dk_28 (dk_at dksX4_areAllSo_1 14 rfl rfl)
theorem dX4_areAllSo_39 : decode cX4_areAllSo 39 = .ok (.if_icmp .ne 13, 3) := dk_160 0 13 (dk_at dksX4_areAllSo_1 15 rfl rfl)
theorem dX4_areAllSo_42 : decode cX4_areAllSo 42 = .ok (.aload_n 0, 1) := dk_42 (dk_at dksX4_areAllSo_1 18 rfl rfl)
theorem dX4_areAllSo_43 : decode cX4_areAllSo 43 = .ok (.getfield 71, 3) := dk_180 0 71 (dk_at dksX4_areAllSo_1 19 rfl rfl)
theorem dX4_areAllSo_46 : decode cX4_areAllSo 46 = .ok (.iload_n 1, 1) := dk_27 (dk_at dksX4_areAllSo_1 22 rfl rfl)
theorem dX4_areAllSo_47 : decode cX4_areAllSo 47 = .ok (.aload_n 0, 1) := dk_42 (dk_at dksX4_areAllSo_1 23 rfl rfl)
theorem dX4_areAllSo_48 : decode cX4_areAllSo 48 = .ok (.invokevirtual 327, 3) := dk_182 1 71 (dk_at dksX4_areAllSo_2 0 rfl rfl)
theorem dX4_areAllSo_51 : decode cX4_areAllSo 51 = .ok (.iastore, 1) := dk_79 (dk_at dksX4_areAllSo_2 3 rfl rfl)
theorem dX4_areAllSo_52 : decode cX4_areAllSo 52 = .ok (.iinc 4 1, 3) := dk_132 4 1 (dk_at dksX4_areAllSo_2 4 rfl rfl)
theorem dX4_areAllSo_55 : decode cX4_areAllSo 55 = .ok (.goto (-50), 3) := dk_167 255 206 (dk_at dksX4_areAllSo_2 7 rfl rfl)
theorem dX4_areAllSo_58 : decode cX4_areAllSo 58 = .ok (.iload_n 3, 1) := dk_29 (dk_at dksX4_areAllSo_2 10 rfl rfl)
theorem dX4_areAllSo_59 : decode cX4_areAllSo 59 = .ok (.ireturn, 1) := dk_172 (dk_at dksX4_areAllSo_2 11 rfl rfl)
abbrev cX4_areNotesSo : ByteArray := prog_19_method_105_code
def yX4_areNotesSo : MethodName := ⟨RX4, "areNotesSo", "(I)Z"⟩
def dkwX4_areNotesSo_2 : List UInt8 := [16, 83, 28, 96, 5, 96, 46, 159, 0, 5, 3, 172, 132, 2, 3, 167, 255, 195, 4, 172]
abbrev dktX4_areNotesSo_2 : List UInt8 := dkwX4_areNotesSo_2 ++ []
def dkwX4_areNotesSo_1 : List UInt8 := [27, 160, 0, 35, 42, 42, 180, 0, 39, 16, 83, 28, 96, 4, 96, 46, 7, 182, 1, 36, 42, 180, 0, 39]
abbrev dktX4_areNotesSo_1 : List UInt8 := dkwX4_areNotesSo_1 ++ dktX4_areNotesSo_2
def dkwX4_areNotesSo_0 : List UInt8 := [3, 61, 28, 6, 42, 180, 0, 39, 16, 113, 46, 104, 162, 0, 54, 42, 180, 0, 39, 16, 83, 28, 96, 46]
abbrev dktX4_areNotesSo_0 : List UInt8 := dkwX4_areNotesSo_0 ++ dktX4_areNotesSo_1
theorem dksX4_areNotesSo_0 : cX4_areNotesSo.data.toList.drop 0 = dktX4_areNotesSo_0 := by decide +kernel
theorem dksX4_areNotesSo_1 : cX4_areNotesSo.data.toList.drop 24 = dktX4_areNotesSo_1 := dk_seg dksX4_areNotesSo_0 24 rfl rfl
theorem dksX4_areNotesSo_2 : cX4_areNotesSo.data.toList.drop 48 = dktX4_areNotesSo_2 := dk_seg dksX4_areNotesSo_1 24 rfl rfl
theorem dX4_areNotesSo_0 : decode cX4_areNotesSo 0 = .ok (.iconst 0, 1) := dk_3 (dk_at dksX4_areNotesSo_0 0 rfl rfl)
theorem dX4_areNotesSo_1 : decode cX4_areNotesSo 1 = .ok (.istore_n 2, 1) := dk_61 (dk_at dksX4_areNotesSo_0 1 rfl rfl)
theorem dX4_areNotesSo_2 : decode cX4_areNotesSo 2 = .ok (.iload_n 2, 1) := dk_28 (dk_at dksX4_areNotesSo_0 2 rfl rfl)
theorem dX4_areNotesSo_3 : decode cX4_areNotesSo 3 = .ok (.iconst 3, 1) := dk_6 (dk_at dksX4_areNotesSo_0 3 rfl rfl)
theorem dX4_areNotesSo_4 : decode cX4_areNotesSo 4 = .ok (.aload_n 0, 1) := dk_42 (dk_at dksX4_areNotesSo_0 4 rfl rfl)
theorem dX4_areNotesSo_5 : decode cX4_areNotesSo 5 = .ok (.getfield 39, 3) := dk_180 0 39 (dk_at dksX4_areNotesSo_0 5 rfl rfl)
theorem dX4_areNotesSo_8 : decode cX4_areNotesSo 8 = .ok (.bipush 113, 2) := dk_16 113 (dk_at dksX4_areNotesSo_0 8 rfl rfl)
theorem dX4_areNotesSo_10 : decode cX4_areNotesSo 10 = .ok (.iaload, 1) := dk_46 (dk_at dksX4_areNotesSo_0 10 rfl rfl)
theorem dX4_areNotesSo_11 : decode cX4_areNotesSo 11 = .ok (.imul, 1) := dk_104 (dk_at dksX4_areNotesSo_0 11 rfl rfl)
theorem dX4_areNotesSo_12 : decode cX4_areNotesSo 12 = .ok (.if_icmp .ge 54, 3) := dk_162 0 54 (dk_at dksX4_areNotesSo_0 12 rfl rfl)
theorem dX4_areNotesSo_15 : decode cX4_areNotesSo 15 = .ok (.aload_n 0, 1) := dk_42 (dk_at dksX4_areNotesSo_0 15 rfl rfl)
theorem dX4_areNotesSo_16 : decode cX4_areNotesSo 16 = .ok (.getfield 39, 3) := dk_180 0 39 (dk_at dksX4_areNotesSo_0 16 rfl rfl)
theorem dX4_areNotesSo_19 : decode cX4_areNotesSo 19 = .ok (.bipush 83, 2) := dk_16 83 (dk_at dksX4_areNotesSo_0 19 rfl rfl)
theorem dX4_areNotesSo_21 : decode cX4_areNotesSo 21 = .ok (.iload_n 2, 1) := dk_28 (dk_at dksX4_areNotesSo_0 21 rfl rfl)
theorem dX4_areNotesSo_22 : decode cX4_areNotesSo 22 = .ok (.iadd, 1) := dk_96 (dk_at dksX4_areNotesSo_0 22 rfl rfl)
theorem dX4_areNotesSo_23 : decode cX4_areNotesSo 23 = .ok (.iaload, 1) := dk_46 (dk_at dksX4_areNotesSo_0 23 rfl rfl)
theorem dX4_areNotesSo_24 : decode cX4_areNotesSo 24 = .ok (.iload_n 1, 1) := dk_27 (dk_at dksX4_areNotesSo_1 0 rfl rfl)
theorem dX4_areNotesSo_25 : decode cX4_areNotesSo 25 = .ok (.if_icmp .ne 35, 3) := dk_160 0 35 (dk_at dksX4_areNotesSo_1 1 rfl rfl)
theorem dX4_areNotesSo_28 : decode cX4_areNotesSo 28 = .ok (.aload_n 0, 1) := dk_42 (dk_at dksX4_areNotesSo_1 4 rfl rfl)
theorem dX4_areNotesSo_29 : decode cX4_areNotesSo 29 = .ok (.aload_n 0, 1) := dk_42 (dk_at dksX4_areNotesSo_1 5 rfl rfl)
theorem dX4_areNotesSo_30 : decode cX4_areNotesSo 30 = .ok (.getfield 39, 3) := dk_180 0 39 (dk_at dksX4_areNotesSo_1 6 rfl rfl)
theorem dX4_areNotesSo_33 : decode cX4_areNotesSo 33 = .ok (.bipush 83, 2) := dk_16 83 (dk_at dksX4_areNotesSo_1 9 rfl rfl)
theorem dX4_areNotesSo_35 : decode cX4_areNotesSo 35 = .ok (.iload_n 2, 1) := dk_28 (dk_at dksX4_areNotesSo_1 11 rfl rfl)
theorem dX4_areNotesSo_36 : decode cX4_areNotesSo 36 = .ok (.iadd, 1) := dk_96 (dk_at dksX4_areNotesSo_1 12 rfl rfl)
theorem dX4_areNotesSo_37 : decode cX4_areNotesSo 37 = .ok (.iconst 1, 1) := dk_4 (dk_at dksX4_areNotesSo_1 13 rfl rfl)
theorem dX4_areNotesSo_38 : decode cX4_areNotesSo 38 = .ok (.iadd, 1) := dk_96 (dk_at dksX4_areNotesSo_1 14 rfl rfl)
theorem dX4_areNotesSo_39 : decode cX4_areNotesSo 39 = .ok (.iaload, 1) := dk_46 (dk_at dksX4_areNotesSo_1 15 rfl rfl)
theorem dX4_areNotesSo_40 : decode cX4_areNotesSo 40 = .ok (.iconst 4, 1) := dk_7 (dk_at dksX4_areNotesSo_1 16 rfl rfl)
theorem dX4_areNotesSo_41 : decode cX4_areNotesSo 41 = .ok (.invokevirtual 292, 3) := dk_182 1 36 (dk_at dksX4_areNotesSo_1 17 rfl rfl)
theorem dX4_areNotesSo_44 : decode cX4_areNotesSo 44 = .ok (.aload_n 0, 1) := dk_42 (dk_at dksX4_areNotesSo_1 20 rfl rfl)
theorem dX4_areNotesSo_45 : decode cX4_areNotesSo 45 = .ok (.getfield 39, 3) := dk_180 0 39 (dk_at dksX4_areNotesSo_1 21 rfl rfl)
theorem dX4_areNotesSo_48 : decode cX4_areNotesSo 48 = .ok (.bipush 83, 2) := dk_16 83 (dk_at dksX4_areNotesSo_2 0 rfl rfl)
theorem dX4_areNotesSo_50 : decode cX4_areNotesSo 50 = .ok (.iload_n 2, 1) := dk_28 (dk_at dksX4_areNotesSo_2 2 rfl rfl)
theorem dX4_areNotesSo_51 : decode cX4_areNotesSo 51 = .ok (.iadd, 1) := dk_96 (dk_at dksX4_areNotesSo_2 3 rfl rfl)
theorem dX4_areNotesSo_52 : decode cX4_areNotesSo 52 = .ok (.iconst 2, 1) := dk_5 (dk_at dksX4_areNotesSo_2 4 rfl rfl)
theorem dX4_areNotesSo_53 : decode cX4_areNotesSo 53 = .ok (.iadd, 1) := dk_96 (dk_at dksX4_areNotesSo_2 5 rfl rfl)
theorem dX4_areNotesSo_54 : decode cX4_areNotesSo 54 = .ok (.iaload, 1) := dk_46 (dk_at dksX4_areNotesSo_2 6 rfl rfl)
theorem dX4_areNotesSo_55 : decode cX4_areNotesSo 55 = .ok (.if_icmp .eq 5, 3) := dk_159 0 5 (dk_at dksX4_areNotesSo_2 7 rfl rfl)
theorem dX4_areNotesSo_58 : decode cX4_areNotesSo 58 = .ok (.iconst 0, 1) := dk_3 (dk_at dksX4_areNotesSo_2 10 rfl rfl)
theorem dX4_areNotesSo_59 : decode cX4_areNotesSo 59 = .ok (.ireturn, 1) := dk_172 (dk_at dksX4_areNotesSo_2 11 rfl rfl)
theorem dX4_areNotesSo_60 : decode cX4_areNotesSo 60 = .ok (.iinc 2 3, 3) := dk_132 2 3 (dk_at dksX4_areNotesSo_2 12 rfl rfl)
theorem dX4_areNotesSo_63 : decode cX4_areNotesSo 63 = .ok (.goto (-61), 3) := dk_167 255 195 (dk_at dksX4_areNotesSo_2 15 rfl rfl)
theorem dX4_areNotesSo_66 : decode cX4_areNotesSo 66 = .ok (.iconst 1, 1) := dk_4 (dk_at dksX4_areNotesSo_2 18 rfl rfl)
theorem dX4_areNotesSo_67 : decode cX4_areNotesSo 67 = .ok (.ireturn, 1) := dk_172 (dk_at dksX4_areNotesSo_2 19 rfl rfl)
abbrev cX4_look : ByteArray := prog_19_method_110_code
def yX4_look : MethodName := ⟨RX4, "look", "(II)I"⟩
def dkwX4_look_4 : List UInt8 := [167, 255, 208, 28, 154, 0, 7, 29, 167, 0, 5, 21, 4, 172]
abbrev dktX4_look_4 : List UInt8 := dkwX4_look_4 ++ []
def dkwX4_look_3 : List UInt8 := [29, 155, 0, 13, 21, 6, 21, 4, 161, 0, 6, 167, 0, 10, 21, 5, 62, 21, 6, 54, 4, 132, 5, 1]
abbrev dktX4_look_3 : List UInt8 := dkwX4_look_3 ++ dktX4_look_4
def dkwX4_look_2 : List UInt8 := [21, 5, 42, 180, 0, 39, 5, 46, 162, 0, 43, 42, 21, 5, 182, 1, 200, 54, 6, 21, 6, 153, 0, 24]
abbrev dktX4_look_2 : List UInt8 := dkwX4_look_2 ++ dktX4_look_3
def dkwX4_look_1 : List UInt8 := [184, 0, 124, 154, 0, 5, 2, 172, 42, 27, 182, 1, 197, 16, 254, 62, 16, 254, 54, 4, 3, 54, 5]
abbrev dktX4_look_1 : List UInt8 := dkwX4_look_1 ++ dktX4_look_2
def dkwX4_look_0 : List UInt8 := [42, 182, 1, 106, 153, 0, 25, 27, 133, 9, 20, 1, 189, 184, 0, 124, 153, 0, 13, 28, 133, 9, 10]
abbrev dktX4_look_0 : List UInt8 := dkwX4_look_0 ++ dktX4_look_1
theorem dksX4_look_0 : cX4_look.data.toList.drop 0 = dktX4_look_0 := by decide +kernel
theorem dksX4_look_1 : cX4_look.data.toList.drop 23 = dktX4_look_1 := dk_seg dksX4_look_0 23 rfl rfl
theorem dksX4_look_2 : cX4_look.data.toList.drop 46 = dktX4_look_2 := dk_seg dksX4_look_1 23 rfl rfl
theorem dksX4_look_3 : cX4_look.data.toList.drop 70 = dktX4_look_3 := dk_seg dksX4_look_2 24 rfl rfl
theorem dksX4_look_4 : cX4_look.data.toList.drop 94 = dktX4_look_4 := dk_seg dksX4_look_3 24 rfl rfl
theorem dX4_look_0 : decode cX4_look 0 = .ok (.aload_n 0, 1) := dk_42 (dk_at dksX4_look_0 0 rfl rfl)
theorem dX4_look_1 : decode cX4_look 1 = .ok (.invokevirtual 362, 3) := dk_182 1 106 (dk_at dksX4_look_0 1 rfl rfl)
theorem dX4_look_4 : decode cX4_look 4 = .ok (.ifCond .eq 25, 3) := dk_153 0 25 (dk_at dksX4_look_0 4 rfl rfl)
theorem dX4_look_7 : decode cX4_look 7 = .ok (.iload_n 1, 1) := dk_27 (dk_at dksX4_look_0 7 rfl rfl)
theorem dX4_look_8 : decode cX4_look 8 = .ok (.i2l, 1) := dk_133 (dk_at dksX4_look_0 8 rfl rfl)
theorem dX4_look_9 : decode cX4_look 9 = .ok (.lconst 0, 1) := dk_9 (dk_at dksX4_look_0 9 rfl rfl)
theorem dX4_look_10 : decode cX4_look 10 = .ok (.ldc2_w 445, 3) := dk_20 1 189 (dk_at dksX4_look_0 10 rfl rfl)
theorem dX4_look_13 : decode cX4_look 13 = .ok (.invokestatic 124, 3) := dk_184 0 124 (dk_at dksX4_look_0 13 rfl rfl)
theorem dX4_look_16 : decode cX4_look 16 = .ok (.ifCond .eq 13, 3) := dk_153 0 13 (dk_at dksX4_look_0 16 rfl rfl)
theorem dX4_look_19 : decode cX4_look 19 = .ok (.iload_n 2, 1) := dk_28 (dk_at dksX4_look_0 19 rfl rfl)
theorem dX4_look_20 : decode cX4_look 20 = .ok (.i2l, 1) := dk_133 (dk_at dksX4_look_0 20 rfl rfl)
theorem dX4_look_21 : decode cX4_look 21 = .ok (.lconst 0, 1) := dk_9 (dk_at dksX4_look_0 21 rfl rfl)
theorem dX4_look_22 : decode cX4_look 22 = .ok (.lconst 1, 1) := dk_10 (dk_at dksX4_look_0 22 rfl rfl)
theorem dX4_look_23 : decode cX4_look 23 = .ok (.invokestatic 124, 3) := dk_184 0 124 (dk_at dksX4_look_1 0 rfl rfl)
theorem dX4_look_26 : decode cX4_look 26 = .ok (.ifCond .ne 5, 3) := dk_154 0 5 (dk_at dksX4_look_1 3 rfl rfl)
theorem dX4_look_29 : decode cX4_look 29 = .ok (.iconst (-1), 1) := dk_2 (dk_at dksX4_look_1 6 rfl rfl)
theorem dX4_look_30 : decode cX4_look 30 = .ok (.ireturn, 1) := dk_172 (dk_at dksX4_look_1 7 rfl rfl)
theorem dX4_look_31 : decode cX4_look 31 = .ok (.aload_n 0, 1) := dk_42 (dk_at dksX4_look_1 8 rfl rfl)
theorem dX4_look_32 : decode cX4_look 32 = .ok (.iload_n 1, 1) := dk_27 (dk_at dksX4_look_1 9 rfl rfl)
theorem dX4_look_33 : decode cX4_look 33 = .ok (.invokevirtual 453, 3) := dk_182 1 197 (dk_at dksX4_look_1 10 rfl rfl)
theorem dX4_look_36 : decode cX4_look 36 = .ok (.bipush (-2), 2) := dk_16 254 (dk_at dksX4_look_1 13 rfl rfl)
theorem dX4_look_38 : decode cX4_look 38 = .ok (.istore_n 3, 1) := dk_62 (dk_at dksX4_look_1 15 rfl rfl)
theorem dX4_look_39 : decode cX4_look 39 = .ok (.bipush (-2), 2) := dk_16 254 (dk_at dksX4_look_1 16 rfl rfl)
theorem dX4_look_41 : decode cX4_look 41 = .ok (.istore 4, 2) := dk_54 4 (dk_at dksX4_look_1 18 rfl rfl)
theorem dX4_look_43 : decode cX4_look 43 = .ok (.iconst 0, 1) := dk_3 (dk_at dksX4_look_1 20 rfl rfl)
theorem dX4_look_44 : decode cX4_look 44 = .ok (.istore 5, 2) := dk_54 5 (dk_at dksX4_look_1 21 rfl rfl)
theorem dX4_look_46 : decode cX4_look 46 = .ok (.iload 5, 2) := dk_21 5 (dk_at dksX4_look_2 0 rfl rfl)
theorem dX4_look_48 : decode cX4_look 48 = .ok (.aload_n 0, 1) := dk_42 (dk_at dksX4_look_2 2 rfl rfl)
theorem dX4_look_49 : decode cX4_look 49 = .ok (.getfield 39, 3) := dk_180 0 39 (dk_at dksX4_look_2 3 rfl rfl)
theorem dX4_look_52 : decode cX4_look 52 = .ok (.iconst 2, 1) := dk_5 (dk_at dksX4_look_2 6 rfl rfl)
theorem dX4_look_53 : decode cX4_look 53 = .ok (.iaload, 1) := dk_46 (dk_at dksX4_look_2 7 rfl rfl)
theorem dX4_look_54 : decode cX4_look 54 = .ok (.if_icmp .ge 43, 3) := dk_162 0 43 (dk_at dksX4_look_2 8 rfl rfl)
theorem dX4_look_57 : decode cX4_look 57 = .ok (.aload_n 0, 1) := dk_42 (dk_at dksX4_look_2 11 rfl rfl)
theorem dX4_look_58 : decode cX4_look 58 = .ok (.iload 5, 2) := dk_21 5 (dk_at dksX4_look_2 12 rfl rfl)
theorem dX4_look_60 : decode cX4_look 60 = .ok (.invokevirtual 456, 3) := dk_182 1 200 (dk_at dksX4_look_2 14 rfl rfl)
theorem dX4_look_63 : decode cX4_look 63 = .ok (.istore 6, 2) := dk_54 6 (dk_at dksX4_look_2 17 rfl rfl)
theorem dX4_look_65 : decode cX4_look 65 = .ok (.iload 6, 2) := dk_21 6 (dk_at dksX4_look_2 19 rfl rfl)
theorem dX4_look_67 : decode cX4_look 67 = .ok (.ifCond .eq 24, 3) := dk_153 0 24 (dk_at dksX4_look_2 21 rfl rfl)
theorem dX4_look_70 : decode cX4_look 70 = .ok (.iload_n 3, 1) := dk_29 (dk_at dksX4_look_3 0 rfl rfl)
theorem dX4_look_71 : decode cX4_look 71 = .ok (.ifCond .lt 13, 3) := dk_155 0 13 (dk_at dksX4_look_3 1 rfl rfl)
theorem dX4_look_74 : decode cX4_look 74 = .ok (.iload 6, 2) := dk_21 6 (dk_at dksX4_look_3 4 rfl rfl)
theorem dX4_look_76 : decode cX4_look 76 = .ok (.iload 4, 2) := dk_21 4 (dk_at dksX4_look_3 6 rfl rfl)
theorem dX4_look_78 : decode cX4_look 78 = .ok (.if_icmp .lt 6, 3) := dk_161 0 6 (dk_at dksX4_look_3 8 rfl rfl)
theorem dX4_look_81 : decode cX4_look 81 = .ok (.goto 10, 3) := dk_167 0 10 (dk_at dksX4_look_3 11 rfl rfl)
theorem dX4_look_84 : decode cX4_look 84 = .ok (.iload 5, 2) := dk_21 5 (dk_at dksX4_look_3 14 rfl rfl)
theorem dX4_look_86 : decode cX4_look 86 = .ok (.istore_n 3, 1) := dk_62 (dk_at dksX4_look_3 16 rfl rfl)
theorem dX4_look_87 : decode cX4_look 87 = .ok (.iload 6, 2) := dk_21 6 (dk_at dksX4_look_3 17 rfl rfl)
theorem dX4_look_89 : decode cX4_look 89 = .ok (.istore 4, 2) := dk_54 4 (dk_at dksX4_look_3 19 rfl rfl)
theorem dX4_look_91 : decode cX4_look 91 = .ok (.iinc 5 1, 3) := dk_132 5 1 (dk_at dksX4_look_3 21 rfl rfl)
theorem dX4_look_94 : decode cX4_look 94 = .ok (.goto (-48), 3) := dk_167 255 208 (dk_at dksX4_look_4 0 rfl rfl)
theorem dX4_look_97 : decode cX4_look 97 = .ok (.iload_n 2, 1) := dk_28 (dk_at dksX4_look_4 3 rfl rfl)
theorem dX4_look_98 : decode cX4_look 98 = .ok (.ifCond .ne 7, 3) := dk_154 0 7 (dk_at dksX4_look_4 4 rfl rfl)
theorem dX4_look_101 : decode cX4_look 101 = .ok (.iload_n 3, 1) := dk_29 (dk_at dksX4_look_4 7 rfl rfl)
theorem dX4_look_102 : decode cX4_look 102 = .ok (.goto 5, 3) := dk_167 0 5 (dk_at dksX4_look_4 8 rfl rfl)
theorem dX4_look_105 : decode cX4_look 105 = .ok (.iload 4, 2) := dk_21 4 (dk_at dksX4_look_4 11 rfl rfl)
theorem dX4_look_107 : decode cX4_look 107 = .ok (.ireturn, 1) := dk_172 (dk_at dksX4_look_4 13 rfl rfl)
abbrev cX4_alikeAt : ByteArray := prog_19_method_109_code
def yX4_alikeAt : MethodName := ⟨RX4, "alikeAt", "(I)I"⟩
def dkwX4_alikeAt_2 : List UInt8 := [167, 0, 6, 132, 3, 1, 132, 4, 1, 167, 255, 208, 28, 29, 164, 0, 7, 28, 167, 0, 4, 29, 172]
abbrev dktX4_alikeAt_2 : List UInt8 := dkwX4_alikeAt_2 ++ []
def dkwX4_alikeAt_1 : List UInt8 := [154, 0, 6, 167, 0, 26, 42, 180, 0, 71, 21, 4, 46, 27, 184, 1, 122, 153, 0, 9, 132, 2, 1]
abbrev dktX4_alikeAt_1 : List UInt8 := dkwX4_alikeAt_1 ++ dktX4_alikeAt_2
def dkwX4_alikeAt_0 : List UInt8 := [3, 61, 3, 62, 3, 54, 4, 21, 4, 42, 180, 1, 6, 163, 0, 45, 42, 180, 0, 67, 21, 4, 51]
abbrev dktX4_alikeAt_0 : List UInt8 := dkwX4_alikeAt_0 ++ dktX4_alikeAt_1
theorem dksX4_alikeAt_0 : cX4_alikeAt.data.toList.drop 0 = dktX4_alikeAt_0 := by decide +kernel
theorem dksX4_alikeAt_1 : cX4_alikeAt.data.toList.drop 23 = dktX4_alikeAt_1 := dk_seg dksX4_alikeAt_0 23 rfl rfl
theorem dksX4_alikeAt_2 : cX4_alikeAt.data.toList.drop 46 = dktX4_alikeAt_2 := dk_seg dksX4_alikeAt_1 23 rfl rfl
theorem dX4_alikeAt_0 : decode cX4_alikeAt 0 = .ok (.iconst 0, 1) := dk_3 (dk_at dksX4_alikeAt_0 0 rfl rfl)
theorem dX4_alikeAt_1 : decode cX4_alikeAt 1 = .ok (.istore_n 2, 1) := dk_61 (dk_at dksX4_alikeAt_0 1 rfl rfl)
theorem dX4_alikeAt_2 : decode cX4_alikeAt 2 = .ok (.iconst 0, 1) := dk_3 (dk_at dksX4_alikeAt_0 2 rfl rfl)
theorem dX4_alikeAt_3 : decode cX4_alikeAt 3 = .ok (.istore_n 3, 1) := dk_62 (dk_at dksX4_alikeAt_0 3 rfl rfl)
theorem dX4_alikeAt_4 : decode cX4_alikeAt 4 = .ok (.iconst 0, 1) := dk_3 (dk_at dksX4_alikeAt_0 4 rfl rfl)
theorem dX4_alikeAt_5 : decode cX4_alikeAt 5 = .ok (.istore 4, 2) := dk_54 4 (dk_at dksX4_alikeAt_0 5 rfl rfl)
theorem dX4_alikeAt_7 : decode cX4_alikeAt 7 = .ok (.iload 4, 2) := dk_21 4 (dk_at dksX4_alikeAt_0 7 rfl rfl)
theorem dX4_alikeAt_9 : decode cX4_alikeAt 9 = .ok (.aload_n 0, 1) := dk_42 (dk_at dksX4_alikeAt_0 9 rfl rfl)
theorem dX4_alikeAt_10 : decode cX4_alikeAt 10 = .ok (.getfield 262, 3) := dk_180 1 6 (dk_at dksX4_alikeAt_0 10 rfl rfl)
theorem dX4_alikeAt_13 : decode cX4_alikeAt 13 = .ok (.if_icmp .gt 45, 3) := dk_163 0 45 (dk_at dksX4_alikeAt_0 13 rfl rfl)
theorem dX4_alikeAt_16 : decode cX4_alikeAt 16 = .ok (.aload_n 0, 1) := dk_42 (dk_at dksX4_alikeAt_0 16 rfl rfl)
theorem dX4_alikeAt_17 : decode cX4_alikeAt 17 = .ok (.getfield 67, 3) := dk_180 0 67 (dk_at dksX4_alikeAt_0 17 rfl rfl)
theorem dX4_alikeAt_20 : decode cX4_alikeAt 20 = .ok (.iload 4, 2) := dk_21 4 (dk_at dksX4_alikeAt_0 20 rfl rfl)
theorem dX4_alikeAt_22 : decode cX4_alikeAt 22 = .ok (.baload, 1) := dk_51 (dk_at dksX4_alikeAt_0 22 rfl rfl)
theorem dX4_alikeAt_23 : decode cX4_alikeAt 23 = .ok (.ifCond .ne 6, 3) := dk_154 0 6 (dk_at dksX4_alikeAt_1 0 rfl rfl)
theorem dX4_alikeAt_26 : decode cX4_alikeAt 26 = .ok (.goto 26, 3) := dk_167 0 26 (dk_at dksX4_alikeAt_1 3 rfl rfl)
theorem dX4_alikeAt_29 : decode cX4_alikeAt 29 = .ok (.aload_n 0, 1) := dk_42 (dk_at dksX4_alikeAt_1 6 rfl rfl)
theorem dX4_alikeAt_30 : decode cX4_alikeAt 30 = .ok (.getfield 71, 3) := dk_180 0 71 (dk_at dksX4_alikeAt_1 7 rfl rfl)
theorem dX4_alikeAt_33 : decode cX4_alikeAt 33 = .ok (.iload 4, 2) := dk_21 4 (dk_at dksX4_alikeAt_1 10 rfl rfl)
theorem dX4_alikeAt_35 : decode cX4_alikeAt 35 = .ok (.iaload, 1) := dk_46 (dk_at dksX4_alikeAt_1 12 rfl rfl)
theorem dX4_alikeAt_36 : decode cX4_alikeAt 36 = .ok (.iload_n 1, 1) := dk_27 (dk_at dksX4_alikeAt_1 13 rfl rfl)
theorem dX4_alikeAt_37 : decode cX4_alikeAt 37 = .ok (.invokestatic 378, 3) := dk_184 1 122 (dk_at dksX4_alikeAt_1 14 rfl rfl)
theorem dX4_alikeAt_40 : decode cX4_alikeAt 40 = .ok (.ifCond .eq 9, 3) := dk_153 0 9 (dk_at dksX4_alikeAt_1 17 rfl rfl)
theorem dX4_alikeAt_43 : decode cX4_alikeAt 43 = .ok (.iinc 2 1, 3) := dk_132 2 1 (dk_at dksX4_alikeAt_1 20 rfl rfl)
theorem dX4_alikeAt_46 : decode cX4_alikeAt 46 = .ok (.goto 6, 3) := dk_167 0 6 (dk_at dksX4_alikeAt_2 0 rfl rfl)
theorem dX4_alikeAt_49 : decode cX4_alikeAt 49 = .ok (.iinc 3 1, 3) := dk_132 3 1 (dk_at dksX4_alikeAt_2 3 rfl rfl)
theorem dX4_alikeAt_52 : decode cX4_alikeAt 52 = .ok (.iinc 4 1, 3) := dk_132 4 1 (dk_at dksX4_alikeAt_2 6 rfl rfl)
theorem dX4_alikeAt_55 : decode cX4_alikeAt 55 = .ok (.goto (-48), 3) := dk_167 255 208 (dk_at dksX4_alikeAt_2 9 rfl rfl)
theorem dX4_alikeAt_58 : decode cX4_alikeAt 58 = .ok (.iload_n 2, 1) := dk_28 (dk_at dksX4_alikeAt_2 12 rfl rfl)
theorem dX4_alikeAt_59 : decode cX4_alikeAt 59 = .ok (.iload_n 3, 1) := dk_29 (dk_at dksX4_alikeAt_2 13 rfl rfl)
theorem dX4_alikeAt_60 : decode cX4_alikeAt 60 = .ok (.if_icmp .le 7, 3) := dk_164 0 7 (dk_at dksX4_alikeAt_2 14 rfl rfl)
theorem dX4_alikeAt_63 : decode cX4_alikeAt 63 = .ok (.iload_n 2, 1) := dk_28 (dk_at dksX4_alikeAt_2 17 rfl rfl)
theorem dX4_alikeAt_64 : decode cX4_alikeAt 64 = .ok (.goto 4, 3) := dk_167 0 4 (dk_at dksX4_alikeAt_2 18 rfl rfl)
theorem dX4_alikeAt_67 : decode cX4_alikeAt 67 = .ok (.iload_n 3, 1) := dk_29 (dk_at dksX4_alikeAt_2 21 rfl rfl)
theorem dX4_alikeAt_68 : decode cX4_alikeAt 68 = .ok (.ireturn, 1) := dk_172 (dk_at dksX4_alikeAt_2 22 rfl rfl)
abbrev cX4_hards : ByteArray := prog_19_method_112_code
def yX4_hards : MethodName := ⟨RX4, "hards", "(II)I"⟩
def dkwX4_hards_3 : List UInt8 := [184, 1, 122, 153, 0, 6, 21, 5, 172, 132, 5, 1, 167, 255, 233, 16, 254, 172]
abbrev dktX4_hards_3 : List UInt8 := dkwX4_hards_3 ++ []
def dkwX4_hards_2 : List UInt8 := [154, 0, 9, 21, 4, 184, 1, 74, 172, 4, 54, 5, 21, 5, 16, 30, 163, 0, 22, 21, 4, 21, 5]
abbrev dktX4_hards_2 : List UInt8 := dkwX4_hards_2 ++ dktX4_hards_3
def dkwX4_hards_1 : List UInt8 := [104, 96, 62, 42, 29, 42, 180, 0, 39, 29, 6, 96, 46, 4, 96, 16, 30, 182, 1, 203, 54, 4, 28]
abbrev dktX4_hards_1 : List UInt8 := dkwX4_hards_1 ++ dktX4_hards_2
def dkwX4_hards_0 : List UInt8 := [42, 27, 182, 1, 33, 153, 0, 13, 28, 133, 9, 10, 184, 0, 124, 154, 0, 5, 2, 172, 16, 51, 7, 27]
abbrev dktX4_hards_0 : List UInt8 := dkwX4_hards_0 ++ dktX4_hards_1
theorem dksX4_hards_0 : cX4_hards.data.toList.drop 0 = dktX4_hards_0 := by decide +kernel
theorem dksX4_hards_1 : cX4_hards.data.toList.drop 24 = dktX4_hards_1 := dk_seg dksX4_hards_0 24 rfl rfl
theorem dksX4_hards_2 : cX4_hards.data.toList.drop 47 = dktX4_hards_2 := dk_seg dksX4_hards_1 23 rfl rfl
theorem dksX4_hards_3 : cX4_hards.data.toList.drop 70 = dktX4_hards_3 := dk_seg dksX4_hards_2 23 rfl rfl
theorem dX4_hards_0 : decode cX4_hards 0 = .ok (.aload_n 0, 1) := dk_42 (dk_at dksX4_hards_0 0 rfl rfl)
theorem dX4_hards_1 : decode cX4_hards 1 = .ok (.iload_n 1, 1) := dk_27 (dk_at dksX4_hards_0 1 rfl rfl)
theorem dX4_hards_2 : decode cX4_hards 2 = .ok (.invokevirtual 289, 3) := dk_182 1 33 (dk_at dksX4_hards_0 2 rfl rfl)
theorem dX4_hards_5 : decode cX4_hards 5 = .ok (.ifCond .eq 13, 3) := dk_153 0 13 (dk_at dksX4_hards_0 5 rfl rfl)
theorem dX4_hards_8 : decode cX4_hards 8 = .ok (.iload_n 2, 1) := dk_28 (dk_at dksX4_hards_0 8 rfl rfl)
theorem dX4_hards_9 : decode cX4_hards 9 = .ok (.i2l, 1) := dk_133 (dk_at dksX4_hards_0 9 rfl rfl)
theorem dX4_hards_10 : decode cX4_hards 10 = .ok (.lconst 0, 1) := dk_9 (dk_at dksX4_hards_0 10 rfl rfl)
theorem dX4_hards_11 : decode cX4_hards 11 = .ok (.lconst 1, 1) := dk_10 (dk_at dksX4_hards_0 11 rfl rfl)
theorem dX4_hards_12 : decode cX4_hards 12 = .ok (.invokestatic 124, 3) := dk_184 0 124 (dk_at dksX4_hards_0 12 rfl rfl)
theorem dX4_hards_15 : decode cX4_hards 15 = .ok (.ifCond .ne 5, 3) := dk_154 0 5 (dk_at dksX4_hards_0 15 rfl rfl)
theorem dX4_hards_18 : decode cX4_hards 18 = .ok (.iconst (-1), 1) := dk_2 (dk_at dksX4_hards_0 18 rfl rfl)
theorem dX4_hards_19 : decode cX4_hards 19 = .ok (.ireturn, 1) := dk_172 (dk_at dksX4_hards_0 19 rfl rfl)
theorem dX4_hards_20 : decode cX4_hards 20 = .ok (.bipush 51, 2) := dk_16 51 (dk_at dksX4_hards_0 20 rfl rfl)
theorem dX4_hards_22 : decode cX4_hards 22 = .ok (.iconst 4, 1) := dk_7 (dk_at dksX4_hards_0 22 rfl rfl)
theorem dX4_hards_23 : decode cX4_hards 23 = .ok (.iload_n 1, 1) := dk_27 (dk_at dksX4_hards_0 23 rfl rfl)
theorem dX4_hards_24 : decode cX4_hards 24 = .ok (.imul, 1) := dk_104 (dk_at dksX4_hards_1 0 rfl rfl)
theorem dX4_hards_25 : decode cX4_hards 25 = .ok (.iadd, 1) := dk_96 (dk_at dksX4_hards_1 1 rfl rfl)
theorem dX4_hards_26 : decode cX4_hards 26 = .ok (.istore_n 3, 1) := dk_62 (dk_at dksX4_hards_1 2 rfl rfl)
theorem dX4_hards_27 : decode cX4_hards 27 = .ok (.aload_n 0, 1) := dk_42 (dk_at dksX4_hards_1 3 rfl rfl)
theorem dX4_hards_28 : decode cX4_hards 28 = .ok (.iload_n 3, 1) := dk_29 (dk_at dksX4_hards_1 4 rfl rfl)
theorem dX4_hards_29 : decode cX4_hards 29 = .ok (.aload_n 0, 1) := dk_42 (dk_at dksX4_hards_1 5 rfl rfl)
theorem dX4_hards_30 : decode cX4_hards 30 = .ok (.getfield 39, 3) := dk_180 0 39 (dk_at dksX4_hards_1 6 rfl rfl)
theorem dX4_hards_33 : decode cX4_hards 33 = .ok (.iload_n 3, 1) := dk_29 (dk_at dksX4_hards_1 9 rfl rfl)
theorem dX4_hards_34 : decode cX4_hards 34 = .ok (.iconst 3, 1) := dk_6 (dk_at dksX4_hards_1 10 rfl rfl)
theorem dX4_hards_35 : decode cX4_hards 35 = .ok (.iadd, 1) := dk_96 (dk_at dksX4_hards_1 11 rfl rfl)
theorem dX4_hards_36 : decode cX4_hards 36 = .ok (.iaload, 1) := dk_46 (dk_at dksX4_hards_1 12 rfl rfl)
theorem dX4_hards_37 : decode cX4_hards 37 = .ok (.iconst 1, 1) := dk_4 (dk_at dksX4_hards_1 13 rfl rfl)
theorem dX4_hards_38 : decode cX4_hards 38 = .ok (.iadd, 1) := dk_96 (dk_at dksX4_hards_1 14 rfl rfl)
theorem dX4_hards_39 : decode cX4_hards 39 = .ok (.bipush 30, 2) := dk_16 30 (dk_at dksX4_hards_1 15 rfl rfl)
theorem dX4_hards_41 : decode cX4_hards 41 = .ok (.invokevirtual 459, 3) := dk_182 1 203 (dk_at dksX4_hards_1 17 rfl rfl)
theorem dX4_hards_44 : decode cX4_hards 44 = .ok (.istore 4, 2) := dk_54 4 (dk_at dksX4_hards_1 20 rfl rfl)
theorem dX4_hards_46 : decode cX4_hards 46 = .ok (.iload_n 2, 1) := dk_28 (dk_at dksX4_hards_1 22 rfl rfl)
theorem dX4_hards_47 : decode cX4_hards 47 = .ok (.ifCond .ne 9, 3) := dk_154 0 9 (dk_at dksX4_hards_2 0 rfl rfl)
theorem dX4_hards_50 : decode cX4_hards 50 = .ok (.iload 4, 2) := dk_21 4 (dk_at dksX4_hards_2 3 rfl rfl)
theorem dX4_hards_52 : decode cX4_hards 52 = .ok (.invokestatic 330, 3) := dk_184 1 74 (dk_at dksX4_hards_2 5 rfl rfl)
theorem dX4_hards_55 : decode cX4_hards 55 = .ok (.ireturn, 1) := dk_172 (dk_at dksX4_hards_2 8 rfl rfl)
theorem dX4_hards_56 : decode cX4_hards 56 = .ok (.iconst 1, 1) := dk_4 (dk_at dksX4_hards_2 9 rfl rfl)
theorem dX4_hards_57 : decode cX4_hards 57 = .ok (.istore 5, 2) := dk_54 5 (dk_at dksX4_hards_2 10 rfl rfl)
theorem dX4_hards_59 : decode cX4_hards 59 = .ok (.iload 5, 2) := dk_21 5 (dk_at dksX4_hards_2 12 rfl rfl)
theorem dX4_hards_61 : decode cX4_hards 61 = .ok (.bipush 30, 2) := dk_16 30 (dk_at dksX4_hards_2 14 rfl rfl)
theorem dX4_hards_63 : decode cX4_hards 63 = .ok (.if_icmp .gt 22, 3) := dk_163 0 22 (dk_at dksX4_hards_2 16 rfl rfl)
theorem dX4_hards_66 : decode cX4_hards 66 = .ok (.iload 4, 2) := dk_21 4 (dk_at dksX4_hards_2 19 rfl rfl)
theorem dX4_hards_68 : decode cX4_hards 68 = .ok (.iload 5, 2) := dk_21 5 (dk_at dksX4_hards_2 21 rfl rfl)
theorem dX4_hards_70 : decode cX4_hards 70 = .ok (.invokestatic 378, 3) := dk_184 1 122 (dk_at dksX4_hards_3 0 rfl rfl)
theorem dX4_hards_73 : decode cX4_hards 73 = .ok (.ifCond .eq 6, 3) := dk_153 0 6 (dk_at dksX4_hards_3 3 rfl rfl)
theorem dX4_hards_76 : decode cX4_hards 76 = .ok (.iload 5, 2) := dk_21 5 (dk_at dksX4_hards_3 6 rfl rfl)
theorem dX4_hards_78 : decode cX4_hards 78 = .ok (.ireturn, 1) := dk_172 (dk_at dksX4_hards_3 8 rfl rfl)
theorem dX4_hards_79 : decode cX4_hards 79 = .ok (.iinc 5 1, 3) := dk_132 5 1 (dk_at dksX4_hards_3 9 rfl rfl)
theorem dX4_hards_82 : decode cX4_hards 82 = .ok (.goto (-23), 3) := dk_167 255 233 (dk_at dksX4_hards_3 12 rfl rfl)
theorem dX4_hards_85 : decode cX4_hards 85 = .ok (.bipush (-2), 2) := dk_16 254 (dk_at dksX4_hards_3 15 rfl rfl)
theorem dX4_hards_87 : decode cX4_hards 87 = .ok (.ireturn, 1) := dk_172 (dk_at dksX4_hards_3 17 rfl rfl)
abbrev cX4_canBe : ByteArray := prog_19_method_111_code
def yX4_canBe : MethodName := ⟨RX4, "canBe", "(III)I"⟩
def dkwX4_canBe_3 : List UInt8 := [21, 5, 172]
abbrev dktX4_canBe_3 : List UInt8 := dkwX4_canBe_3 ++ []
def dkwX4_canBe_2 : List UInt8 := [21, 6, 120, 128, 54, 5, 132, 6, 1, 167, 255, 217, 42, 180, 0, 39, 27, 21, 4, 79, 42, 182, 1, 166]
abbrev dktX4_canBe_2 : List UInt8 := dkwX4_canBe_2 ++ dktX4_canBe_3
def dkwX4_canBe_1 : List UInt8 := [42, 180, 0, 39, 27, 21, 6, 79, 42, 182, 1, 12, 42, 3, 2, 182, 1, 194, 153, 0, 12, 21, 5, 4]
abbrev dktX4_canBe_1 : List UInt8 := dkwX4_canBe_1 ++ dktX4_canBe_2
def dkwX4_canBe_0 : List UInt8 := [42, 180, 0, 39, 27, 46, 54, 4, 3, 54, 5, 42, 182, 1, 160, 28, 54, 6, 21, 6, 29, 163, 0, 39]
abbrev dktX4_canBe_0 : List UInt8 := dkwX4_canBe_0 ++ dktX4_canBe_1
theorem dksX4_canBe_0 : cX4_canBe.data.toList.drop 0 = dktX4_canBe_0 := by decide +kernel
theorem dksX4_canBe_1 : cX4_canBe.data.toList.drop 24 = dktX4_canBe_1 := dk_seg dksX4_canBe_0 24 rfl rfl
theorem dksX4_canBe_2 : cX4_canBe.data.toList.drop 48 = dktX4_canBe_2 := dk_seg dksX4_canBe_1 24 rfl rfl
theorem dksX4_canBe_3 : cX4_canBe.data.toList.drop 72 = dktX4_canBe_3 := dk_seg dksX4_canBe_2 24 rfl rfl
theorem dX4_canBe_0 : decode cX4_canBe 0 = .ok (.aload_n 0, 1) := dk_42 (dk_at dksX4_canBe_0 0 rfl rfl)
theorem dX4_canBe_1 : decode cX4_canBe 1 = .ok (.getfield 39, 3) := dk_180 0 39 (dk_at dksX4_canBe_0 1 rfl rfl)
theorem dX4_canBe_4 : decode cX4_canBe 4 = .ok (.iload_n 1, 1) := dk_27 (dk_at dksX4_canBe_0 4 rfl rfl)
theorem dX4_canBe_5 : decode cX4_canBe 5 = .ok (.iaload, 1) := dk_46 (dk_at dksX4_canBe_0 5 rfl rfl)
theorem dX4_canBe_6 : decode cX4_canBe 6 = .ok (.istore 4, 2) := dk_54 4 (dk_at dksX4_canBe_0 6 rfl rfl)
theorem dX4_canBe_8 : decode cX4_canBe 8 = .ok (.iconst 0, 1) := dk_3 (dk_at dksX4_canBe_0 8 rfl rfl)
theorem dX4_canBe_9 : decode cX4_canBe 9 = .ok (.istore 5, 2) := dk_54 5 (dk_at dksX4_canBe_0 9 rfl rfl)
theorem dX4_canBe_11 : decode cX4_canBe 11 = .ok (.aload_n 0, 1) := dk_42 (dk_at dksX4_canBe_0 11 rfl rfl)
theorem dX4_canBe_12 : decode cX4_canBe 12 = .ok (.invokevirtual 416, 3) := dk_182 1 160 (dk_at dksX4_canBe_0 12 rfl rfl)
theorem dX4_canBe_15 : decode cX4_canBe 15 = .ok (.iload_n 2, 1) := dk_28 (dk_at dksX4_canBe_0 15 rfl rfl)
theorem dX4_canBe_16 : decode cX4_canBe 16 = .ok (.istore 6, 2) := dk_54 6 (dk_at dksX4_canBe_0 16 rfl rfl)
theorem dX4_canBe_18 : decode cX4_canBe 18 = .ok (.iload 6, 2) := dk_21 6 (dk_at dksX4_canBe_0 18 rfl rfl)
theorem dX4_canBe_20 : decode cX4_canBe 20 = .ok (.iload_n 3, 1) := dk_29 (dk_at dksX4_canBe_0 20 rfl rfl)
theorem dX4_canBe_21 : decode cX4_canBe 21 = .ok (.if_icmp .gt 39, 3) := dk_163 0 39 (dk_at dksX4_canBe_0 21 rfl rfl)
theorem dX4_canBe_24 : decode cX4_canBe 24 = .ok (.aload_n 0, 1) := dk_42 (dk_at dksX4_canBe_1 0 rfl rfl)
theorem dX4_canBe_25 : decode cX4_canBe 25 = .ok (.getfield 39, 3) := dk_180 0 39 (dk_at dksX4_canBe_1 1 rfl rfl)
theorem dX4_canBe_28 : decode cX4_canBe 28 = .ok (.iload_n 1, 1) := dk_27 (dk_at dksX4_canBe_1 4 rfl rfl)
theorem dX4_canBe_29 : decode cX4_canBe 29 = .ok (.iload 6, 2) := dk_21 6 (dk_at dksX4_canBe_1 5 rfl rfl)
theorem dX4_canBe_31 : decode cX4_canBe 31 = .ok (.iastore, 1) := dk_79 (dk_at dksX4_canBe_1 7 rfl rfl)
theorem dX4_canBe_32 : decode cX4_canBe 32 = .ok (.aload_n 0, 1) := dk_42 (dk_at dksX4_canBe_1 8 rfl rfl)
theorem dX4_canBe_33 : decode cX4_canBe 33 = .ok (.invokevirtual 268, 3) := dk_182 1 12 (dk_at dksX4_canBe_1 9 rfl rfl)
theorem dX4_canBe_36 : decode cX4_canBe 36 = .ok (.aload_n 0, 1) := dk_42 (dk_at dksX4_canBe_1 12 rfl rfl)
theorem dX4_canBe_37 : decode cX4_canBe 37 = .ok (.iconst 0, 1) := dk_3 (dk_at dksX4_canBe_1 13 rfl rfl)
theorem dX4_canBe_38 : decode cX4_canBe 38 = .ok (.iconst (-1), 1) := dk_2 (dk_at dksX4_canBe_1 14 rfl rfl)
theorem dX4_canBe_39 : decode cX4_canBe 39 = .ok (.invokevirtual 450, 3) := dk_182 1 194 (dk_at dksX4_canBe_1 15 rfl rfl)
theorem dX4_canBe_42 : decode cX4_canBe 42 = .ok (.ifCond .eq 12, 3) := dk_153 0 12 (dk_at dksX4_canBe_1 18 rfl rfl)
theorem dX4_canBe_45 : decode cX4_canBe 45 = .ok (.iload 5, 2) := dk_21 5 (dk_at dksX4_canBe_1 21 rfl rfl)
theorem dX4_canBe_47 : decode cX4_canBe 47 = .ok (.iconst 1, 1) := dk_4 (dk_at dksX4_canBe_1 23 rfl rfl)
theorem dX4_canBe_48 : decode cX4_canBe 48 = .ok (.iload 6, 2) := dk_21 6 (dk_at dksX4_canBe_2 0 rfl rfl)
theorem dX4_canBe_50 : decode cX4_canBe 50 = .ok (.ishl, 1) := dk_120 (dk_at dksX4_canBe_2 2 rfl rfl)
theorem dX4_canBe_51 : decode cX4_canBe 51 = .ok (.ior, 1) := dk_128 (dk_at dksX4_canBe_2 3 rfl rfl)
theorem dX4_canBe_52 : decode cX4_canBe 52 = .ok (.istore 5, 2) := dk_54 5 (dk_at dksX4_canBe_2 4 rfl rfl)
theorem dX4_canBe_54 : decode cX4_canBe 54 = .ok (.iinc 6 1, 3) := dk_132 6 1 (dk_at dksX4_canBe_2 6 rfl rfl)
theorem dX4_canBe_57 : decode cX4_canBe 57 = .ok (.goto (-39), 3) := dk_167 255 217 (dk_at dksX4_canBe_2 9 rfl rfl)
theorem dX4_canBe_60 : decode cX4_canBe 60 = .ok (.aload_n 0, 1) := dk_42 (dk_at dksX4_canBe_2 12 rfl rfl)
theorem dX4_canBe_61 : decode cX4_canBe 61 = .ok (.getfield 39, 3) := dk_180 0 39 (dk_at dksX4_canBe_2 13 rfl rfl)
theorem dX4_canBe_64 : decode cX4_canBe 64 = .ok (.iload_n 1, 1) := dk_27 (dk_at dksX4_canBe_2 16 rfl rfl)
theorem dX4_canBe_65 : decode cX4_canBe 65 = .ok (.iload 4, 2) := dk_21 4 (dk_at dksX4_canBe_2 17 rfl rfl)
theorem dX4_canBe_67 : decode cX4_canBe 67 = .ok (.iastore, 1) := dk_79 (dk_at dksX4_canBe_2 19 rfl rfl)
theorem dX4_canBe_68 : decode cX4_canBe 68 = .ok (.aload_n 0, 1) := dk_42 (dk_at dksX4_canBe_2 20 rfl rfl)
theorem dX4_canBe_69 : decode cX4_canBe 69 = .ok (.invokevirtual 422, 3) := dk_182 1 166 (dk_at dksX4_canBe_2 21 rfl rfl)
theorem dX4_canBe_72 : decode cX4_canBe 72 = .ok (.iload 5, 2) := dk_21 5 (dk_at dksX4_canBe_3 0 rfl rfl)
theorem dX4_canBe_74 : decode cX4_canBe 74 = .ok (.ireturn, 1) := dk_172 (dk_at dksX4_canBe_3 2 rfl rfl)
abbrev cX4_swings : ByteArray := prog_19_method_113_code
def yX4_swings : MethodName := ⟨RX4, "swings", "(I)I"⟩
def dkwX4_swings_1 : List UInt8 := [167, 0, 4, 2, 172]
abbrev dktX4_swings_1 : List UInt8 := dkwX4_swings_1 ++ []
def dkwX4_swings_0 : List UInt8 := [42, 27, 182, 1, 33, 153, 0, 21, 42, 16, 51, 7, 27, 104, 96, 4, 96, 4, 16, 20, 182, 1, 203]
abbrev dktX4_swings_0 : List UInt8 := dkwX4_swings_0 ++ dktX4_swings_1
theorem dksX4_swings_0 : cX4_swings.data.toList.drop 0 = dktX4_swings_0 := by decide +kernel
theorem dksX4_swings_1 : cX4_swings.data.toList.drop 23 = dktX4_swings_1 := dk_seg dksX4_swings_0 23 rfl rfl
theorem dX4_swings_0 : decode cX4_swings 0 = .ok (.aload_n 0, 1) := dk_42 (dk_at dksX4_swings_0 0 rfl rfl)
theorem dX4_swings_1 : decode cX4_swings 1 = .ok (.iload_n 1, 1) := dk_27 (dk_at dksX4_swings_0 1 rfl rfl)
theorem dX4_swings_2 : decode cX4_swings 2 = .ok (.invokevirtual 289, 3) := dk_182 1 33 (dk_at dksX4_swings_0 2 rfl rfl)
theorem dX4_swings_5 : decode cX4_swings 5 = .ok (.ifCond .eq 21, 3) := dk_153 0 21 (dk_at dksX4_swings_0 5 rfl rfl)
theorem dX4_swings_8 : decode cX4_swings 8 = .ok (.aload_n 0, 1) := dk_42 (dk_at dksX4_swings_0 8 rfl rfl)
theorem dX4_swings_9 : decode cX4_swings 9 = .ok (.bipush 51, 2) := dk_16 51 (dk_at dksX4_swings_0 9 rfl rfl)
theorem dX4_swings_11 : decode cX4_swings 11 = .ok (.iconst 4, 1) := dk_7 (dk_at dksX4_swings_0 11 rfl rfl)
theorem dX4_swings_12 : decode cX4_swings 12 = .ok (.iload_n 1, 1) := dk_27 (dk_at dksX4_swings_0 12 rfl rfl)
theorem dX4_swings_13 : decode cX4_swings 13 = .ok (.imul, 1) := dk_104 (dk_at dksX4_swings_0 13 rfl rfl)
theorem dX4_swings_14 : decode cX4_swings 14 = .ok (.iadd, 1) := dk_96 (dk_at dksX4_swings_0 14 rfl rfl)
theorem dX4_swings_15 : decode cX4_swings 15 = .ok (.iconst 1, 1) := dk_4 (dk_at dksX4_swings_0 15 rfl rfl)
theorem dX4_swings_16 : decode cX4_swings 16 = .ok (.iadd, 1) := dk_96 (dk_at dksX4_swings_0 16 rfl rfl)
theorem dX4_swings_17 : decode cX4_swings 17 = .ok (.iconst 1, 1) := dk_4 (dk_at dksX4_swings_0 17 rfl rfl)
theorem dX4_swings_18 : decode cX4_swings 18 = .ok (.bipush 20, 2) := dk_16 20 (dk_at dksX4_swings_0 18 rfl rfl)
theorem dX4_swings_20 : decode cX4_swings 20 = .ok (.invokevirtual 459, 3) := dk_182 1 203 (dk_at dksX4_swings_0 20 rfl rfl)
theorem dX4_swings_23 : decode cX4_swings 23 = .ok (.goto 4, 3) := dk_167 0 4 (dk_at dksX4_swings_1 0 rfl rfl)
theorem dX4_swings_26 : decode cX4_swings 26 = .ok (.iconst (-1), 1) := dk_2 (dk_at dksX4_swings_1 3 rfl rfl)
theorem dX4_swings_27 : decode cX4_swings 27 = .ok (.ireturn, 1) := dk_172 (dk_at dksX4_swings_1 4 rfl rfl)
abbrev cX4_seed : ByteArray := prog_19_method_114_code
def yX4_seed : MethodName := ⟨RX4, "seed", "(I)I"⟩
def dkwX4_seed_0 : List UInt8 := [27, 156, 0, 5, 2, 172, 42, 180, 1, 207, 61, 42, 27, 181, 1, 207, 28, 172]
abbrev dktX4_seed_0 : List UInt8 := dkwX4_seed_0 ++ []
theorem dksX4_seed_0 : cX4_seed.data.toList.drop 0 = dktX4_seed_0 := by decide +kernel
theorem dX4_seed_0 : decode cX4_seed 0 = .ok (.iload_n 1, 1) := dk_27 (dk_at dksX4_seed_0 0 rfl rfl)
theorem dX4_seed_1 : decode cX4_seed 1 = .ok (.ifCond .ge 5, 3) := dk_156 0 5 (dk_at dksX4_seed_0 1 rfl rfl)
theorem dX4_seed_4 : decode cX4_seed 4 = .ok (.iconst (-1), 1) := dk_2 (dk_at dksX4_seed_0 4 rfl rfl)
theorem dX4_seed_5 : decode cX4_seed 5 = .ok (.ireturn, 1) := dk_172 (dk_at dksX4_seed_0 5 rfl rfl)
theorem dX4_seed_6 : decode cX4_seed 6 = .ok (.aload_n 0, 1) := dk_42 (dk_at dksX4_seed_0 6 rfl rfl)
theorem dX4_seed_7 : decode cX4_seed 7 = .ok (.getfield 463, 3) := dk_180 1 207 (dk_at dksX4_seed_0 7 rfl rfl)
theorem dX4_seed_10 : decode cX4_seed 10 = .ok (.istore_n 2, 1) := dk_61 (dk_at dksX4_seed_0 10 rfl rfl)
theorem dX4_seed_11 : decode cX4_seed 11 = .ok (.aload_n 0, 1) := dk_42 (dk_at dksX4_seed_0 11 rfl rfl)
theorem dX4_seed_12 : decode cX4_seed 12 = .ok (.iload_n 1, 1) := dk_27 (dk_at dksX4_seed_0 12 rfl rfl)
theorem dX4_seed_13 : decode cX4_seed 13 = .ok (.putfield 463, 3) := dk_181 1 207 (dk_at dksX4_seed_0 13 rfl rfl)
theorem dX4_seed_16 : decode cX4_seed 16 = .ok (.iload_n 2, 1) := dk_28 (dk_at dksX4_seed_0 16 rfl rfl)
theorem dX4_seed_17 : decode cX4_seed 17 = .ok (.ireturn, 1) := dk_172 (dk_at dksX4_seed_0 17 rfl rfl)
abbrev cX4_frost : ByteArray := prog_19_method_117_code
def yX4_frost : MethodName := ⟨RX4, "frost", "(IIII)I"⟩
def dkwX4_frost_7 : List UInt8 := [132, 7, 1, 167, 255, 168, 21, 4, 154, 0, 8, 21, 5, 167, 0, 5, 21, 6, 172]
abbrev dktX4_frost_7 : List UInt8 := dkwX4_frost_7 ++ []
def dkwX4_frost_6 : List UInt8 := [42, 182, 1, 71, 184, 1, 74, 96, 54, 5, 21, 6, 42, 5, 182, 1, 186, 96, 54, 6, 42, 182, 1, 166]
abbrev dktX4_frost_6 : List UInt8 := dkwX4_frost_6 ++ dktX4_frost_7
def dkwX4_frost_5 : List UInt8 := [180, 0, 39, 5, 46, 182, 1, 224, 182, 1, 227, 42, 182, 1, 103, 87, 132, 8, 1, 167, 255, 209, 21, 5]
abbrev dktX4_frost_5 : List UInt8 := dkwX4_frost_5 ++ dktX4_frost_6
def dkwX4_frost_4 : List UInt8 := [42, 16, 100, 182, 1, 224, 29, 162, 0, 26, 42, 180, 0, 39, 5, 46, 158, 0, 17, 42, 42, 42]
abbrev dktX4_frost_4 : List UInt8 := dkwX4_frost_4 ++ dktX4_frost_5
def dkwX4_frost_3 : List UInt8 := [54, 6, 42, 182, 1, 160, 3, 54, 7, 21, 7, 27, 162, 0, 88, 3, 54, 8, 21, 8, 28, 162, 0, 47]
abbrev dktX4_frost_3 : List UInt8 := dkwX4_frost_3 ++ dktX4_frost_4
def dkwX4_frost_2 : List UInt8 := [9, 10, 184, 0, 124, 154, 0, 5, 2, 172, 42, 42, 180, 1, 207, 133, 181, 1, 210, 3, 54, 5, 3]
abbrev dktX4_frost_2 : List UInt8 := dkwX4_frost_2 ++ dktX4_frost_3
def dkwX4_frost_1 : List UInt8 := [20, 1, 189, 184, 0, 124, 153, 0, 26, 29, 133, 9, 20, 1, 156, 184, 0, 124, 153, 0, 14, 21, 4, 133]
abbrev dktX4_frost_1 : List UInt8 := dkwX4_frost_1 ++ dktX4_frost_2
def dkwX4_frost_0 : List UInt8 := [42, 182, 1, 106, 153, 0, 50, 27, 133, 10, 20, 1, 222, 184, 0, 124, 153, 0, 38, 28, 133, 10]
abbrev dktX4_frost_0 : List UInt8 := dkwX4_frost_0 ++ dktX4_frost_1
theorem dksX4_frost_0 : cX4_frost.data.toList.drop 0 = dktX4_frost_0 := by decide +kernel
theorem dksX4_frost_1 : cX4_frost.data.toList.drop 22 = dktX4_frost_1 := dk_seg dksX4_frost_0 22 rfl rfl
theorem dksX4_frost_2 : cX4_frost.data.toList.drop 46 = dktX4_frost_2 := dk_seg dksX4_frost_1 24 rfl rfl
theorem dksX4_frost_3 : cX4_frost.data.toList.drop 69 = dktX4_frost_3 := dk_seg dksX4_frost_2 23 rfl rfl
theorem dksX4_frost_4 : cX4_frost.data.toList.drop 93 = dktX4_frost_4 := dk_seg dksX4_frost_3 24 rfl rfl
theorem dksX4_frost_5 : cX4_frost.data.toList.drop 115 = dktX4_frost_5 := dk_seg dksX4_frost_4 22 rfl rfl
theorem dksX4_frost_6 : cX4_frost.data.toList.drop 139 = dktX4_frost_6 := dk_seg dksX4_frost_5 24 rfl rfl
theorem dksX4_frost_7 : cX4_frost.data.toList.drop 163 = dktX4_frost_7 := dk_seg dksX4_frost_6 24 rfl rfl
theorem dX4_frost_0 : decode cX4_frost 0 = .ok (.aload_n 0, 1) := dk_42 (dk_at dksX4_frost_0 0 rfl rfl)
theorem dX4_frost_1 : decode cX4_frost 1 = .ok (.invokevirtual 362, 3) := dk_182 1 106 (dk_at dksX4_frost_0 1 rfl rfl)
theorem dX4_frost_4 : decode cX4_frost 4 = .ok (.ifCond .eq 50, 3) := dk_153 0 50 (dk_at dksX4_frost_0 4 rfl rfl)
theorem dX4_frost_7 : decode cX4_frost 7 = .ok (.iload_n 1, 1) := dk_27 (dk_at dksX4_frost_0 7 rfl rfl)
theorem dX4_frost_8 : decode cX4_frost 8 = .ok (.i2l, 1) := dk_133 (dk_at dksX4_frost_0 8 rfl rfl)
theorem dX4_frost_9 : decode cX4_frost 9 = .ok (.lconst 1, 1) := dk_10 (dk_at dksX4_frost_0 9 rfl rfl)
theorem dX4_frost_10 : decode cX4_frost 10 = .ok (.ldc2_w 478, 3) := dk_20 1 222 (dk_at dksX4_frost_0 10 rfl rfl)
theorem dX4_frost_13 : decode cX4_frost 13 = .ok (.invokestatic 124, 3) := dk_184 0 124 (dk_at dksX4_frost_0 13 rfl rfl)
theorem dX4_frost_16 : decode cX4_frost 16 = .ok (.ifCond .eq 38, 3) := dk_153 0 38 (dk_at dksX4_frost_0 16 rfl rfl)
theorem dX4_frost_19 : decode cX4_frost 19 = .ok (.iload_n 2, 1) := dk_28 (dk_at dksX4_frost_0 19 rfl rfl)
theorem dX4_frost_20 : decode cX4_frost 20 = .ok (.i2l, 1) := dk_133 (dk_at dksX4_frost_0 20 rfl rfl)
theorem dX4_frost_21 : decode cX4_frost 21 = .ok (.lconst 1, 1) := dk_10 (dk_at dksX4_frost_0 21 rfl rfl)
theorem dX4_frost_22 : decode cX4_frost 22 = .ok (.ldc2_w 445, 3) := dk_20 1 189 (dk_at dksX4_frost_1 0 rfl rfl)
theorem dX4_frost_25 : decode cX4_frost 25 = .ok (.invokestatic 124, 3) := dk_184 0 124 (dk_at dksX4_frost_1 3 rfl rfl)
theorem dX4_frost_28 : decode cX4_frost 28 = .ok (.ifCond .eq 26, 3) := dk_153 0 26 (dk_at dksX4_frost_1 6 rfl rfl)
theorem dX4_frost_31 : decode cX4_frost 31 = .ok (.iload_n 3, 1) := dk_29 (dk_at dksX4_frost_1 9 rfl rfl)
theorem dX4_frost_32 : decode cX4_frost 32 = .ok (.i2l, 1) := dk_133 (dk_at dksX4_frost_1 10 rfl rfl)
theorem dX4_frost_33 : decode cX4_frost 33 = .ok (.lconst 0, 1) := dk_9 (dk_at dksX4_frost_1 11 rfl rfl)
theorem dX4_frost_34 : decode cX4_frost 34 = .ok (.ldc2_w 412, 3) := dk_20 1 156 (dk_at dksX4_frost_1 12 rfl rfl)
theorem dX4_frost_37 : decode cX4_frost 37 = .ok (.invokestatic 124, 3) := dk_184 0 124 (dk_at dksX4_frost_1 15 rfl rfl)
theorem dX4_frost_40 : decode cX4_frost 40 = .ok (.ifCond .eq 14, 3) := dk_153 0 14 (dk_at dksX4_frost_1 18 rfl rfl)
theorem dX4_frost_43 : decode cX4_frost 43 = .ok (.iload 4, 2) := dk_21 4 (dk_at dksX4_frost_1 21 rfl rfl)
theorem dX4_frost_45 : decode cX4_frost 45 = .ok (.i2l, 1) := dk_133 (dk_at dksX4_frost_1 23 rfl rfl)
theorem dX4_frost_46 : decode cX4_frost 46 = .ok (.lconst 0, 1) := dk_9 (dk_at dksX4_frost_2 0 rfl rfl)
theorem dX4_frost_47 : decode cX4_frost 47 = .ok (.lconst 1, 1) := dk_10 (dk_at dksX4_frost_2 1 rfl rfl)
theorem dX4_frost_48 : decode cX4_frost 48 = .ok (.invokestatic 124, 3) := dk_184 0 124 (dk_at dksX4_frost_2 2 rfl rfl)
theorem dX4_frost_51 : decode cX4_frost 51 = .ok (.ifCond .ne 5, 3) := dk_154 0 5 (dk_at dksX4_frost_2 5 rfl rfl)
theorem dX4_frost_54 : decode cX4_frost 54 = .ok (.iconst (-1), 1) := dk_2 (dk_at dksX4_frost_2 8 rfl rfl)
theorem dX4_frost_55 : decode cX4_frost 55 = .ok (.ireturn, 1) := dk_172 (dk_at dksX4_frost_2 9 rfl rfl)
theorem dX4_frost_56 : decode cX4_frost 56 = .ok (.aload_n 0, 1) := dk_42 (dk_at dksX4_frost_2 10 rfl rfl)
theorem dX4_frost_57 : decode cX4_frost 57 = .ok (.aload_n 0, 1) := dk_42 (dk_at dksX4_frost_2 11 rfl rfl)
theorem dX4_frost_58 : decode cX4_frost 58 = .ok (.getfield 463, 3) := dk_180 1 207 (dk_at dksX4_frost_2 12 rfl rfl)
theorem dX4_frost_61 : decode cX4_frost 61 = .ok (.i2l, 1) := dk_133 (dk_at dksX4_frost_2 15 rfl rfl)
theorem dX4_frost_62 : decode cX4_frost 62 = .ok (.putfield 466, 3) := dk_181 1 210 (dk_at dksX4_frost_2 16 rfl rfl)
theorem dX4_frost_65 : decode cX4_frost 65 = .ok (.iconst 0, 1) := dk_3 (dk_at dksX4_frost_2 19 rfl rfl)
theorem dX4_frost_66 : decode cX4_frost 66 = .ok (.istore 5, 2) := dk_54 5 (dk_at dksX4_frost_2 20 rfl rfl)
theorem dX4_frost_68 : decode cX4_frost 68 = .ok (.iconst 0, 1) := dk_3 (dk_at dksX4_frost_2 22 rfl rfl)
theorem dX4_frost_69 : decode cX4_frost 69 = .ok (.istore 6, 2) := dk_54 6 (dk_at dksX4_frost_3 0 rfl rfl)
theorem dX4_frost_71 : decode cX4_frost 71 = .ok (.aload_n 0, 1) := dk_42 (dk_at dksX4_frost_3 2 rfl rfl)
theorem dX4_frost_72 : decode cX4_frost 72 = .ok (.invokevirtual 416, 3) := dk_182 1 160 (dk_at dksX4_frost_3 3 rfl rfl)
theorem dX4_frost_75 : decode cX4_frost 75 = .ok (.iconst 0, 1) := dk_3 (dk_at dksX4_frost_3 6 rfl rfl)
theorem dX4_frost_76 : decode cX4_frost 76 = .ok (.istore 7, 2) := dk_54 7 (dk_at dksX4_frost_3 7 rfl rfl)
theorem dX4_frost_78 : decode cX4_frost 78 = .ok (.iload 7, 2) := dk_21 7 (dk_at dksX4_frost_3 9 rfl rfl)
theorem dX4_frost_80 : decode cX4_frost 80 = .ok (.iload_n 1, 1) := dk_27 (dk_at dksX4_frost_3 11 rfl rfl)
theorem dX4_frost_81 : decode cX4_frost 81 = .ok (.if_icmp .ge 88, 3) := dk_162 0 88 (dk_at dksX4_frost_3 12 rfl rfl)
theorem dX4_frost_84 : decode cX4_frost 84 = .ok (.iconst 0, 1) := dk_3 (dk_at dksX4_frost_3 15 rfl rfl)
theorem dX4_frost_85 : decode cX4_frost 85 = .ok (.istore 8, 2) := dk_54 8 (dk_at dksX4_frost_3 16 rfl rfl)
theorem dX4_frost_87 : decode cX4_frost 87 = .ok (.iload 8, 2) := dk_21 8 (dk_at dksX4_frost_3 18 rfl rfl)
theorem dX4_frost_89 : decode cX4_frost 89 = .ok (.iload_n 2, 1) := dk_28 (dk_at dksX4_frost_3 20 rfl rfl)
theorem dX4_frost_90 : decode cX4_frost 90 = .ok (.if_icmp .ge 47, 3) := dk_162 0 47 (dk_at dksX4_frost_3 21 rfl rfl)
theorem dX4_frost_93 : decode cX4_frost 93 = .ok (.aload_n 0, 1) := dk_42 (dk_at dksX4_frost_4 0 rfl rfl)
theorem dX4_frost_94 : decode cX4_frost 94 = .ok (.bipush 100, 2) := dk_16 100 (dk_at dksX4_frost_4 1 rfl rfl)
theorem dX4_frost_96 : decode cX4_frost 96 = .ok (.invokevirtual 480, 3) := dk_182 1 224 (dk_at dksX4_frost_4 3 rfl rfl)
theorem dX4_frost_99 : decode cX4_frost 99 = .ok (.iload_n 3, 1) := dk_29 (dk_at dksX4_frost_4 6 rfl rfl)
theorem dX4_frost_100 : decode cX4_frost 100 = .ok (.if_icmp .ge 26, 3) := dk_162 0 26 (dk_at dksX4_frost_4 7 rfl rfl)
theorem dX4_frost_103 : decode cX4_frost 103 = .ok (.aload_n 0, 1) := dk_42 (dk_at dksX4_frost_4 10 rfl rfl)
theorem dX4_frost_104 : decode cX4_frost 104 = .ok (.getfield 39, 3) := dk_180 0 39 (dk_at dksX4_frost_4 11 rfl rfl)
theorem dX4_frost_107 : decode cX4_frost 107 = .ok (.iconst 2, 1) := dk_5 (dk_at dksX4_frost_4 14 rfl rfl)
theorem dX4_frost_108 : decode cX4_frost 108 = .ok (.iaload, 1) := dk_46 (dk_at dksX4_frost_4 15 rfl rfl)
theorem dX4_frost_109 : decode cX4_frost 109 = .ok (.ifCond .le 17, 3) := dk_158 0 17 (dk_at dksX4_frost_4 16 rfl rfl)
theorem dX4_frost_112 : decode cX4_frost 112 = .ok (.aload_n 0, 1) := dk_42 (dk_at dksX4_frost_4 19 rfl rfl)
theorem dX4_frost_113 : decode cX4_frost 113 = .ok (.aload_n 0, 1) := dk_42 (dk_at dksX4_frost_4 20 rfl rfl)
theorem dX4_frost_114 : decode cX4_frost 114 = .ok (.aload_n 0, 1) := dk_42 (dk_at dksX4_frost_4 21 rfl rfl)
theorem dX4_frost_115 : decode cX4_frost 115 = .ok (.getfield 39, 3) := dk_180 0 39 (dk_at dksX4_frost_5 0 rfl rfl)
theorem dX4_frost_118 : decode cX4_frost 118 = .ok (.iconst 2, 1) := dk_5 (dk_at dksX4_frost_5 3 rfl rfl)
theorem dX4_frost_119 : decode cX4_frost 119 = .ok (.iaload, 1) := dk_46 (dk_at dksX4_frost_5 4 rfl rfl)
theorem dX4_frost_120 : decode cX4_frost 120 = .ok (.invokevirtual 480, 3) := dk_182 1 224 (dk_at dksX4_frost_5 5 rfl rfl)
theorem dX4_frost_123 : decode cX4_frost 123 = .ok (.invokevirtual 483, 3) := dk_182 1 227 (dk_at dksX4_frost_5 8 rfl rfl)
theorem dX4_frost_126 : decode cX4_frost 126 = .ok (.aload_n 0, 1) := dk_42 (dk_at dksX4_frost_5 11 rfl rfl)
theorem dX4_frost_127 : decode cX4_frost 127 = .ok (.invokevirtual 359, 3) := dk_182 1 103 (dk_at dksX4_frost_5 12 rfl rfl)
theorem dX4_frost_130 : decode cX4_frost 130 = .ok (.pop, 1) := dk_87 (dk_at dksX4_frost_5 15 rfl rfl)
theorem dX4_frost_131 : decode cX4_frost 131 = .ok (.iinc 8 1, 3) := dk_132 8 1 (dk_at dksX4_frost_5 16 rfl rfl)
theorem dX4_frost_134 : decode cX4_frost 134 = .ok (.goto (-47), 3) := dk_167 255 209 (dk_at dksX4_frost_5 19 rfl rfl)
theorem dX4_frost_137 : decode cX4_frost 137 = .ok (.iload 5, 2) := dk_21 5 (dk_at dksX4_frost_5 22 rfl rfl)
theorem dX4_frost_139 : decode cX4_frost 139 = .ok (.aload_n 0, 1) := dk_42 (dk_at dksX4_frost_6 0 rfl rfl)
theorem dX4_frost_140 : decode cX4_frost 140 = .ok (.invokevirtual 327, 3) := dk_182 1 71 (dk_at dksX4_frost_6 1 rfl rfl)
theorem dX4_frost_143 : decode cX4_frost 143 = .ok (.invokestatic 330, 3) := dk_184 1 74 (dk_at dksX4_frost_6 4 rfl rfl)
theorem dX4_frost_146 : decode cX4_frost 146 = .ok (.iadd, 1) := dk_96 (dk_at dksX4_frost_6 7 rfl rfl)
theorem dX4_frost_147 : decode cX4_frost 147 = .ok (.istore 5, 2) := dk_54 5 (dk_at dksX4_frost_6 8 rfl rfl)
theorem dX4_frost_149 : decode cX4_frost 149 = .ok (.iload 6, 2) := dk_21 6 (dk_at dksX4_frost_6 10 rfl rfl)
theorem dX4_frost_151 : decode cX4_frost 151 = .ok (.aload_n 0, 1) := dk_42 (dk_at dksX4_frost_6 12 rfl rfl)
theorem dX4_frost_152 : decode cX4_frost 152 = .ok (.iconst 2, 1) := dk_5 (dk_at dksX4_frost_6 13 rfl rfl)
theorem dX4_frost_153 : decode cX4_frost 153 = .ok (.invokevirtual 442, 3) := dk_182 1 186 (dk_at dksX4_frost_6 14 rfl rfl)
theorem dX4_frost_156 : decode cX4_frost 156 = .ok (.iadd, 1) := dk_96 (dk_at dksX4_frost_6 17 rfl rfl)
theorem dX4_frost_157 : decode cX4_frost 157 = .ok (.istore 6, 2) := dk_54 6 (dk_at dksX4_frost_6 18 rfl rfl)
theorem dX4_frost_159 : decode cX4_frost 159 = .ok (.aload_n 0, 1) := dk_42 (dk_at dksX4_frost_6 20 rfl rfl)
theorem dX4_frost_160 : decode cX4_frost 160 = .ok (.invokevirtual 422, 3) := dk_182 1 166 (dk_at dksX4_frost_6 21 rfl rfl)
theorem dX4_frost_163 : decode cX4_frost 163 = .ok (.iinc 7 1, 3) := dk_132 7 1 (dk_at dksX4_frost_7 0 rfl rfl)
theorem dX4_frost_166 : decode cX4_frost 166 = .ok (.goto (-88), 3) := dk_167 255 168 (dk_at dksX4_frost_7 3 rfl rfl)
theorem dX4_frost_169 : decode cX4_frost 169 = .ok (.iload 4, 2) := dk_21 4 (dk_at dksX4_frost_7 6 rfl rfl)
theorem dX4_frost_171 : decode cX4_frost 171 = .ok (.ifCond .ne 8, 3) := dk_154 0 8 (dk_at dksX4_frost_7 8 rfl rfl)
theorem dX4_frost_174 : decode cX4_frost 174 = .ok (.iload 5, 2) := dk_21 5 (dk_at dksX4_frost_7 11 rfl rfl)
theorem dX4_frost_176 : decode cX4_frost 176 = .ok (.goto 5, 3) := dk_167 0 5 (dk_at dksX4_frost_7 13 rfl rfl)
theorem dX4_frost_179 : decode cX4_frost 179 = .ok (.iload 6, 2) := dk_21 6 (dk_at dksX4_frost_7 16 rfl rfl)
theorem dX4_frost_181 : decode cX4_frost 181 = .ok (.ireturn, 1) := dk_172 (dk_at dksX4_frost_7 18 rfl rfl)
abbrev cX4_draw : ByteArray := prog_19_method_115_code
def yX4_draw : MethodName := ⟨RX4, "draw", "(I)I"⟩
def dkwX4_draw_1 : List UInt8 := [20, 1, 220, 109, 27, 133, 113, 136, 172]
abbrev dktX4_draw_1 : List UInt8 := dkwX4_draw_1 ++ []
def dkwX4_draw_0 : List UInt8 := [42, 42, 180, 1, 210, 20, 1, 214, 105, 20, 1, 216, 97, 20, 1, 218, 113, 181, 1, 210, 42, 180, 1, 210]
abbrev dktX4_draw_0 : List UInt8 := dkwX4_draw_0 ++ dktX4_draw_1
theorem dksX4_draw_0 : cX4_draw.data.toList.drop 0 = dktX4_draw_0 := by decide +kernel
theorem dksX4_draw_1 : cX4_draw.data.toList.drop 24 = dktX4_draw_1 := dk_seg dksX4_draw_0 24 rfl rfl
theorem dX4_draw_0 : decode cX4_draw 0 = .ok (.aload_n 0, 1) := dk_42 (dk_at dksX4_draw_0 0 rfl rfl)
theorem dX4_draw_1 : decode cX4_draw 1 = .ok (.aload_n 0, 1) := dk_42 (dk_at dksX4_draw_0 1 rfl rfl)
theorem dX4_draw_2 : decode cX4_draw 2 = .ok (.getfield 466, 3) := dk_180 1 210 (dk_at dksX4_draw_0 2 rfl rfl)
theorem dX4_draw_5 : decode cX4_draw 5 = .ok (.ldc2_w 470, 3) := dk_20 1 214 (dk_at dksX4_draw_0 5 rfl rfl)
theorem dX4_draw_8 : decode cX4_draw 8 = .ok (.lmul, 1) := dk_105 (dk_at dksX4_draw_0 8 rfl rfl)
theorem dX4_draw_9 : decode cX4_draw 9 = .ok (.ldc2_w 472, 3) := dk_20 1 216 (dk_at dksX4_draw_0 9 rfl rfl)
theorem dX4_draw_12 : decode cX4_draw 12 = .ok (.ladd, 1) := dk_97 (dk_at dksX4_draw_0 12 rfl rfl)
theorem dX4_draw_13 : decode cX4_draw 13 = .ok (.ldc2_w 474, 3) := dk_20 1 218 (dk_at dksX4_draw_0 13 rfl rfl)
theorem dX4_draw_16 : decode cX4_draw 16 = .ok (.lrem, 1) := dk_113 (dk_at dksX4_draw_0 16 rfl rfl)
theorem dX4_draw_17 : decode cX4_draw 17 = .ok (.putfield 466, 3) := dk_181 1 210 (dk_at dksX4_draw_0 17 rfl rfl)
theorem dX4_draw_20 : decode cX4_draw 20 = .ok (.aload_n 0, 1) := dk_42 (dk_at dksX4_draw_0 20 rfl rfl)
theorem dX4_draw_21 : decode cX4_draw 21 = .ok (.getfield 466, 3) := dk_180 1 210 (dk_at dksX4_draw_0 21 rfl rfl)
theorem dX4_draw_24 : decode cX4_draw 24 = .ok (.ldc2_w 476, 3) := dk_20 1 220 (dk_at dksX4_draw_1 0 rfl rfl)
theorem dX4_draw_27 : decode cX4_draw 27 = .ok (.ldiv, 1) := dk_109 (dk_at dksX4_draw_1 3 rfl rfl)
theorem dX4_draw_28 : decode cX4_draw 28 = .ok (.iload_n 1, 1) := dk_27 (dk_at dksX4_draw_1 4 rfl rfl)
theorem dX4_draw_29 : decode cX4_draw 29 = .ok (.i2l, 1) := dk_133 (dk_at dksX4_draw_1 5 rfl rfl)
theorem dX4_draw_30 : decode cX4_draw 30 = .ok (.lrem, 1) := dk_113 (dk_at dksX4_draw_1 6 rfl rfl)
theorem dX4_draw_31 : decode cX4_draw 31 = .ok (.l2i, 1) := dk_136 (dk_at dksX4_draw_1 7 rfl rfl)
theorem dX4_draw_32 : decode cX4_draw 32 = .ok (.ireturn, 1) := dk_172 (dk_at dksX4_draw_1 8 rfl rfl)
abbrev cX4_freezes : ByteArray := prog_19_method_116_code
def yX4_freezes : MethodName := ⟨RX4, "freezes", "(I)V"⟩
def dkwX4_freezes_1 : List UInt8 := [3, 182, 1, 36, 162, 0, 7, 28, 167, 0, 11, 42, 27, 3, 182, 1, 36, 4, 100, 182, 1, 43, 177]
abbrev dktX4_freezes_1 : List UInt8 := dkwX4_freezes_1 ++ []
def dkwX4_freezes_0 : List UInt8 := [42, 27, 182, 1, 40, 154, 0, 4, 177, 42, 27, 5, 182, 1, 36, 6, 96, 61, 42, 27, 5, 28, 42, 27]
abbrev dktX4_freezes_0 : List UInt8 := dkwX4_freezes_0 ++ dktX4_freezes_1
theorem dksX4_freezes_0 : cX4_freezes.data.toList.drop 0 = dktX4_freezes_0 := by decide +kernel
theorem dksX4_freezes_1 : cX4_freezes.data.toList.drop 24 = dktX4_freezes_1 := dk_seg dksX4_freezes_0 24 rfl rfl
theorem dX4_freezes_0 : decode cX4_freezes 0 = .ok (.aload_n 0, 1) := dk_42 (dk_at dksX4_freezes_0 0 rfl rfl)
theorem dX4_freezes_1 : decode cX4_freezes 1 = .ok (.iload_n 1, 1) := dk_27 (dk_at dksX4_freezes_0 1 rfl rfl)
theorem dX4_freezes_2 : decode cX4_freezes 2 = .ok (.invokevirtual 296, 3) := dk_182 1 40 (dk_at dksX4_freezes_0 2 rfl rfl)
theorem dX4_freezes_5 : decode cX4_freezes 5 = .ok (.ifCond .ne 4, 3) := dk_154 0 4 (dk_at dksX4_freezes_0 5 rfl rfl)
theorem dX4_freezes_8 : decode cX4_freezes 8 = .ok (.return_, 1) := dk_177 (dk_at dksX4_freezes_0 8 rfl rfl)
theorem dX4_freezes_9 : decode cX4_freezes 9 = .ok (.aload_n 0, 1) := dk_42 (dk_at dksX4_freezes_0 9 rfl rfl)
theorem dX4_freezes_10 : decode cX4_freezes 10 = .ok (.iload_n 1, 1) := dk_27 (dk_at dksX4_freezes_0 10 rfl rfl)
theorem dX4_freezes_11 : decode cX4_freezes 11 = .ok (.iconst 2, 1) := dk_5 (dk_at dksX4_freezes_0 11 rfl rfl)
theorem dX4_freezes_12 : decode cX4_freezes 12 = .ok (.invokevirtual 292, 3) := dk_182 1 36 (dk_at dksX4_freezes_0 12 rfl rfl)
theorem dX4_freezes_15 : decode cX4_freezes 15 = .ok (.iconst 3, 1) := dk_6 (dk_at dksX4_freezes_0 15 rfl rfl)
theorem dX4_freezes_16 : decode cX4_freezes 16 = .ok (.iadd, 1) := dk_96 (dk_at dksX4_freezes_0 16 rfl rfl)
theorem dX4_freezes_17 : decode cX4_freezes 17 = .ok (.istore_n 2, 1) := dk_61 (dk_at dksX4_freezes_0 17 rfl rfl)
theorem dX4_freezes_18 : decode cX4_freezes 18 = .ok (.aload_n 0, 1) := dk_42 (dk_at dksX4_freezes_0 18 rfl rfl)
theorem dX4_freezes_19 : decode cX4_freezes 19 = .ok (.iload_n 1, 1) := dk_27 (dk_at dksX4_freezes_0 19 rfl rfl)
theorem dX4_freezes_20 : decode cX4_freezes 20 = .ok (.iconst 2, 1) := dk_5 (dk_at dksX4_freezes_0 20 rfl rfl)
theorem dX4_freezes_21 : decode cX4_freezes 21 = .ok (.iload_n 2, 1) := dk_28 (dk_at dksX4_freezes_0 21 rfl rfl)
theorem dX4_freezes_22 : decode cX4_freezes 22 = .ok (.aload_n 0, 1) := dk_42 (dk_at dksX4_freezes_0 22 rfl rfl)
theorem dX4_freezes_23 : decode cX4_freezes 23 = .ok (.iload_n 1, 1) := dk_27 (dk_at dksX4_freezes_0 23 rfl rfl)
theorem dX4_freezes_24 : decode cX4_freezes 24 = .ok (.iconst 0, 1) := dk_3 (dk_at dksX4_freezes_1 0 rfl rfl)
theorem dX4_freezes_25 : decode cX4_freezes 25 = .ok (.invokevirtual 292, 3) := dk_182 1 36 (dk_at dksX4_freezes_1 1 rfl rfl)
theorem dX4_freezes_28 : decode cX4_freezes 28 = .ok (.if_icmp .ge 7, 3) := dk_162 0 7 (dk_at dksX4_freezes_1 4 rfl rfl)
theorem dX4_freezes_31 : decode cX4_freezes 31 = .ok (.iload_n 2, 1) := dk_28 (dk_at dksX4_freezes_1 7 rfl rfl)
theorem dX4_freezes_32 : decode cX4_freezes 32 = .ok (.goto 11, 3) := dk_167 0 11 (dk_at dksX4_freezes_1 8 rfl rfl)
theorem dX4_freezes_35 : decode cX4_freezes 35 = .ok (.aload_n 0, 1) := dk_42 (dk_at dksX4_freezes_1 11 rfl rfl)
theorem dX4_freezes_36 : decode cX4_freezes 36 = .ok (.iload_n 1, 1) := dk_27 (dk_at dksX4_freezes_1 12 rfl rfl)
theorem dX4_freezes_37 : decode cX4_freezes 37 = .ok (.iconst 0, 1) := dk_3 (dk_at dksX4_freezes_1 13 rfl rfl)
theorem dX4_freezes_38 : decode cX4_freezes 38 = .ok (.invokevirtual 292, 3) := dk_182 1 36 (dk_at dksX4_freezes_1 14 rfl rfl)
theorem dX4_freezes_41 : decode cX4_freezes 41 = .ok (.iconst 1, 1) := dk_4 (dk_at dksX4_freezes_1 17 rfl rfl)
theorem dX4_freezes_42 : decode cX4_freezes 42 = .ok (.isub, 1) := dk_100 (dk_at dksX4_freezes_1 18 rfl rfl)
theorem dX4_freezes_43 : decode cX4_freezes 43 = .ok (.invokevirtual 299, 3) := dk_182 1 43 (dk_at dksX4_freezes_1 19 rfl rfl)
theorem dX4_freezes_46 : decode cX4_freezes 46 = .ok (.return_, 1) := dk_177 (dk_at dksX4_freezes_1 22 rfl rfl)
abbrev cX4_count : ByteArray := prog_19_method_118_code
def yX4_count : MethodName := ⟨RX4, "count", "(I)I"⟩
def dkwX4_count_4 : List UInt8 := [180, 0, 39, 16, 113, 46, 172, 42, 180, 1, 15, 172, 42, 180, 1, 207, 172, 42, 180, 0, 86, 172, 2, 172]
abbrev dktX4_count_4 : List UInt8 := dkwX4_count_4 ++ []
def dkwX4_count_3 : List UInt8 := [16, 10, 46, 172, 42, 182, 1, 71, 172, 42, 6, 182, 1, 186, 172, 42, 5, 182, 1, 186, 172, 42]
abbrev dktX4_count_3 : List UInt8 := dkwX4_count_3 ++ dktX4_count_4
def dkwX4_count_2 : List UInt8 := [42, 180, 0, 39, 27, 4, 96, 46, 172, 42, 180, 1, 6, 172, 42, 180, 0, 42, 172, 42, 180, 0, 39]
abbrev dktX4_count_2 : List UInt8 := dkwX4_count_2 ++ dktX4_count_3
def dkwX4_count_1 : List UInt8 := [170, 0, 0, 0, 0, 0, 130, 0, 0, 0, 0, 0, 0, 0, 11, 0, 0, 0, 63, 0, 0, 0, 63, 0, 0, 0, 72, 0, 0, 0, 77, 0, 0, 0, 82, 0, 0, 0, 90, 0, 0, 0, 95, 0, 0, 0, 101, 0, 0, 0, 107, 0, 0, 0, 115, 0, 0, 0, 120, 0, 0, 0, 125]
abbrev dktX4_count_1 : List UInt8 := dkwX4_count_1 ++ dktX4_count_2
def dkwX4_count_0 : List UInt8 := [27]
abbrev dktX4_count_0 : List UInt8 := dkwX4_count_0 ++ dktX4_count_1
theorem dksX4_count_0 : cX4_count.data.toList.drop 0 = dktX4_count_0 := by decide +kernel
theorem dksX4_count_1 : cX4_count.data.toList.drop 1 = dktX4_count_1 := dk_seg dksX4_count_0 1 rfl rfl
theorem dksX4_count_2 : cX4_count.data.toList.drop 64 = dktX4_count_2 := dk_seg dksX4_count_1 63 rfl rfl
theorem dksX4_count_3 : cX4_count.data.toList.drop 87 = dktX4_count_3 := dk_seg dksX4_count_2 23 rfl rfl
theorem dksX4_count_4 : cX4_count.data.toList.drop 109 = dktX4_count_4 := dk_seg dksX4_count_3 22 rfl rfl
theorem dX4_count_0 : decode cX4_count 0 = .ok (.iload_n 1, 1) := dk_27 (dk_at dksX4_count_0 0 rfl rfl)
theorem dX4_count_1 : decode cX4_count 1 = .ok (.tableswitch 130 0 11 #[63, 63, 72, 77, 82, 90, 95, 101, 107, 115, 120, 125], 63) := by decide +kernel
theorem dX4_count_64 : decode cX4_count 64 = .ok (.aload_n 0, 1) := dk_42 (dk_at dksX4_count_2 0 rfl rfl)
theorem dX4_count_65 : decode cX4_count 65 = .ok (.getfield 39, 3) := dk_180 0 39 (dk_at dksX4_count_2 1 rfl rfl)
theorem dX4_count_68 : decode cX4_count 68 = .ok (.iload_n 1, 1) := dk_27 (dk_at dksX4_count_2 4 rfl rfl)
theorem dX4_count_69 : decode cX4_count 69 = .ok (.iconst 1, 1) := dk_4 (dk_at dksX4_count_2 5 rfl rfl)
theorem dX4_count_70 : decode cX4_count 70 = .ok (.iadd, 1) := dk_96 (dk_at dksX4_count_2 6 rfl rfl)
theorem dX4_count_71 : decode cX4_count 71 = .ok (.iaload, 1) := dk_46 (dk_at dksX4_count_2 7 rfl rfl)
theorem dX4_count_72 : decode cX4_count 72 = .ok (.ireturn, 1) := dk_172 (dk_at dksX4_count_2 8 rfl rfl)
theorem dX4_count_73 : decode cX4_count 73 = .ok (.aload_n 0, 1) := dk_42 (dk_at dksX4_count_2 9 rfl rfl)
theorem dX4_count_74 : decode cX4_count 74 = .ok (.getfield 262, 3) := dk_180 1 6 (dk_at dksX4_count_2 10 rfl rfl)
theorem dX4_count_77 : decode cX4_count 77 = .ok (.ireturn, 1) := dk_172 (dk_at dksX4_count_2 13 rfl rfl)
theorem dX4_count_78 : decode cX4_count 78 = .ok (.aload_n 0, 1) := dk_42 (dk_at dksX4_count_2 14 rfl rfl)
theorem dX4_count_79 : decode cX4_count 79 = .ok (.getfield 42, 3) := dk_180 0 42 (dk_at dksX4_count_2 15 rfl rfl)
theorem dX4_count_82 : decode cX4_count 82 = .ok (.ireturn, 1) := dk_172 (dk_at dksX4_count_2 18 rfl rfl)
theorem dX4_count_83 : decode cX4_count 83 = .ok (.aload_n 0, 1) := dk_42 (dk_at dksX4_count_2 19 rfl rfl)
theorem dX4_count_84 : decode cX4_count 84 = .ok (.getfield 39, 3) := dk_180 0 39 (dk_at dksX4_count_2 20 rfl rfl)
theorem dX4_count_87 : decode cX4_count 87 = .ok (.bipush 10, 2) := dk_16 10 (dk_at dksX4_count_3 0 rfl rfl)
theorem dX4_count_89 : decode cX4_count 89 = .ok (.iaload, 1) := dk_46 (dk_at dksX4_count_3 2 rfl rfl)
theorem dX4_count_90 : decode cX4_count 90 = .ok (.ireturn, 1) := dk_172 (dk_at dksX4_count_3 3 rfl rfl)
theorem dX4_count_91 : decode cX4_count 91 = .ok (.aload_n 0, 1) := dk_42 (dk_at dksX4_count_3 4 rfl rfl)
theorem dX4_count_92 : decode cX4_count 92 = .ok (.invokevirtual 327, 3) := dk_182 1 71 (dk_at dksX4_count_3 5 rfl rfl)
theorem dX4_count_95 : decode cX4_count 95 = .ok (.ireturn, 1) := dk_172 (dk_at dksX4_count_3 8 rfl rfl)
theorem dX4_count_96 : decode cX4_count 96 = .ok (.aload_n 0, 1) := dk_42 (dk_at dksX4_count_3 9 rfl rfl)
theorem dX4_count_97 : decode cX4_count 97 = .ok (.iconst 3, 1) := dk_6 (dk_at dksX4_count_3 10 rfl rfl)
theorem dX4_count_98 : decode cX4_count 98 = .ok (.invokevirtual 442, 3) := dk_182 1 186 (dk_at dksX4_count_3 11 rfl rfl)
theorem dX4_count_101 : decode cX4_count 101 = .ok (.ireturn, 1) := dk_172 (dk_at dksX4_count_3 14 rfl rfl)
theorem dX4_count_102 : decode cX4_count 102 = .ok (.aload_n 0, 1) := dk_42 (dk_at dksX4_count_3 15 rfl rfl)
theorem dX4_count_103 : decode cX4_count 103 = .ok (.iconst 2, 1) := dk_5 (dk_at dksX4_count_3 16 rfl rfl)
theorem dX4_count_104 : decode cX4_count 104 = .ok (.invokevirtual 442, 3) := dk_182 1 186 (dk_at dksX4_count_3 17 rfl rfl)
theorem dX4_count_107 : decode cX4_count 107 = .ok (.ireturn, 1) := dk_172 (dk_at dksX4_count_3 20 rfl rfl)
theorem dX4_count_108 : decode cX4_count 108 = .ok (.aload_n 0, 1) := dk_42 (dk_at dksX4_count_3 21 rfl rfl)
theorem dX4_count_109 : decode cX4_count 109 = .ok (.getfield 39, 3) := dk_180 0 39 (dk_at dksX4_count_4 0 rfl rfl)
theorem dX4_count_112 : decode cX4_count 112 = .ok (.bipush 113, 2) := dk_16 113 (dk_at dksX4_count_4 3 rfl rfl)
theorem dX4_count_114 : decode cX4_count 114 = .ok (.iaload, 1) := dk_46 (dk_at dksX4_count_4 5 rfl rfl)
theorem dX4_count_115 : decode cX4_count 115 = .ok (.ireturn, 1) := dk_172 (dk_at dksX4_count_4 6 rfl rfl)
theorem dX4_count_116 : decode cX4_count 116 = .ok (.aload_n 0, 1) := dk_42 (dk_at dksX4_count_4 7 rfl rfl)
theorem dX4_count_117 : decode cX4_count 117 = .ok (.getfield 271, 3) := dk_180 1 15 (dk_at dksX4_count_4 8 rfl rfl)
theorem dX4_count_120 : decode cX4_count 120 = .ok (.ireturn, 1) := dk_172 (dk_at dksX4_count_4 11 rfl rfl)
theorem dX4_count_121 : decode cX4_count 121 = .ok (.aload_n 0, 1) := dk_42 (dk_at dksX4_count_4 12 rfl rfl)
theorem dX4_count_122 : decode cX4_count 122 = .ok (.getfield 463, 3) := dk_180 1 207 (dk_at dksX4_count_4 13 rfl rfl)
theorem dX4_count_125 : decode cX4_count 125 = .ok (.ireturn, 1) := dk_172 (dk_at dksX4_count_4 16 rfl rfl)
theorem dX4_count_126 : decode cX4_count 126 = .ok (.aload_n 0, 1) := dk_42 (dk_at dksX4_count_4 17 rfl rfl)
theorem dX4_count_127 : decode cX4_count 127 = .ok (.getfield 86, 3) := dk_180 0 86 (dk_at dksX4_count_4 18 rfl rfl)
theorem dX4_count_130 : decode cX4_count 130 = .ok (.ireturn, 1) := dk_172 (dk_at dksX4_count_4 21 rfl rfl)
theorem dX4_count_131 : decode cX4_count 131 = .ok (.iconst (-1), 1) := dk_2 (dk_at dksX4_count_4 22 rfl rfl)
theorem dX4_count_132 : decode cX4_count 132 = .ok (.ireturn, 1) := dk_172 (dk_at dksX4_count_4 23 rfl rfl)
abbrev cX4_image : ByteArray := prog_19_method_119_code
def yX4_image : MethodName := ⟨RX4, "image", "(I)I"⟩
def dkwX4_image_3 : List UInt8 := [167, 255, 230, 42, 180, 0, 39, 16, 10, 46, 172]
abbrev dktX4_image_3 : List UInt8 := dkwX4_image_3 ++ []
def dkwX4_image_2 : List UInt8 := [162, 0, 26, 42, 180, 0, 74, 16, 114, 27, 104, 28, 96, 42, 180, 0, 39, 28, 46, 79, 132, 2, 1]
abbrev dktX4_image_2 : List UInt8 := dkwX4_image_2 ++ dktX4_image_3
def dkwX4_image_1 : List UInt8 := [180, 0, 77, 27, 42, 180, 0, 42, 79, 42, 180, 0, 80, 27, 42, 180, 1, 207, 79, 3, 61, 28, 16, 114]
abbrev dktX4_image_1 : List UInt8 := dkwX4_image_1 ++ dktX4_image_2
def dkwX4_image_0 : List UInt8 := [27, 133, 9, 20, 1, 230, 184, 0, 124, 154, 0, 5, 2, 172, 42, 180, 0, 83, 27, 4, 84, 42]
abbrev dktX4_image_0 : List UInt8 := dkwX4_image_0 ++ dktX4_image_1
theorem dksX4_image_0 : cX4_image.data.toList.drop 0 = dktX4_image_0 := by decide +kernel
theorem dksX4_image_1 : cX4_image.data.toList.drop 22 = dktX4_image_1 := dk_seg dksX4_image_0 22 rfl rfl
theorem dksX4_image_2 : cX4_image.data.toList.drop 46 = dktX4_image_2 := dk_seg dksX4_image_1 24 rfl rfl
theorem dksX4_image_3 : cX4_image.data.toList.drop 69 = dktX4_image_3 := dk_seg dksX4_image_2 23 rfl rfl
theorem dX4_image_0 : decode cX4_image 0 = .ok (.iload_n 1, 1) := dk_27 (dk_at dksX4_image_0 0 rfl rfl)
theorem dX4_image_1 : decode cX4_image 1 = .ok (.i2l, 1) := dk_133 (dk_at dksX4_image_0 1 rfl rfl)
theorem dX4_image_2 : decode cX4_image 2 = .ok (.lconst 0, 1) := dk_9 (dk_at dksX4_image_0 2 rfl rfl)
theorem dX4_image_3 : decode cX4_image 3 = .ok (.ldc2_w 486, 3) := dk_20 1 230 (dk_at dksX4_image_0 3 rfl rfl)
theorem dX4_image_6 : decode cX4_image 6 = .ok (.invokestatic 124, 3) := dk_184 0 124 (dk_at dksX4_image_0 6 rfl rfl)
theorem dX4_image_9 : decode cX4_image 9 = .ok (.ifCond .ne 5, 3) := dk_154 0 5 (dk_at dksX4_image_0 9 rfl rfl)
theorem dX4_image_12 : decode cX4_image 12 = .ok (.iconst (-1), 1) := dk_2 (dk_at dksX4_image_0 12 rfl rfl)
theorem dX4_image_13 : decode cX4_image 13 = .ok (.ireturn, 1) := dk_172 (dk_at dksX4_image_0 13 rfl rfl)
theorem dX4_image_14 : decode cX4_image 14 = .ok (.aload_n 0, 1) := dk_42 (dk_at dksX4_image_0 14 rfl rfl)
theorem dX4_image_15 : decode cX4_image 15 = .ok (.getfield 83, 3) := dk_180 0 83 (dk_at dksX4_image_0 15 rfl rfl)
theorem dX4_image_18 : decode cX4_image 18 = .ok (.iload_n 1, 1) := dk_27 (dk_at dksX4_image_0 18 rfl rfl)
theorem dX4_image_19 : decode cX4_image 19 = .ok (.iconst 1, 1) := dk_4 (dk_at dksX4_image_0 19 rfl rfl)
theorem dX4_image_20 : decode cX4_image 20 = .ok (.bastore, 1) := dk_84 (dk_at dksX4_image_0 20 rfl rfl)
theorem dX4_image_21 : decode cX4_image 21 = .ok (.aload_n 0, 1) := dk_42 (dk_at dksX4_image_0 21 rfl rfl)
theorem dX4_image_22 : decode cX4_image 22 = .ok (.getfield 77, 3) := dk_180 0 77 (dk_at dksX4_image_1 0 rfl rfl)
theorem dX4_image_25 : decode cX4_image 25 = .ok (.iload_n 1, 1) := dk_27 (dk_at dksX4_image_1 3 rfl rfl)
theorem dX4_image_26 : decode cX4_image 26 = .ok (.aload_n 0, 1) := dk_42 (dk_at dksX4_image_1 4 rfl rfl)
theorem dX4_image_27 : decode cX4_image 27 = .ok (.getfield 42, 3) := dk_180 0 42 (dk_at dksX4_image_1 5 rfl rfl)
theorem dX4_image_30 : decode cX4_image 30 = .ok (.iastore, 1) := dk_79 (dk_at dksX4_image_1 8 rfl rfl)
theorem dX4_image_31 : decode cX4_image 31 = .ok (.aload_n 0, 1) := dk_42 (dk_at dksX4_image_1 9 rfl rfl)
theorem dX4_image_32 : decode cX4_image 32 = .ok (.getfield 80, 3) := dk_180 0 80 (dk_at dksX4_image_1 10 rfl rfl)
theorem dX4_image_35 : decode cX4_image 35 = .ok (.iload_n 1, 1) := dk_27 (dk_at dksX4_image_1 13 rfl rfl)
theorem dX4_image_36 : decode cX4_image 36 = .ok (.aload_n 0, 1) := dk_42 (dk_at dksX4_image_1 14 rfl rfl)
theorem dX4_image_37 : decode cX4_image 37 = .ok (.getfield 463, 3) := dk_180 1 207 (dk_at dksX4_image_1 15 rfl rfl)
theorem dX4_image_40 : decode cX4_image 40 = .ok (.iastore, 1) := dk_79 (dk_at dksX4_image_1 18 rfl rfl)
theorem dX4_image_41 : decode cX4_image 41 = .ok (.iconst 0, 1) := dk_3 (dk_at dksX4_image_1 19 rfl rfl)
theorem dX4_image_42 : decode cX4_image 42 = .ok (.istore_n 2, 1) := dk_61 (dk_at dksX4_image_1 20 rfl rfl)
theorem dX4_image_43 : decode cX4_image 43 = .ok (.iload_n 2, 1) := dk_28 (dk_at dksX4_image_1 21 rfl rfl)
theorem dX4_image_44 : decode cX4_image 44 = .ok (.bipush 114, 2) := dk_16 114 (dk_at dksX4_image_1 22 rfl rfl)
theorem dX4_image_46 : decode cX4_image 46 = .ok (.if_icmp .ge 26, 3) := dk_162 0 26 (dk_at dksX4_image_2 0 rfl rfl)
theorem dX4_image_49 : decode cX4_image 49 = .ok (.aload_n 0, 1) := dk_42 (dk_at dksX4_image_2 3 rfl rfl)
theorem dX4_image_50 : decode cX4_image 50 = .ok (.getfield 74, 3) := dk_180 0 74 (dk_at dksX4_image_2 4 rfl rfl)
theorem dX4_image_53 : decode cX4_image 53 = .ok (.bipush 114, 2) := dk_16 114 (dk_at dksX4_image_2 7 rfl rfl)
theorem dX4_image_55 : decode cX4_image 55 = .ok (.iload_n 1, 1) := dk_27 (dk_at dksX4_image_2 9 rfl rfl)
theorem dX4_image_56 : decode cX4_image 56 = .ok (.imul, 1) := dk_104 (dk_at dksX4_image_2 10 rfl rfl)
theorem dX4_image_57 : decode cX4_image 57 = .ok (.iload_n 2, 1) := dk_28 (dk_at dksX4_image_2 11 rfl rfl)
theorem dX4_image_58 : decode cX4_image 58 = .ok (.iadd, 1) := dk_96 (dk_at dksX4_image_2 12 rfl rfl)
theorem dX4_image_59 : decode cX4_image 59 = .ok (.aload_n 0, 1) := dk_42 (dk_at dksX4_image_2 13 rfl rfl)
theorem dX4_image_60 : decode cX4_image 60 = .ok (.getfield 39, 3) := dk_180 0 39 (dk_at dksX4_image_2 14 rfl rfl)
theorem dX4_image_63 : decode cX4_image 63 = .ok (.iload_n 2, 1) := dk_28 (dk_at dksX4_image_2 17 rfl rfl)
theorem dX4_image_64 : decode cX4_image 64 = .ok (.iaload, 1) := dk_46 (dk_at dksX4_image_2 18 rfl rfl)
theorem dX4_image_65 : decode cX4_image 65 = .ok (.iastore, 1) := dk_79 (dk_at dksX4_image_2 19 rfl rfl)
theorem dX4_image_66 : decode cX4_image 66 = .ok (.iinc 2 1, 3) := dk_132 2 1 (dk_at dksX4_image_2 20 rfl rfl)
theorem dX4_image_69 : decode cX4_image 69 = .ok (.goto (-26), 3) := dk_167 255 230 (dk_at dksX4_image_3 0 rfl rfl)
theorem dX4_image_72 : decode cX4_image 72 = .ok (.aload_n 0, 1) := dk_42 (dk_at dksX4_image_3 3 rfl rfl)
theorem dX4_image_73 : decode cX4_image 73 = .ok (.getfield 39, 3) := dk_180 0 39 (dk_at dksX4_image_3 4 rfl rfl)
theorem dX4_image_76 : decode cX4_image 76 = .ok (.bipush 10, 2) := dk_16 10 (dk_at dksX4_image_3 7 rfl rfl)
theorem dX4_image_78 : decode cX4_image 78 = .ok (.iaload, 1) := dk_46 (dk_at dksX4_image_3 9 rfl rfl)
theorem dX4_image_79 : decode cX4_image 79 = .ok (.ireturn, 1) := dk_172 (dk_at dksX4_image_3 10 rfl rfl)
abbrev cX4_back : ByteArray := prog_19_method_120_code
def yX4_back : MethodName := ⟨RX4, "back", "(I)I"⟩
def dkwX4_back_3 : List UInt8 := [79, 132, 2, 1, 167, 255, 230, 42, 180, 0, 39, 16, 10, 46, 172]
abbrev dktX4_back_3 : List UInt8 := dkwX4_back_3 ++ []
def dkwX4_back_2 : List UInt8 := [3, 61, 28, 16, 114, 162, 0, 26, 42, 180, 0, 39, 28, 42, 180, 0, 74, 16, 114, 27, 104, 28, 96, 46]
abbrev dktX4_back_2 : List UInt8 := dkwX4_back_2 ++ dktX4_back_3
def dkwX4_back_1 : List UInt8 := [42, 180, 0, 77, 27, 46, 181, 0, 42, 42, 42, 180, 0, 80, 27, 46, 181, 1, 207, 42, 3, 181, 1, 15]
abbrev dktX4_back_1 : List UInt8 := dkwX4_back_1 ++ dktX4_back_2
def dkwX4_back_0 : List UInt8 := [27, 133, 9, 20, 1, 230, 184, 0, 124, 153, 0, 12, 42, 180, 0, 83, 27, 51, 154, 0, 5, 2, 172, 42]
abbrev dktX4_back_0 : List UInt8 := dkwX4_back_0 ++ dktX4_back_1
theorem dksX4_back_0 : cX4_back.data.toList.drop 0 = dktX4_back_0 := by decide +kernel
theorem dksX4_back_1 : cX4_back.data.toList.drop 24 = dktX4_back_1 := dk_seg dksX4_back_0 24 rfl rfl
theorem dksX4_back_2 : cX4_back.data.toList.drop 48 = dktX4_back_2 := dk_seg dksX4_back_1 24 rfl rfl
theorem dksX4_back_3 : cX4_back.data.toList.drop 72 = dktX4_back_3 := dk_seg dksX4_back_2 24 rfl rfl
theorem dX4_back_0 : decode cX4_back 0 = .ok (.iload_n 1, 1) := dk_27 (dk_at dksX4_back_0 0 rfl rfl)
theorem dX4_back_1 : decode cX4_back 1 = .ok (.i2l, 1) := dk_133 (dk_at dksX4_back_0 1 rfl rfl)
theorem dX4_back_2 : decode cX4_back 2 = .ok (.lconst 0, 1) := dk_9 (dk_at dksX4_back_0 2 rfl rfl)
theorem dX4_back_3 : decode cX4_back 3 = .ok (.ldc2_w 486, 3) := dk_20 1 230 (dk_at dksX4_back_0 3 rfl rfl)
theorem dX4_back_6 : decode cX4_back 6 = .ok (.invokestatic 124, 3) := dk_184 0 124 (dk_at dksX4_back_0 6 rfl rfl)
theorem dX4_back_9 : decode cX4_back 9 = .ok (.ifCond .eq 12, 3) := dk_153 0 12 (dk_at dksX4_back_0 9 rfl rfl)
theorem dX4_back_12 : decode cX4_back 12 = .ok (.aload_n 0, 1) := dk_42 (dk_at dksX4_back_0 12 rfl rfl)
theorem dX4_back_13 : decode cX4_back 13 = .ok (.getfield 83, 3) := dk_180 0 83 (dk_at dksX4_back_0 13 rfl rfl)
theorem dX4_back_16 : decode cX4_back 16 = .ok (.iload_n 1, 1) := dk_27 (dk_at dksX4_back_0 16 rfl rfl)
theorem dX4_back_17 : decode cX4_back 17 = .ok (.baload, 1) := dk_51 (dk_at dksX4_back_0 17 rfl rfl)
theorem dX4_back_18 : decode cX4_back 18 = .ok (.ifCond .ne 5, 3) := dk_154 0 5 (dk_at dksX4_back_0 18 rfl rfl)
theorem dX4_back_21 : decode cX4_back 21 = .ok (.iconst (-1), 1) := dk_2 (dk_at dksX4_back_0 21 rfl rfl)
theorem dX4_back_22 : decode cX4_back 22 = .ok (.ireturn, 1) := dk_172 (dk_at dksX4_back_0 22 rfl rfl)
theorem dX4_back_23 : decode cX4_back 23 = .ok (.aload_n 0, 1) := dk_42 (dk_at dksX4_back_0 23 rfl rfl)
theorem dX4_back_24 : decode cX4_back 24 = .ok (.aload_n 0, 1) := dk_42 (dk_at dksX4_back_1 0 rfl rfl)
theorem dX4_back_25 : decode cX4_back 25 = .ok (.getfield 77, 3) := dk_180 0 77 (dk_at dksX4_back_1 1 rfl rfl)
theorem dX4_back_28 : decode cX4_back 28 = .ok (.iload_n 1, 1) := dk_27 (dk_at dksX4_back_1 4 rfl rfl)
theorem dX4_back_29 : decode cX4_back 29 = .ok (.iaload, 1) := dk_46 (dk_at dksX4_back_1 5 rfl rfl)
theorem dX4_back_30 : decode cX4_back 30 = .ok (.putfield 42, 3) := dk_181 0 42 (dk_at dksX4_back_1 6 rfl rfl)
theorem dX4_back_33 : decode cX4_back 33 = .ok (.aload_n 0, 1) := dk_42 (dk_at dksX4_back_1 9 rfl rfl)
theorem dX4_back_34 : decode cX4_back 34 = .ok (.aload_n 0, 1) := dk_42 (dk_at dksX4_back_1 10 rfl rfl)
theorem dX4_back_35 : decode cX4_back 35 = .ok (.getfield 80, 3) := dk_180 0 80 (dk_at dksX4_back_1 11 rfl rfl)
theorem dX4_back_38 : decode cX4_back 38 = .ok (.iload_n 1, 1) := dk_27 (dk_at dksX4_back_1 14 rfl rfl)
theorem dX4_back_39 : decode cX4_back 39 = .ok (.iaload, 1) := dk_46 (dk_at dksX4_back_1 15 rfl rfl)
theorem dX4_back_40 : decode cX4_back 40 = .ok (.putfield 463, 3) := dk_181 1 207 (dk_at dksX4_back_1 16 rfl rfl)
theorem dX4_back_43 : decode cX4_back 43 = .ok (.aload_n 0, 1) := dk_42 (dk_at dksX4_back_1 19 rfl rfl)
theorem dX4_back_44 : decode cX4_back 44 = .ok (.iconst 0, 1) := dk_3 (dk_at dksX4_back_1 20 rfl rfl)
theorem dX4_back_45 : decode cX4_back 45 = .ok (.putfield 271, 3) := dk_181 1 15 (dk_at dksX4_back_1 21 rfl rfl)
theorem dX4_back_48 : decode cX4_back 48 = .ok (.iconst 0, 1) := dk_3 (dk_at dksX4_back_2 0 rfl rfl)
theorem dX4_back_49 : decode cX4_back 49 = .ok (.istore_n 2, 1) := dk_61 (dk_at dksX4_back_2 1 rfl rfl)
theorem dX4_back_50 : decode cX4_back 50 = .ok (.iload_n 2, 1) := dk_28 (dk_at dksX4_back_2 2 rfl rfl)
theorem dX4_back_51 : decode cX4_back 51 = .ok (.bipush 114, 2) := dk_16 114 (dk_at dksX4_back_2 3 rfl rfl)
theorem dX4_back_53 : decode cX4_back 53 = .ok (.if_icmp .ge 26, 3) := dk_162 0 26 (dk_at dksX4_back_2 5 rfl rfl)
theorem dX4_back_56 : decode cX4_back 56 = .ok (.aload_n 0, 1) := dk_42 (dk_at dksX4_back_2 8 rfl rfl)
theorem dX4_back_57 : decode cX4_back 57 = .ok (.getfield 39, 3) := dk_180 0 39 (dk_at dksX4_back_2 9 rfl rfl)
theorem dX4_back_60 : decode cX4_back 60 = .ok (.iload_n 2, 1) := dk_28 (dk_at dksX4_back_2 12 rfl rfl)
theorem dX4_back_61 : decode cX4_back 61 = .ok (.aload_n 0, 1) := dk_42 (dk_at dksX4_back_2 13 rfl rfl)
theorem dX4_back_62 : decode cX4_back 62 = .ok (.getfield 74, 3) := dk_180 0 74 (dk_at dksX4_back_2 14 rfl rfl)
theorem dX4_back_65 : decode cX4_back 65 = .ok (.bipush 114, 2) := dk_16 114 (dk_at dksX4_back_2 17 rfl rfl)
theorem dX4_back_67 : decode cX4_back 67 = .ok (.iload_n 1, 1) := dk_27 (dk_at dksX4_back_2 19 rfl rfl)
theorem dX4_back_68 : decode cX4_back 68 = .ok (.imul, 1) := dk_104 (dk_at dksX4_back_2 20 rfl rfl)
theorem dX4_back_69 : decode cX4_back 69 = .ok (.iload_n 2, 1) := dk_28 (dk_at dksX4_back_2 21 rfl rfl)
theorem dX4_back_70 : decode cX4_back 70 = .ok (.iadd, 1) := dk_96 (dk_at dksX4_back_2 22 rfl rfl)
theorem dX4_back_71 : decode cX4_back 71 = .ok (.iaload, 1) := dk_46 (dk_at dksX4_back_2 23 rfl rfl)
theorem dX4_back_72 : decode cX4_back 72 = .ok (.iastore, 1) := dk_79 (dk_at dksX4_back_3 0 rfl rfl)
theorem dX4_back_73 : decode cX4_back 73 = .ok (.iinc 2 1, 3) := dk_132 2 1 (dk_at dksX4_back_3 1 rfl rfl)
theorem dX4_back_76 : decode cX4_back 76 = .ok (.goto (-26), 3) := dk_167 255 230 (dk_at dksX4_back_3 4 rfl rfl)
theorem dX4_back_79 : decode cX4_back 79 = .ok (.aload_n 0, 1) := dk_42 (dk_at dksX4_back_3 7 rfl rfl)
theorem dX4_back_80 : decode cX4_back 80 = .ok (.getfield 39, 3) := dk_180 0 39 (dk_at dksX4_back_3 8 rfl rfl)
theorem dX4_back_83 : decode cX4_back 83 = .ok (.bipush 10, 2) := dk_16 10 (dk_at dksX4_back_3 11 rfl rfl)
theorem dX4_back_85 : decode cX4_back 85 = .ok (.iaload, 1) := dk_46 (dk_at dksX4_back_3 13 rfl rfl)
theorem dX4_back_86 : decode cX4_back 86 = .ok (.ireturn, 1) := dk_172 (dk_at dksX4_back_3 14 rfl rfl)
theorem q136 : (Jvm.Cond.initialized "ConkerYardModel") ∈ lw_all := lw_g (lw_at lw_m1 10 rfl) rfl
theorem q645 : (Jvm.Cond.selects "ConkerYardModel" ({ cls := "java/lang/Object", name := "getClass", desc := "()Ljava/lang/Class;" } : Jvm.MethodName) ({ cls := "java/lang/Object", name := "getClass", desc := "()Ljava/lang/Class;" } : Jvm.MethodName)) ∈ lw_all := lw_g (lw_at lw_m3 39 rfl) rfl
theorem q1234 : (Jvm.Cond.instantiable "ConkerYardModel" (43 : Nat)) ∈ lw_all := lw_g (lw_at lw_m5 148 rfl) rfl
theorem q1236 : (Jvm.Cond.instanceMethod ({ cls := "ConkerYardModel", name := "<init>", desc := "()V" } : Jvm.MethodName)) ∈ lw_all := lw_g (lw_at lw_m5 150 rfl) rfl
theorem q1237 : (Jvm.Cond.code ({ cls := "ConkerYardModel", name := "<init>", desc := "()V" } : Jvm.MethodName) prog_19_method_1_code (1 : Nat) (Option.none : Option Jvm.ClassFile.FieldType)) ∈ lw_all := lw_g (lw_at lw_m5 151 rfl) rfl
theorem q1238 : (Jvm.Cond.methodLink "ConkerYardModel" (1 : Nat) ({ cls := "java/lang/Object", name := "<init>", desc := "()V" } : Jvm.MethodName)) ∈ lw_all := lw_g (lw_at lw_m5 152 rfl) rfl
theorem q1239 : (Jvm.Cond.fieldLink "ConkerYardModel" (7 : Nat) "ConkerYardModel" "tape" "[B") ∈ lw_all := lw_g (lw_at lw_m5 153 rfl) rfl
theorem q1240 : (Jvm.Cond.fieldLink "ConkerYardModel" (86 : Nat) "ConkerYardModel" "taped" "I") ∈ lw_all := lw_g (lw_at lw_m5 154 rfl) rfl
theorem q1241 : (Jvm.Cond.fieldLink "ConkerYardModel" (262 : Nat) "ConkerYardModel" "rules" "I") ∈ lw_all := lw_g (lw_at lw_m5 155 rfl) rfl
theorem q1242 : (Jvm.Cond.fieldLink "ConkerYardModel" (13 : Nat) "ConkerYardModel" "sign" "[I") ∈ lw_all := lw_g (lw_at lw_m5 156 rfl) rfl
theorem q1243 : (Jvm.Cond.fieldLink "ConkerYardModel" (17 : Nat) "ConkerYardModel" "length" "[I") ∈ lw_all := lw_g (lw_at lw_m5 157 rfl) rfl
theorem q1244 : (Jvm.Cond.fieldLink "ConkerYardModel" (20 : Nat) "ConkerYardModel" "clause" "[I") ∈ lw_all := lw_g (lw_at lw_m5 158 rfl) rfl
theorem q1245 : (Jvm.Cond.fieldLink "ConkerYardModel" (23 : Nat) "ConkerYardModel" "clauses" "[I") ∈ lw_all := lw_g (lw_at lw_m5 159 rfl) rfl
theorem q1246 : (Jvm.Cond.fieldLink "ConkerYardModel" (26 : Nat) "ConkerYardModel" "read" "[I") ∈ lw_all := lw_g (lw_at lw_m5 160 rfl) rfl
theorem q1247 : (Jvm.Cond.fieldLink "ConkerYardModel" (96 : Nat) "ConkerYardModel" "next" "I") ∈ lw_all := lw_g (lw_at lw_m5 161 rfl) rfl
theorem q1248 : (Jvm.Cond.fieldLink "ConkerYardModel" (93 : Nat) "ConkerYardModel" "wrong" "I") ∈ lw_all := lw_g (lw_at lw_m5 162 rfl) rfl
theorem q1249 : (Jvm.Cond.fieldLink "ConkerYardModel" (121 : Nat) "ConkerYardModel" "number" "I") ∈ lw_all := lw_g (lw_at lw_m5 163 rfl) rfl
theorem q1250 : (Jvm.Cond.fieldLink "ConkerYardModel" (154 : Nat) "ConkerYardModel" "text" "I") ∈ lw_all := lw_g (lw_at lw_m5 164 rfl) rfl
theorem q1251 : (Jvm.Cond.fieldLink "ConkerYardModel" (157 : Nat) "ConkerYardModel" "made" "I") ∈ lw_all := lw_g (lw_at lw_m5 165 rfl) rfl
theorem q1252 : (Jvm.Cond.fieldLink "ConkerYardModel" (160 : Nat) "ConkerYardModel" "deep" "I") ∈ lw_all := lw_g (lw_at lw_m5 166 rfl) rfl
theorem q1253 : (Jvm.Cond.fieldLink "ConkerYardModel" (250 : Nat) "ConkerYardModel" "lines" "I") ∈ lw_all := lw_g (lw_at lw_m5 167 rfl) rfl
theorem q1254 : (Jvm.Cond.fieldLink "ConkerYardModel" (29 : Nat) "ConkerYardModel" "open" "[I") ∈ lw_all := lw_g (lw_at lw_m5 168 rfl) rfl
theorem q1255 : (Jvm.Cond.fieldLink "ConkerYardModel" (163 : Nat) "ConkerYardModel" "opened" "I") ∈ lw_all := lw_g (lw_at lw_m5 169 rfl) rfl
theorem q1256 : (Jvm.Cond.fieldLink "ConkerYardModel" (32 : Nat) "ConkerYardModel" "stack" "[J") ∈ lw_all := lw_g (lw_at lw_m5 170 rfl) rfl
theorem q1257 : (Jvm.Cond.fieldLink "ConkerYardModel" (274 : Nat) "ConkerYardModel" "top" "I") ∈ lw_all := lw_g (lw_at lw_m5 171 rfl) rfl
theorem q1258 : (Jvm.Cond.fieldLink "ConkerYardModel" (36 : Nat) "ConkerYardModel" "word" "[J") ∈ lw_all := lw_g (lw_at lw_m5 172 rfl) rfl
theorem q1259 : (Jvm.Cond.fieldLink "ConkerYardModel" (39 : Nat) "ConkerYardModel" "said" "[I") ∈ lw_all := lw_g (lw_at lw_m5 173 rfl) rfl
theorem q1260 : (Jvm.Cond.fieldLink "ConkerYardModel" (42 : Nat) "ConkerYardModel" "force" "I") ∈ lw_all := lw_g (lw_at lw_m5 174 rfl) rfl
theorem q1261 : (Jvm.Cond.fieldLink "ConkerYardModel" (463 : Nat) "ConkerYardModel" "x" "I") ∈ lw_all := lw_g (lw_at lw_m5 175 rfl) rfl
theorem q1262 : (Jvm.Cond.fieldLink "ConkerYardModel" (314 : Nat) "ConkerYardModel" "struckMany" "I") ∈ lw_all := lw_g (lw_at lw_m5 176 rfl) rfl
theorem q1263 : (Jvm.Cond.fieldLink "ConkerYardModel" (308 : Nat) "ConkerYardModel" "cracksOne" "I") ∈ lw_all := lw_g (lw_at lw_m5 177 rfl) rfl
theorem q1264 : (Jvm.Cond.fieldLink "ConkerYardModel" (311 : Nat) "ConkerYardModel" "cracksOther" "I") ∈ lw_all := lw_g (lw_at lw_m5 178 rfl) rfl
theorem q1265 : (Jvm.Cond.fieldLink "ConkerYardModel" (340 : Nat) "ConkerYardModel" "first" "I") ∈ lw_all := lw_g (lw_at lw_m5 179 rfl) rfl
theorem q1266 : (Jvm.Cond.fieldLink "ConkerYardModel" (343 : Nat) "ConkerYardModel" "second" "I") ∈ lw_all := lw_g (lw_at lw_m5 180 rfl) rfl
theorem q1267 : (Jvm.Cond.fieldLink "ConkerYardModel" (46 : Nat) "ConkerYardModel" "wasSaid" "[I") ∈ lw_all := lw_g (lw_at lw_m5 181 rfl) rfl
theorem q1268 : (Jvm.Cond.fieldLink "ConkerYardModel" (271 : Nat) "ConkerYardModel" "undone" "I") ∈ lw_all := lw_g (lw_at lw_m5 182 rfl) rfl
theorem q1269 : (Jvm.Cond.fieldLink "ConkerYardModel" (49 : Nat) "ConkerYardModel" "victims" "[I") ∈ lw_all := lw_g (lw_at lw_m5 183 rfl) rfl
theorem q1270 : (Jvm.Cond.fieldLink "ConkerYardModel" (52 : Nat) "ConkerYardModel" "field" "[I") ∈ lw_all := lw_g (lw_at lw_m5 184 rfl) rfl
theorem q1271 : (Jvm.Cond.fieldLink "ConkerYardModel" (55 : Nat) "ConkerYardModel" "rung" "[I") ∈ lw_all := lw_g (lw_at lw_m5 185 rfl) rfl
theorem q1272 : (Jvm.Cond.fieldLink "ConkerYardModel" (58 : Nat) "ConkerYardModel" "rungBest" "[I") ∈ lw_all := lw_g (lw_at lw_m5 186 rfl) rfl
theorem q1273 : (Jvm.Cond.fieldLink "ConkerYardModel" (61 : Nat) "ConkerYardModel" "kept" "[I") ∈ lw_all := lw_g (lw_at lw_m5 187 rfl) rfl
theorem q1274 : (Jvm.Cond.fieldLink "ConkerYardModel" (64 : Nat) "ConkerYardModel" "hasBy" "[I") ∈ lw_all := lw_g (lw_at lw_m5 188 rfl) rfl
theorem q1275 : (Jvm.Cond.fieldLink "ConkerYardModel" (67 : Nat) "ConkerYardModel" "isFit" "[Z") ∈ lw_all := lw_g (lw_at lw_m5 189 rfl) rfl
theorem q1276 : (Jvm.Cond.fieldLink "ConkerYardModel" (71 : Nat) "ConkerYardModel" "wholeThen" "[I") ∈ lw_all := lw_g (lw_at lw_m5 190 rfl) rfl
theorem q1277 : (Jvm.Cond.fieldLink "ConkerYardModel" (466 : Nat) "ConkerYardModel" "drawX" "J") ∈ lw_all := lw_g (lw_at lw_m5 191 rfl) rfl
theorem q1278 : (Jvm.Cond.fieldLink "ConkerYardModel" (74 : Nat) "ConkerYardModel" "images" "[I") ∈ lw_all := lw_g (lw_at lw_m5 192 rfl) rfl
theorem q1279 : (Jvm.Cond.fieldLink "ConkerYardModel" (77 : Nat) "ConkerYardModel" "imageForce" "[I") ∈ lw_all := lw_g (lw_at lw_m5 193 rfl) rfl
theorem q1280 : (Jvm.Cond.fieldLink "ConkerYardModel" (80 : Nat) "ConkerYardModel" "imageX" "[I") ∈ lw_all := lw_g (lw_at lw_m5 194 rfl) rfl
theorem q1281 : (Jvm.Cond.fieldLink "ConkerYardModel" (83 : Nat) "ConkerYardModel" "isMade" "[Z") ∈ lw_all := lw_g (lw_at lw_m5 195 rfl) rfl
theorem q1282 : (Jvm.Cond.laysFinal "ConkerYardModel" "ConkerYardModel" "tape" "[B") ∈ lw_all := lw_g (lw_at lw_m5 196 rfl) rfl
theorem q1283 : (Jvm.Cond.soleField "ConkerYardModel" "tape") ∈ lw_all := lw_g (lw_at lw_m5 197 rfl) rfl
theorem q1284 : (Jvm.Cond.lays "ConkerYardModel" "ConkerYardModel" "taped" "I") ∈ lw_all := lw_g (lw_at lw_m5 198 rfl) rfl
theorem q1285 : (Jvm.Cond.soleField "ConkerYardModel" "taped") ∈ lw_all := lw_g (lw_at lw_m5 199 rfl) rfl
theorem q1286 : (Jvm.Cond.lays "ConkerYardModel" "ConkerYardModel" "rules" "I") ∈ lw_all := lw_g (lw_at lw_m5 200 rfl) rfl
theorem q1287 : (Jvm.Cond.soleField "ConkerYardModel" "rules") ∈ lw_all := lw_g (lw_at lw_m5 201 rfl) rfl
theorem q1288 : (Jvm.Cond.laysFinal "ConkerYardModel" "ConkerYardModel" "sign" "[I") ∈ lw_all := lw_g (lw_at lw_m5 202 rfl) rfl
theorem q1289 : (Jvm.Cond.soleField "ConkerYardModel" "sign") ∈ lw_all := lw_g (lw_at lw_m5 203 rfl) rfl
theorem q1290 : (Jvm.Cond.laysFinal "ConkerYardModel" "ConkerYardModel" "length" "[I") ∈ lw_all := lw_g (lw_at lw_m5 204 rfl) rfl
theorem q1291 : (Jvm.Cond.soleField "ConkerYardModel" "length") ∈ lw_all := lw_g (lw_at lw_m5 205 rfl) rfl
theorem q1292 : (Jvm.Cond.laysFinal "ConkerYardModel" "ConkerYardModel" "clause" "[I") ∈ lw_all := lw_g (lw_at lw_m5 206 rfl) rfl
theorem q1293 : (Jvm.Cond.soleField "ConkerYardModel" "clause") ∈ lw_all := lw_g (lw_at lw_m5 207 rfl) rfl
theorem q1294 : (Jvm.Cond.laysFinal "ConkerYardModel" "ConkerYardModel" "clauses" "[I") ∈ lw_all := lw_g (lw_at lw_m5 208 rfl) rfl
theorem q1295 : (Jvm.Cond.soleField "ConkerYardModel" "clauses") ∈ lw_all := lw_g (lw_at lw_m5 209 rfl) rfl
theorem q1296 : (Jvm.Cond.laysFinal "ConkerYardModel" "ConkerYardModel" "read" "[I") ∈ lw_all := lw_g (lw_at lw_m5 210 rfl) rfl
theorem q1297 : (Jvm.Cond.soleField "ConkerYardModel" "read") ∈ lw_all := lw_g (lw_at lw_m5 211 rfl) rfl
theorem q1298 : (Jvm.Cond.lays "ConkerYardModel" "ConkerYardModel" "next" "I") ∈ lw_all := lw_g (lw_at lw_m5 212 rfl) rfl
theorem q1299 : (Jvm.Cond.soleField "ConkerYardModel" "next") ∈ lw_all := lw_g (lw_at lw_m5 213 rfl) rfl
theorem q1300 : (Jvm.Cond.lays "ConkerYardModel" "ConkerYardModel" "wrong" "I") ∈ lw_all := lw_g (lw_at lw_m5 214 rfl) rfl
theorem q1301 : (Jvm.Cond.soleField "ConkerYardModel" "wrong") ∈ lw_all := lw_g (lw_at lw_m5 215 rfl) rfl
theorem q1302 : (Jvm.Cond.lays "ConkerYardModel" "ConkerYardModel" "number" "I") ∈ lw_all := lw_g (lw_at lw_m5 216 rfl) rfl
theorem q1303 : (Jvm.Cond.soleField "ConkerYardModel" "number") ∈ lw_all := lw_g (lw_at lw_m5 217 rfl) rfl
theorem q1304 : (Jvm.Cond.lays "ConkerYardModel" "ConkerYardModel" "text" "I") ∈ lw_all := lw_g (lw_at lw_m5 218 rfl) rfl
theorem q1305 : (Jvm.Cond.soleField "ConkerYardModel" "text") ∈ lw_all := lw_g (lw_at lw_m5 219 rfl) rfl
theorem q1306 : (Jvm.Cond.lays "ConkerYardModel" "ConkerYardModel" "made" "I") ∈ lw_all := lw_g (lw_at lw_m5 220 rfl) rfl
theorem q1307 : (Jvm.Cond.soleField "ConkerYardModel" "made") ∈ lw_all := lw_g (lw_at lw_m5 221 rfl) rfl
theorem q1308 : (Jvm.Cond.lays "ConkerYardModel" "ConkerYardModel" "deep" "I") ∈ lw_all := lw_g (lw_at lw_m5 222 rfl) rfl
theorem q1309 : (Jvm.Cond.soleField "ConkerYardModel" "deep") ∈ lw_all := lw_g (lw_at lw_m5 223 rfl) rfl
theorem q1310 : (Jvm.Cond.lays "ConkerYardModel" "ConkerYardModel" "lines" "I") ∈ lw_all := lw_g (lw_at lw_m5 224 rfl) rfl
theorem q1311 : (Jvm.Cond.soleField "ConkerYardModel" "lines") ∈ lw_all := lw_g (lw_at lw_m5 225 rfl) rfl
theorem q1312 : (Jvm.Cond.laysFinal "ConkerYardModel" "ConkerYardModel" "open" "[I") ∈ lw_all := lw_g (lw_at lw_m5 226 rfl) rfl
theorem q1313 : (Jvm.Cond.soleField "ConkerYardModel" "open") ∈ lw_all := lw_g (lw_at lw_m5 227 rfl) rfl
theorem q1314 : (Jvm.Cond.lays "ConkerYardModel" "ConkerYardModel" "opened" "I") ∈ lw_all := lw_g (lw_at lw_m5 228 rfl) rfl
theorem q1315 : (Jvm.Cond.soleField "ConkerYardModel" "opened") ∈ lw_all := lw_g (lw_at lw_m5 229 rfl) rfl
theorem q1316 : (Jvm.Cond.laysFinal "ConkerYardModel" "ConkerYardModel" "stack" "[J") ∈ lw_all := lw_g (lw_at lw_m5 230 rfl) rfl
theorem q1317 : (Jvm.Cond.soleField "ConkerYardModel" "stack") ∈ lw_all := lw_g (lw_at lw_m5 231 rfl) rfl
theorem q1318 : (Jvm.Cond.lays "ConkerYardModel" "ConkerYardModel" "top" "I") ∈ lw_all := lw_g (lw_at lw_m5 232 rfl) rfl
theorem q1319 : (Jvm.Cond.soleField "ConkerYardModel" "top") ∈ lw_all := lw_g (lw_at lw_m5 233 rfl) rfl
theorem q1320 : (Jvm.Cond.laysFinal "ConkerYardModel" "ConkerYardModel" "word" "[J") ∈ lw_all := lw_g (lw_at lw_m5 234 rfl) rfl
theorem q1321 : (Jvm.Cond.soleField "ConkerYardModel" "word") ∈ lw_all := lw_g (lw_at lw_m5 235 rfl) rfl
theorem q1322 : (Jvm.Cond.laysFinal "ConkerYardModel" "ConkerYardModel" "said" "[I") ∈ lw_all := lw_g (lw_at lw_m5 236 rfl) rfl
theorem q1323 : (Jvm.Cond.soleField "ConkerYardModel" "said") ∈ lw_all := lw_g (lw_at lw_m5 237 rfl) rfl
theorem q1324 : (Jvm.Cond.lays "ConkerYardModel" "ConkerYardModel" "force" "I") ∈ lw_all := lw_g (lw_at lw_m5 238 rfl) rfl
theorem q1325 : (Jvm.Cond.soleField "ConkerYardModel" "force") ∈ lw_all := lw_g (lw_at lw_m5 239 rfl) rfl
theorem q1326 : (Jvm.Cond.lays "ConkerYardModel" "ConkerYardModel" "x" "I") ∈ lw_all := lw_g (lw_at lw_m6 0 rfl) rfl
theorem q1327 : (Jvm.Cond.soleField "ConkerYardModel" "x") ∈ lw_all := lw_g (lw_at lw_m6 1 rfl) rfl
theorem q1328 : (Jvm.Cond.lays "ConkerYardModel" "ConkerYardModel" "struckMany" "I") ∈ lw_all := lw_g (lw_at lw_m6 2 rfl) rfl
theorem q1329 : (Jvm.Cond.soleField "ConkerYardModel" "struckMany") ∈ lw_all := lw_g (lw_at lw_m6 3 rfl) rfl
theorem q1330 : (Jvm.Cond.lays "ConkerYardModel" "ConkerYardModel" "cracksOne" "I") ∈ lw_all := lw_g (lw_at lw_m6 4 rfl) rfl
theorem q1331 : (Jvm.Cond.soleField "ConkerYardModel" "cracksOne") ∈ lw_all := lw_g (lw_at lw_m6 5 rfl) rfl
theorem q1332 : (Jvm.Cond.lays "ConkerYardModel" "ConkerYardModel" "cracksOther" "I") ∈ lw_all := lw_g (lw_at lw_m6 6 rfl) rfl
theorem q1333 : (Jvm.Cond.soleField "ConkerYardModel" "cracksOther") ∈ lw_all := lw_g (lw_at lw_m6 7 rfl) rfl
theorem q1334 : (Jvm.Cond.lays "ConkerYardModel" "ConkerYardModel" "first" "I") ∈ lw_all := lw_g (lw_at lw_m6 8 rfl) rfl
theorem q1335 : (Jvm.Cond.soleField "ConkerYardModel" "first") ∈ lw_all := lw_g (lw_at lw_m6 9 rfl) rfl
theorem q1336 : (Jvm.Cond.lays "ConkerYardModel" "ConkerYardModel" "second" "I") ∈ lw_all := lw_g (lw_at lw_m6 10 rfl) rfl
theorem q1337 : (Jvm.Cond.soleField "ConkerYardModel" "second") ∈ lw_all := lw_g (lw_at lw_m6 11 rfl) rfl
theorem q1338 : (Jvm.Cond.laysFinal "ConkerYardModel" "ConkerYardModel" "wasSaid" "[I") ∈ lw_all := lw_g (lw_at lw_m6 12 rfl) rfl
theorem q1339 : (Jvm.Cond.soleField "ConkerYardModel" "wasSaid") ∈ lw_all := lw_g (lw_at lw_m6 13 rfl) rfl
theorem q1340 : (Jvm.Cond.lays "ConkerYardModel" "ConkerYardModel" "undone" "I") ∈ lw_all := lw_g (lw_at lw_m6 14 rfl) rfl
theorem q1341 : (Jvm.Cond.soleField "ConkerYardModel" "undone") ∈ lw_all := lw_g (lw_at lw_m6 15 rfl) rfl
theorem q1342 : (Jvm.Cond.laysFinal "ConkerYardModel" "ConkerYardModel" "victims" "[I") ∈ lw_all := lw_g (lw_at lw_m6 16 rfl) rfl
theorem q1343 : (Jvm.Cond.soleField "ConkerYardModel" "victims") ∈ lw_all := lw_g (lw_at lw_m6 17 rfl) rfl
theorem q1344 : (Jvm.Cond.laysFinal "ConkerYardModel" "ConkerYardModel" "field" "[I") ∈ lw_all := lw_g (lw_at lw_m6 18 rfl) rfl
theorem q1345 : (Jvm.Cond.soleField "ConkerYardModel" "field") ∈ lw_all := lw_g (lw_at lw_m6 19 rfl) rfl
theorem q1346 : (Jvm.Cond.laysFinal "ConkerYardModel" "ConkerYardModel" "rung" "[I") ∈ lw_all := lw_g (lw_at lw_m6 20 rfl) rfl
theorem q1347 : (Jvm.Cond.soleField "ConkerYardModel" "rung") ∈ lw_all := lw_g (lw_at lw_m6 21 rfl) rfl
theorem q1348 : (Jvm.Cond.laysFinal "ConkerYardModel" "ConkerYardModel" "rungBest" "[I") ∈ lw_all := lw_g (lw_at lw_m6 22 rfl) rfl
theorem q1349 : (Jvm.Cond.soleField "ConkerYardModel" "rungBest") ∈ lw_all := lw_g (lw_at lw_m6 23 rfl) rfl
theorem q1350 : (Jvm.Cond.laysFinal "ConkerYardModel" "ConkerYardModel" "kept" "[I") ∈ lw_all := lw_g (lw_at lw_m6 24 rfl) rfl
theorem q1351 : (Jvm.Cond.soleField "ConkerYardModel" "kept") ∈ lw_all := lw_g (lw_at lw_m6 25 rfl) rfl
theorem q1352 : (Jvm.Cond.laysFinal "ConkerYardModel" "ConkerYardModel" "hasBy" "[I") ∈ lw_all := lw_g (lw_at lw_m6 26 rfl) rfl
theorem q1353 : (Jvm.Cond.soleField "ConkerYardModel" "hasBy") ∈ lw_all := lw_g (lw_at lw_m6 27 rfl) rfl
theorem q1354 : (Jvm.Cond.laysFinal "ConkerYardModel" "ConkerYardModel" "isFit" "[Z") ∈ lw_all := lw_g (lw_at lw_m6 28 rfl) rfl
theorem q1355 : (Jvm.Cond.soleField "ConkerYardModel" "isFit") ∈ lw_all := lw_g (lw_at lw_m6 29 rfl) rfl
theorem q1356 : (Jvm.Cond.laysFinal "ConkerYardModel" "ConkerYardModel" "wholeThen" "[I") ∈ lw_all := lw_g (lw_at lw_m6 30 rfl) rfl
theorem q1357 : (Jvm.Cond.soleField "ConkerYardModel" "wholeThen") ∈ lw_all := lw_g (lw_at lw_m6 31 rfl) rfl
theorem q1358 : (Jvm.Cond.lays "ConkerYardModel" "ConkerYardModel" "drawX" "J") ∈ lw_all := lw_g (lw_at lw_m6 32 rfl) rfl
theorem q1359 : (Jvm.Cond.soleField "ConkerYardModel" "drawX") ∈ lw_all := lw_g (lw_at lw_m6 33 rfl) rfl
theorem q1360 : (Jvm.Cond.laysFinal "ConkerYardModel" "ConkerYardModel" "images" "[I") ∈ lw_all := lw_g (lw_at lw_m6 34 rfl) rfl
theorem q1361 : (Jvm.Cond.soleField "ConkerYardModel" "images") ∈ lw_all := lw_g (lw_at lw_m6 35 rfl) rfl
theorem q1362 : (Jvm.Cond.laysFinal "ConkerYardModel" "ConkerYardModel" "imageForce" "[I") ∈ lw_all := lw_g (lw_at lw_m6 36 rfl) rfl
theorem q1363 : (Jvm.Cond.soleField "ConkerYardModel" "imageForce") ∈ lw_all := lw_g (lw_at lw_m6 37 rfl) rfl
theorem q1364 : (Jvm.Cond.laysFinal "ConkerYardModel" "ConkerYardModel" "imageX" "[I") ∈ lw_all := lw_g (lw_at lw_m6 38 rfl) rfl
theorem q1365 : (Jvm.Cond.soleField "ConkerYardModel" "imageX") ∈ lw_all := lw_g (lw_at lw_m6 39 rfl) rfl
theorem q1366 : (Jvm.Cond.laysFinal "ConkerYardModel" "ConkerYardModel" "isMade" "[Z") ∈ lw_all := lw_g (lw_at lw_m6 40 rfl) rfl
theorem q1367 : (Jvm.Cond.soleField "ConkerYardModel" "isMade") ∈ lw_all := lw_g (lw_at lw_m6 41 rfl) rfl
theorem q1368 : (Jvm.Cond.superclass "ConkerYardModel" "java/lang/Object") ∈ lw_all := lw_g (lw_at lw_m6 42 rfl) rfl
theorem q1371 : (Jvm.Cond.instanceMethod ({ cls := "ConkerYardModel", name := "feed", desc := "(IIIII)I" } : Jvm.MethodName)) ∈ lw_all := lw_g (lw_at lw_m6 45 rfl) rfl
theorem q1372 : (Jvm.Cond.selects "ConkerYardModel" ({ cls := "ConkerYardModel", name := "feed", desc := "(IIIII)I" } : Jvm.MethodName) ({ cls := "ConkerYardModel", name := "feed", desc := "(IIIII)I" } : Jvm.MethodName)) ∈ lw_all := lw_g (lw_at lw_m6 46 rfl) rfl
theorem q1373 : (Jvm.Cond.code ({ cls := "ConkerYardModel", name := "feed", desc := "(IIIII)I" } : Jvm.MethodName) prog_19_method_6_code (6 : Nat) (Option.some Jvm.ClassFile.FieldType.int)) ∈ lw_all := lw_g (lw_at lw_m6 47 rfl) rfl
theorem q1374 : (Jvm.Cond.methodLink "ConkerYardModel" (89 : Nat) ({ cls := "ConkerYardModel", name := "four", desc := "(I)V" } : Jvm.MethodName)) ∈ lw_all := lw_g (lw_at lw_m6 48 rfl) rfl
theorem q1375 : (Jvm.Cond.privateMethod ({ cls := "ConkerYardModel", name := "four", desc := "(I)V" } : Jvm.MethodName)) ∈ lw_tbl := lw_at lw_m6 49 rfl
theorem q1376 : (Jvm.Cond.instanceMethod ({ cls := "ConkerYardModel", name := "four", desc := "(I)V" } : Jvm.MethodName)) ∈ lw_all := lw_g (lw_at lw_m6 50 rfl) rfl
theorem q1377 : (Jvm.Cond.code ({ cls := "ConkerYardModel", name := "four", desc := "(I)V" } : Jvm.MethodName) prog_19_method_5_code (3 : Nat) (Option.none : Option Jvm.ClassFile.FieldType)) ∈ lw_all := lw_g (lw_at lw_m6 51 rfl) rfl
theorem q1379 : (Jvm.Cond.instanceMethod ({ cls := "ConkerYardModel", name := "end", desc := "(I)I" } : Jvm.MethodName)) ∈ lw_all := lw_g (lw_at lw_m6 53 rfl) rfl
theorem q1380 : (Jvm.Cond.selects "ConkerYardModel" ({ cls := "ConkerYardModel", name := "end", desc := "(I)I" } : Jvm.MethodName) ({ cls := "ConkerYardModel", name := "end", desc := "(I)I" } : Jvm.MethodName)) ∈ lw_all := lw_g (lw_at lw_m6 54 rfl) rfl
theorem q1381 : (Jvm.Cond.code ({ cls := "ConkerYardModel", name := "end", desc := "(I)I" } : Jvm.MethodName) prog_19_method_7_code (2 : Nat) (Option.some Jvm.ClassFile.FieldType.int)) ∈ lw_all := lw_g (lw_at lw_m6 55 rfl) rfl
theorem q1383 : (Jvm.Cond.instanceMethod ({ cls := "ConkerYardModel", name := "rule", desc := "()I" } : Jvm.MethodName)) ∈ lw_all := lw_g (lw_at lw_m6 57 rfl) rfl
theorem q1384 : (Jvm.Cond.selects "ConkerYardModel" ({ cls := "ConkerYardModel", name := "rule", desc := "()I" } : Jvm.MethodName) ({ cls := "ConkerYardModel", name := "rule", desc := "()I" } : Jvm.MethodName)) ∈ lw_all := lw_g (lw_at lw_m6 58 rfl) rfl
theorem q1385 : (Jvm.Cond.code ({ cls := "ConkerYardModel", name := "rule", desc := "()I" } : Jvm.MethodName) prog_19_method_39_code (1 : Nat) (Option.some Jvm.ClassFile.FieldType.int)) ∈ lw_all := lw_g (lw_at lw_m6 59 rfl) rfl
theorem q1386 : (Jvm.Cond.methodLink "ConkerYardModel" (265 : Nat) ({ cls := "ConkerYardModel", name := "readsAll", desc := "()Z" } : Jvm.MethodName)) ∈ lw_all := lw_g (lw_at lw_m6 60 rfl) rfl
theorem q1387 : (Jvm.Cond.privateMethod ({ cls := "ConkerYardModel", name := "readsAll", desc := "()Z" } : Jvm.MethodName)) ∈ lw_tbl := lw_at lw_m6 61 rfl
theorem q1388 : (Jvm.Cond.instanceMethod ({ cls := "ConkerYardModel", name := "readsAll", desc := "()Z" } : Jvm.MethodName)) ∈ lw_all := lw_g (lw_at lw_m6 62 rfl) rfl
theorem q1389 : (Jvm.Cond.code ({ cls := "ConkerYardModel", name := "readsAll", desc := "()Z" } : Jvm.MethodName) prog_19_method_38_code (2 : Nat) (Option.some Jvm.ClassFile.FieldType.boolean)) ∈ lw_all := lw_g (lw_at lw_m6 63 rfl) rfl
theorem q1390 : (Jvm.Cond.methodLink "ConkerYardModel" (259 : Nat) ({ cls := "ConkerYardModel", name := "clauseHere", desc := "()Z" } : Jvm.MethodName)) ∈ lw_all := lw_g (lw_at lw_m6 64 rfl) rfl
theorem q1391 : (Jvm.Cond.privateMethod ({ cls := "ConkerYardModel", name := "clauseHere", desc := "()Z" } : Jvm.MethodName)) ∈ lw_tbl := lw_at lw_m6 65 rfl
theorem q1392 : (Jvm.Cond.instanceMethod ({ cls := "ConkerYardModel", name := "clauseHere", desc := "()Z" } : Jvm.MethodName)) ∈ lw_all := lw_g (lw_at lw_m6 66 rfl) rfl
theorem q1393 : (Jvm.Cond.code ({ cls := "ConkerYardModel", name := "clauseHere", desc := "()Z" } : Jvm.MethodName) prog_19_method_37_code (3 : Nat) (Option.some Jvm.ClassFile.FieldType.boolean)) ∈ lw_all := lw_g (lw_at lw_m6 67 rfl) rfl
theorem q1394 : (Jvm.Cond.methodLink "ConkerYardModel" (99 : Nat) ({ cls := "ConkerYardModel", name := "see", desc := "()I" } : Jvm.MethodName)) ∈ lw_all := lw_g (lw_at lw_m6 68 rfl) rfl
theorem q1395 : (Jvm.Cond.privateMethod ({ cls := "ConkerYardModel", name := "see", desc := "()I" } : Jvm.MethodName)) ∈ lw_tbl := lw_at lw_m6 69 rfl
theorem q1396 : (Jvm.Cond.instanceMethod ({ cls := "ConkerYardModel", name := "see", desc := "()I" } : Jvm.MethodName)) ∈ lw_all := lw_g (lw_at lw_m6 70 rfl) rfl
theorem q1397 : (Jvm.Cond.code ({ cls := "ConkerYardModel", name := "see", desc := "()I" } : Jvm.MethodName) prog_19_method_9_code (1 : Nat) (Option.some Jvm.ClassFile.FieldType.int)) ∈ lw_all := lw_g (lw_at lw_m6 71 rfl) rfl
theorem q1398 : (Jvm.Cond.methodLink "ConkerYardModel" (245 : Nat) ({ cls := "ConkerYardModel", name := "isYardWord", desc := "()Z" } : Jvm.MethodName)) ∈ lw_all := lw_g (lw_at lw_m6 72 rfl) rfl
theorem q1399 : (Jvm.Cond.privateMethod ({ cls := "ConkerYardModel", name := "isYardWord", desc := "()Z" } : Jvm.MethodName)) ∈ lw_tbl := lw_at lw_m6 73 rfl
theorem q1400 : (Jvm.Cond.instanceMethod ({ cls := "ConkerYardModel", name := "isYardWord", desc := "()Z" } : Jvm.MethodName)) ∈ lw_all := lw_g (lw_at lw_m6 74 rfl) rfl
theorem q1401 : (Jvm.Cond.code ({ cls := "ConkerYardModel", name := "isYardWord", desc := "()Z" } : Jvm.MethodName) prog_19_method_36_code (1 : Nat) (Option.some Jvm.ClassFile.FieldType.boolean)) ∈ lw_all := lw_g (lw_at lw_m6 75 rfl) rfl
theorem q1402 : (Jvm.Cond.constantLong "ConkerYardModel" (230 : Nat) (2036429412 : Int64)) ∈ lw_all := lw_g (lw_at lw_m6 76 rfl) rfl
theorem q1403 : (Jvm.Cond.methodLink "ConkerYardModel" (107 : Nat) ({ cls := "ConkerYardModel", name := "isWord", desc := "(J)Z" } : Jvm.MethodName)) ∈ lw_all := lw_g (lw_at lw_m6 77 rfl) rfl
theorem q1404 : (Jvm.Cond.privateMethod ({ cls := "ConkerYardModel", name := "isWord", desc := "(J)Z" } : Jvm.MethodName)) ∈ lw_tbl := lw_at lw_m6 78 rfl
theorem q1405 : (Jvm.Cond.instanceMethod ({ cls := "ConkerYardModel", name := "isWord", desc := "(J)Z" } : Jvm.MethodName)) ∈ lw_all := lw_g (lw_at lw_m6 79 rfl) rfl
theorem q1406 : (Jvm.Cond.code ({ cls := "ConkerYardModel", name := "isWord", desc := "(J)Z" } : Jvm.MethodName) prog_19_method_12_code (6 : Nat) (Option.some Jvm.ClassFile.FieldType.boolean)) ∈ lw_all := lw_g (lw_at lw_m6 80 rfl) rfl
theorem q1407 : (Jvm.Cond.methodLink "ConkerYardModel" (103 : Nat) ({ cls := "ConkerYardModel", name := "isLetter", desc := "(I)Z" } : Jvm.MethodName)) ∈ lw_all := lw_g (lw_at lw_m6 81 rfl) rfl
theorem q1408 : (Jvm.Cond.privateMethod ({ cls := "ConkerYardModel", name := "isLetter", desc := "(I)Z" } : Jvm.MethodName)) ∈ lw_tbl := lw_at lw_m6 82 rfl
theorem q1409 : (Jvm.Cond.instanceMethod ({ cls := "ConkerYardModel", name := "isLetter", desc := "(I)Z" } : Jvm.MethodName)) ∈ lw_all := lw_g (lw_at lw_m6 83 rfl) rfl
theorem q1410 : (Jvm.Cond.code ({ cls := "ConkerYardModel", name := "isLetter", desc := "(I)Z" } : Jvm.MethodName) prog_19_method_11_code (2 : Nat) (Option.some Jvm.ClassFile.FieldType.boolean)) ∈ lw_all := lw_g (lw_at lw_m6 84 rfl) rfl
theorem q1411 : (Jvm.Cond.constantLong "ConkerYardModel" (235 : Nat) (109330245051762 : Int64)) ∈ lw_all := lw_g (lw_at lw_m6 85 rfl) rfl
theorem q1412 : (Jvm.Cond.constantLong "ConkerYardModel" (243 : Nat) (27991785299731812 : Int64)) ∈ lw_all := lw_g (lw_at lw_m6 86 rfl) rfl
theorem q1413 : (Jvm.Cond.constantLong "ConkerYardModel" (248 : Nat) (6842740 : Int64)) ∈ lw_all := lw_g (lw_at lw_m6 87 rfl) rfl
theorem q1414 : (Jvm.Cond.methodLink "ConkerYardModel" (117 : Nat) ({ cls := "ConkerYardModel", name := "fails", desc := "(II)Z" } : Jvm.MethodName)) ∈ lw_all := lw_g (lw_at lw_m6 88 rfl) rfl
theorem q1415 : (Jvm.Cond.privateMethod ({ cls := "ConkerYardModel", name := "fails", desc := "(II)Z" } : Jvm.MethodName)) ∈ lw_tbl := lw_at lw_m6 89 rfl
theorem q1416 : (Jvm.Cond.instanceMethod ({ cls := "ConkerYardModel", name := "fails", desc := "(II)Z" } : Jvm.MethodName)) ∈ lw_all := lw_g (lw_at lw_m6 90 rfl) rfl
theorem q1417 : (Jvm.Cond.code ({ cls := "ConkerYardModel", name := "fails", desc := "(II)Z" } : Jvm.MethodName) prog_19_method_8_code (3 : Nat) (Option.some Jvm.ClassFile.FieldType.boolean)) ∈ lw_all := lw_g (lw_at lw_m6 91 rfl) rfl
theorem q1418 : (Jvm.Cond.methodLink "ConkerYardModel" (253 : Nat) ({ cls := "ConkerYardModel", name := "yardLineHere", desc := "(I)Z" } : Jvm.MethodName)) ∈ lw_all := lw_g (lw_at lw_m6 92 rfl) rfl
theorem q1419 : (Jvm.Cond.privateMethod ({ cls := "ConkerYardModel", name := "yardLineHere", desc := "(I)Z" } : Jvm.MethodName)) ∈ lw_tbl := lw_at lw_m6 93 rfl
theorem q1420 : (Jvm.Cond.instanceMethod ({ cls := "ConkerYardModel", name := "yardLineHere", desc := "(I)Z" } : Jvm.MethodName)) ∈ lw_all := lw_g (lw_at lw_m6 94 rfl) rfl
theorem q1421 : (Jvm.Cond.code ({ cls := "ConkerYardModel", name := "yardLineHere", desc := "(I)Z" } : Jvm.MethodName) prog_19_method_35_code (2 : Nat) (Option.some Jvm.ClassFile.FieldType.boolean)) ∈ lw_all := lw_g (lw_at lw_m6 95 rfl) rfl
theorem q1422 : (Jvm.Cond.methodLink "ConkerYardModel" (232 : Nat) ({ cls := "ConkerYardModel", name := "isYardHere", desc := "(I)Z" } : Jvm.MethodName)) ∈ lw_all := lw_g (lw_at lw_m6 96 rfl) rfl
theorem q1423 : (Jvm.Cond.privateMethod ({ cls := "ConkerYardModel", name := "isYardHere", desc := "(I)Z" } : Jvm.MethodName)) ∈ lw_tbl := lw_at lw_m6 97 rfl
theorem q1424 : (Jvm.Cond.instanceMethod ({ cls := "ConkerYardModel", name := "isYardHere", desc := "(I)Z" } : Jvm.MethodName)) ∈ lw_all := lw_g (lw_at lw_m6 98 rfl) rfl
theorem q1425 : (Jvm.Cond.code ({ cls := "ConkerYardModel", name := "isYardHere", desc := "(I)Z" } : Jvm.MethodName) prog_19_method_32_code (2 : Nat) (Option.some Jvm.ClassFile.FieldType.boolean)) ∈ lw_all := lw_g (lw_at lw_m6 99 rfl) rfl
theorem q1426 : (Jvm.Cond.methodLink "ConkerYardModel" (111 : Nat) ({ cls := "ConkerYardModel", name := "passWord", desc := "()V" } : Jvm.MethodName)) ∈ lw_all := lw_g (lw_at lw_m6 100 rfl) rfl
theorem q1427 : (Jvm.Cond.privateMethod ({ cls := "ConkerYardModel", name := "passWord", desc := "()V" } : Jvm.MethodName)) ∈ lw_tbl := lw_at lw_m6 101 rfl
theorem q1428 : (Jvm.Cond.instanceMethod ({ cls := "ConkerYardModel", name := "passWord", desc := "()V" } : Jvm.MethodName)) ∈ lw_all := lw_g (lw_at lw_m6 102 rfl) rfl
theorem q1429 : (Jvm.Cond.code ({ cls := "ConkerYardModel", name := "passWord", desc := "()V" } : Jvm.MethodName) prog_19_method_13_code (1 : Nat) (Option.none : Option Jvm.ClassFile.FieldType)) ∈ lw_all := lw_g (lw_at lw_m6 103 rfl) rfl
theorem q1430 : (Jvm.Cond.methodLink "ConkerYardModel" (226 : Nat) ({ cls := "ConkerYardModel", name := "cellHere", desc := "(III)Z" } : Jvm.MethodName)) ∈ lw_all := lw_g (lw_at lw_m6 104 rfl) rfl
theorem q1431 : (Jvm.Cond.privateMethod ({ cls := "ConkerYardModel", name := "cellHere", desc := "(III)Z" } : Jvm.MethodName)) ∈ lw_tbl := lw_at lw_m6 105 rfl
theorem q1432 : (Jvm.Cond.instanceMethod ({ cls := "ConkerYardModel", name := "cellHere", desc := "(III)Z" } : Jvm.MethodName)) ∈ lw_all := lw_g (lw_at lw_m6 106 rfl) rfl
theorem q1433 : (Jvm.Cond.code ({ cls := "ConkerYardModel", name := "cellHere", desc := "(III)Z" } : Jvm.MethodName) prog_19_method_31_code (4 : Nat) (Option.some Jvm.ClassFile.FieldType.boolean)) ∈ lw_all := lw_g (lw_at lw_m6 107 rfl) rfl
theorem q1434 : (Jvm.Cond.methodLink "ConkerYardModel" (175 : Nat) ({ cls := "ConkerYardModel", name := "numberHere", desc := "(II)Z" } : Jvm.MethodName)) ∈ lw_all := lw_g (lw_at lw_m6 108 rfl) rfl
theorem q1435 : (Jvm.Cond.privateMethod ({ cls := "ConkerYardModel", name := "numberHere", desc := "(II)Z" } : Jvm.MethodName)) ∈ lw_tbl := lw_at lw_m6 109 rfl
theorem q1436 : (Jvm.Cond.instanceMethod ({ cls := "ConkerYardModel", name := "numberHere", desc := "(II)Z" } : Jvm.MethodName)) ∈ lw_all := lw_g (lw_at lw_m6 110 rfl) rfl
theorem q1437 : (Jvm.Cond.code ({ cls := "ConkerYardModel", name := "numberHere", desc := "(II)Z" } : Jvm.MethodName) prog_19_method_15_code (5 : Nat) (Option.some Jvm.ClassFile.FieldType.boolean)) ∈ lw_all := lw_g (lw_at lw_m6 111 rfl) rfl
theorem q1438 : (Jvm.Cond.methodLink "ConkerYardModel" (114 : Nat) ({ cls := "ConkerYardModel", name := "isDigit", desc := "(I)Z" } : Jvm.MethodName)) ∈ lw_all := lw_g (lw_at lw_m6 112 rfl) rfl
theorem q1439 : (Jvm.Cond.privateMethod ({ cls := "ConkerYardModel", name := "isDigit", desc := "(I)Z" } : Jvm.MethodName)) ∈ lw_tbl := lw_at lw_m6 113 rfl
theorem q1440 : (Jvm.Cond.instanceMethod ({ cls := "ConkerYardModel", name := "isDigit", desc := "(I)Z" } : Jvm.MethodName)) ∈ lw_all := lw_g (lw_at lw_m6 114 rfl) rfl
theorem q1441 : (Jvm.Cond.code ({ cls := "ConkerYardModel", name := "isDigit", desc := "(I)Z" } : Jvm.MethodName) prog_19_method_10_code (2 : Nat) (Option.some Jvm.ClassFile.FieldType.boolean)) ∈ lw_all := lw_g (lw_at lw_m6 115 rfl) rfl
theorem q1442 : (Jvm.Cond.methodLink "ConkerYardModel" (124 : Nat) ({ cls := "ConkerYardModel", name := "in", desc := "(JJJ)Z" } : Jvm.MethodName)) ∈ lw_all := lw_g (lw_at lw_m6 116 rfl) rfl
theorem q1443 : (Jvm.Cond.static ({ cls := "ConkerYardModel", name := "in", desc := "(JJJ)Z" } : Jvm.MethodName)) ∈ lw_all := lw_g (lw_at lw_m6 117 rfl) rfl
theorem q1444 : (Jvm.Cond.code ({ cls := "ConkerYardModel", name := "in", desc := "(JJJ)Z" } : Jvm.MethodName) prog_19_method_2_code (6 : Nat) (Option.some Jvm.ClassFile.FieldType.boolean)) ∈ lw_all := lw_g (lw_at lw_m6 118 rfl) rfl
theorem q1445 : (Jvm.Cond.methodLink "ConkerYardModel" (237 : Nat) ({ cls := "ConkerYardModel", name := "isConkerHere", desc := "(I)Z" } : Jvm.MethodName)) ∈ lw_all := lw_g (lw_at lw_m6 119 rfl) rfl
theorem q1446 : (Jvm.Cond.privateMethod ({ cls := "ConkerYardModel", name := "isConkerHere", desc := "(I)Z" } : Jvm.MethodName)) ∈ lw_tbl := lw_at lw_m6 120 rfl
theorem q1447 : (Jvm.Cond.instanceMethod ({ cls := "ConkerYardModel", name := "isConkerHere", desc := "(I)Z" } : Jvm.MethodName)) ∈ lw_all := lw_g (lw_at lw_m6 121 rfl) rfl
theorem q1448 : (Jvm.Cond.code ({ cls := "ConkerYardModel", name := "isConkerHere", desc := "(I)Z" } : Jvm.MethodName) prog_19_method_33_code (3 : Nat) (Option.some Jvm.ClassFile.FieldType.boolean)) ∈ lw_all := lw_g (lw_at lw_m6 122 rfl) rfl
theorem q1449 : (Jvm.Cond.methodLink "ConkerYardModel" (240 : Nat) ({ cls := "ConkerYardModel", name := "isCrackedHere", desc := "()Z" } : Jvm.MethodName)) ∈ lw_all := lw_g (lw_at lw_m6 123 rfl) rfl
theorem q1450 : (Jvm.Cond.privateMethod ({ cls := "ConkerYardModel", name := "isCrackedHere", desc := "()Z" } : Jvm.MethodName)) ∈ lw_tbl := lw_at lw_m6 124 rfl
theorem q1451 : (Jvm.Cond.instanceMethod ({ cls := "ConkerYardModel", name := "isCrackedHere", desc := "()Z" } : Jvm.MethodName)) ∈ lw_all := lw_g (lw_at lw_m6 125 rfl) rfl
theorem q1452 : (Jvm.Cond.code ({ cls := "ConkerYardModel", name := "isCrackedHere", desc := "()Z" } : Jvm.MethodName) prog_19_method_34_code (2 : Nat) (Option.some Jvm.ClassFile.FieldType.boolean)) ∈ lw_all := lw_g (lw_at lw_m6 126 rfl) rfl
theorem q1453 : (Jvm.Cond.methodLink "ConkerYardModel" (256 : Nat) ({ cls := "ConkerYardModel", name := "isHitHere", desc := "()Z" } : Jvm.MethodName)) ∈ lw_all := lw_g (lw_at lw_m6 127 rfl) rfl
theorem q1454 : (Jvm.Cond.privateMethod ({ cls := "ConkerYardModel", name := "isHitHere", desc := "()Z" } : Jvm.MethodName)) ∈ lw_tbl := lw_at lw_m6 128 rfl
theorem q1455 : (Jvm.Cond.instanceMethod ({ cls := "ConkerYardModel", name := "isHitHere", desc := "()Z" } : Jvm.MethodName)) ∈ lw_all := lw_g (lw_at lw_m6 129 rfl) rfl
theorem q1456 : (Jvm.Cond.code ({ cls := "ConkerYardModel", name := "isHitHere", desc := "()Z" } : Jvm.MethodName) prog_19_method_30_code (2 : Nat) (Option.some Jvm.ClassFile.FieldType.boolean)) ∈ lw_all := lw_g (lw_at lw_m6 130 rfl) rfl
theorem q1457 : (Jvm.Cond.methodLink "ConkerYardModel" (191 : Nat) ({ cls := "ConkerYardModel", name := "sum", desc := "()Z" } : Jvm.MethodName)) ∈ lw_all := lw_g (lw_at lw_m6 131 rfl) rfl
theorem q1458 : (Jvm.Cond.privateMethod ({ cls := "ConkerYardModel", name := "sum", desc := "()Z" } : Jvm.MethodName)) ∈ lw_tbl := lw_at lw_m6 132 rfl
theorem q1459 : (Jvm.Cond.instanceMethod ({ cls := "ConkerYardModel", name := "sum", desc := "()Z" } : Jvm.MethodName)) ∈ lw_all := lw_g (lw_at lw_m6 133 rfl) rfl
theorem q1460 : (Jvm.Cond.code ({ cls := "ConkerYardModel", name := "sum", desc := "()Z" } : Jvm.MethodName) prog_19_method_24_code (2 : Nat) (Option.some Jvm.ClassFile.FieldType.boolean)) ∈ lw_all := lw_g (lw_at lw_m6 134 rfl) rfl
theorem q1461 : (Jvm.Cond.methodLink "ConkerYardModel" (188 : Nat) ({ cls := "ConkerYardModel", name := "term", desc := "()Z" } : Jvm.MethodName)) ∈ lw_all := lw_g (lw_at lw_m6 135 rfl) rfl
theorem q1462 : (Jvm.Cond.privateMethod ({ cls := "ConkerYardModel", name := "term", desc := "()Z" } : Jvm.MethodName)) ∈ lw_tbl := lw_at lw_m6 136 rfl
theorem q1463 : (Jvm.Cond.instanceMethod ({ cls := "ConkerYardModel", name := "term", desc := "()Z" } : Jvm.MethodName)) ∈ lw_all := lw_g (lw_at lw_m6 137 rfl) rfl
theorem q1464 : (Jvm.Cond.code ({ cls := "ConkerYardModel", name := "term", desc := "()Z" } : Jvm.MethodName) prog_19_method_23_code (2 : Nat) (Option.some Jvm.ClassFile.FieldType.boolean)) ∈ lw_all := lw_g (lw_at lw_m6 138 rfl) rfl
theorem q1465 : (Jvm.Cond.methodLink "ConkerYardModel" (184 : Nat) ({ cls := "ConkerYardModel", name := "value", desc := "()Z" } : Jvm.MethodName)) ∈ lw_all := lw_g (lw_at lw_m6 139 rfl) rfl
theorem q1466 : (Jvm.Cond.privateMethod ({ cls := "ConkerYardModel", name := "value", desc := "()Z" } : Jvm.MethodName)) ∈ lw_tbl := lw_at lw_m6 140 rfl
theorem q1467 : (Jvm.Cond.instanceMethod ({ cls := "ConkerYardModel", name := "value", desc := "()Z" } : Jvm.MethodName)) ∈ lw_all := lw_g (lw_at lw_m6 141 rfl) rfl
theorem q1468 : (Jvm.Cond.code ({ cls := "ConkerYardModel", name := "value", desc := "()Z" } : Jvm.MethodName) prog_19_method_22_code (3 : Nat) (Option.some Jvm.ClassFile.FieldType.boolean)) ∈ lw_all := lw_g (lw_at lw_m6 142 rfl) rfl
theorem q1469 : (Jvm.Cond.constant "ConkerYardModel" (174 : Nat) (99999 : Int32)) ∈ lw_all := lw_g (lw_at lw_m6 143 rfl) rfl
theorem q1470 : (Jvm.Cond.methodLink "ConkerYardModel" (178 : Nat) ({ cls := "ConkerYardModel", name := "makes", desc := "(I)Z" } : Jvm.MethodName)) ∈ lw_all := lw_g (lw_at lw_m6 144 rfl) rfl
theorem q1471 : (Jvm.Cond.privateMethod ({ cls := "ConkerYardModel", name := "makes", desc := "(I)Z" } : Jvm.MethodName)) ∈ lw_tbl := lw_at lw_m6 145 rfl
theorem q1472 : (Jvm.Cond.instanceMethod ({ cls := "ConkerYardModel", name := "makes", desc := "(I)Z" } : Jvm.MethodName)) ∈ lw_all := lw_g (lw_at lw_m6 146 rfl) rfl
theorem q1473 : (Jvm.Cond.code ({ cls := "ConkerYardModel", name := "makes", desc := "(I)Z" } : Jvm.MethodName) prog_19_method_18_code (2 : Nat) (Option.some Jvm.ClassFile.FieldType.boolean)) ∈ lw_all := lw_g (lw_at lw_m6 147 rfl) rfl
theorem q1474 : (Jvm.Cond.methodLink "ConkerYardModel" (170 : Nat) ({ cls := "ConkerYardModel", name := "puts", desc := "(II)V" } : Jvm.MethodName)) ∈ lw_all := lw_g (lw_at lw_m6 148 rfl) rfl
theorem q1475 : (Jvm.Cond.privateMethod ({ cls := "ConkerYardModel", name := "puts", desc := "(II)V" } : Jvm.MethodName)) ∈ lw_tbl := lw_at lw_m6 149 rfl
theorem q1476 : (Jvm.Cond.instanceMethod ({ cls := "ConkerYardModel", name := "puts", desc := "(II)V" } : Jvm.MethodName)) ∈ lw_all := lw_g (lw_at lw_m6 150 rfl) rfl
theorem q1477 : (Jvm.Cond.code ({ cls := "ConkerYardModel", name := "puts", desc := "(II)V" } : Jvm.MethodName) prog_19_method_17_code (3 : Nat) (Option.none : Option Jvm.ClassFile.FieldType)) ∈ lw_all := lw_g (lw_at lw_m6 151 rfl) rfl
theorem q1478 : (Jvm.Cond.methodLink "ConkerYardModel" (181 : Nat) ({ cls := "ConkerYardModel", name := "wordHere", desc := "()I" } : Jvm.MethodName)) ∈ lw_all := lw_g (lw_at lw_m6 152 rfl) rfl
theorem q1479 : (Jvm.Cond.privateMethod ({ cls := "ConkerYardModel", name := "wordHere", desc := "()I" } : Jvm.MethodName)) ∈ lw_tbl := lw_at lw_m6 153 rfl
theorem q1480 : (Jvm.Cond.instanceMethod ({ cls := "ConkerYardModel", name := "wordHere", desc := "()I" } : Jvm.MethodName)) ∈ lw_all := lw_g (lw_at lw_m6 154 rfl) rfl
theorem q1481 : (Jvm.Cond.code ({ cls := "ConkerYardModel", name := "wordHere", desc := "()I" } : Jvm.MethodName) prog_19_method_16_code (1 : Nat) (Option.some Jvm.ClassFile.FieldType.int)) ∈ lw_all := lw_g (lw_at lw_m6 155 rfl) rfl
theorem q1482 : (Jvm.Cond.constantLong "ConkerYardModel" (128 : Nat) (32497657065465202 : Int64)) ∈ lw_all := lw_g (lw_at lw_m6 156 rfl) rfl
theorem q1483 : (Jvm.Cond.constantLong "ConkerYardModel" (130 : Nat) (126943973696363 : Int64)) ∈ lw_all := lw_g (lw_at lw_m6 157 rfl) rfl
theorem q1484 : (Jvm.Cond.constantLong "ConkerYardModel" (132 : Nat) (1751216740 : Int64)) ∈ lw_all := lw_g (lw_at lw_m6 158 rfl) rfl
theorem q1485 : (Jvm.Cond.constantLong "ConkerYardModel" (134 : Nat) (495924637287 : Int64)) ∈ lw_all := lw_g (lw_at lw_m6 159 rfl) rfl
theorem q1486 : (Jvm.Cond.constantLong "ConkerYardModel" (136 : Nat) (109342911327091 : Int64)) ∈ lw_all := lw_g (lw_at lw_m6 160 rfl) rfl
theorem q1487 : (Jvm.Cond.constantLong "ConkerYardModel" (138 : Nat) (495589487205 : Int64)) ∈ lw_all := lw_g (lw_at lw_m6 161 rfl) rfl
theorem q1488 : (Jvm.Cond.constantLong "ConkerYardModel" (140 : Nat) (107144090187122 : Int64)) ∈ lw_all := lw_g (lw_at lw_m6 162 rfl) rfl
theorem q1489 : (Jvm.Cond.constantLong "ConkerYardModel" (142 : Nat) (1651273591 : Int64)) ∈ lw_all := lw_g (lw_at lw_m6 163 rfl) rfl
theorem q1490 : (Jvm.Cond.constantLong "ConkerYardModel" (144 : Nat) (1734439027 : Int64)) ∈ lw_all := lw_g (lw_at lw_m6 164 rfl) rfl
theorem q1491 : (Jvm.Cond.constantLong "ConkerYardModel" (146 : Nat) (512970880104 : Int64)) ∈ lw_all := lw_g (lw_at lw_m6 165 rfl) rfl
theorem q1492 : (Jvm.Cond.constantLong "ConkerYardModel" (148 : Nat) (512853240933 : Int64)) ∈ lw_all := lw_g (lw_at lw_m6 166 rfl) rfl
theorem q1493 : (Jvm.Cond.constantLong "ConkerYardModel" (150 : Nat) (32497657065465203 : Int64)) ∈ lw_all := lw_g (lw_at lw_m6 167 rfl) rfl
theorem q1494 : (Jvm.Cond.constantLong "ConkerYardModel" (152 : Nat) (491496238692 : Int64)) ∈ lw_all := lw_g (lw_at lw_m6 168 rfl) rfl
theorem q1495 : (Jvm.Cond.constantLong "ConkerYardModel" (218 : Nat) (26982 : Int64)) ∈ lw_all := lw_g (lw_at lw_m6 169 rfl) rfl
theorem q1496 : (Jvm.Cond.methodLink "ConkerYardModel" (220 : Nat) ({ cls := "ConkerYardModel", name := "takesWord", desc := "(J)Z" } : Jvm.MethodName)) ∈ lw_all := lw_g (lw_at lw_m6 170 rfl) rfl
theorem q1497 : (Jvm.Cond.privateMethod ({ cls := "ConkerYardModel", name := "takesWord", desc := "(J)Z" } : Jvm.MethodName)) ∈ lw_tbl := lw_at lw_m6 171 rfl
theorem q1498 : (Jvm.Cond.instanceMethod ({ cls := "ConkerYardModel", name := "takesWord", desc := "(J)Z" } : Jvm.MethodName)) ∈ lw_all := lw_g (lw_at lw_m6 172 rfl) rfl
theorem q1499 : (Jvm.Cond.code ({ cls := "ConkerYardModel", name := "takesWord", desc := "(J)Z" } : Jvm.MethodName) prog_19_method_14_code (3 : Nat) (Option.some Jvm.ClassFile.FieldType.boolean)) ∈ lw_all := lw_g (lw_at lw_m6 173 rfl) rfl
theorem q1500 : (Jvm.Cond.methodLink "ConkerYardModel" (223 : Nat) ({ cls := "ConkerYardModel", name := "tested", desc := "()Z" } : Jvm.MethodName)) ∈ lw_all := lw_g (lw_at lw_m6 174 rfl) rfl
theorem q1501 : (Jvm.Cond.privateMethod ({ cls := "ConkerYardModel", name := "tested", desc := "()Z" } : Jvm.MethodName)) ∈ lw_tbl := lw_at lw_m6 175 rfl
theorem q1502 : (Jvm.Cond.instanceMethod ({ cls := "ConkerYardModel", name := "tested", desc := "()Z" } : Jvm.MethodName)) ∈ lw_all := lw_g (lw_at lw_m6 176 rfl) rfl
theorem q1503 : (Jvm.Cond.code ({ cls := "ConkerYardModel", name := "tested", desc := "()Z" } : Jvm.MethodName) prog_19_method_29_code (3 : Nat) (Option.some Jvm.ClassFile.FieldType.boolean)) ∈ lw_all := lw_g (lw_at lw_m6 177 rfl) rfl
theorem q1504 : (Jvm.Cond.methodLink "ConkerYardModel" (208 : Nat) ({ cls := "ConkerYardModel", name := "fact", desc := "()Z" } : Jvm.MethodName)) ∈ lw_all := lw_g (lw_at lw_m6 178 rfl) rfl
theorem q1505 : (Jvm.Cond.privateMethod ({ cls := "ConkerYardModel", name := "fact", desc := "()Z" } : Jvm.MethodName)) ∈ lw_tbl := lw_at lw_m6 179 rfl
theorem q1506 : (Jvm.Cond.instanceMethod ({ cls := "ConkerYardModel", name := "fact", desc := "()Z" } : Jvm.MethodName)) ∈ lw_all := lw_g (lw_at lw_m6 180 rfl) rfl
theorem q1507 : (Jvm.Cond.code ({ cls := "ConkerYardModel", name := "fact", desc := "()Z" } : Jvm.MethodName) prog_19_method_26_code (3 : Nat) (Option.some Jvm.ClassFile.FieldType.boolean)) ∈ lw_all := lw_g (lw_at lw_m6 181 rfl) rfl
theorem q1508 : (Jvm.Cond.constantLong "ConkerYardModel" (194 : Nat) (7237492 : Int64)) ∈ lw_all := lw_g (lw_at lw_m6 182 rfl) rfl
theorem q1509 : (Jvm.Cond.methodLink "ConkerYardModel" (196 : Nat) ({ cls := "ConkerYardModel", name := "opens", desc := "(I)Z" } : Jvm.MethodName)) ∈ lw_all := lw_g (lw_at lw_m6 183 rfl) rfl
theorem q1510 : (Jvm.Cond.privateMethod ({ cls := "ConkerYardModel", name := "opens", desc := "(I)Z" } : Jvm.MethodName)) ∈ lw_tbl := lw_at lw_m6 184 rfl
theorem q1511 : (Jvm.Cond.instanceMethod ({ cls := "ConkerYardModel", name := "opens", desc := "(I)Z" } : Jvm.MethodName)) ∈ lw_all := lw_g (lw_at lw_m6 185 rfl) rfl
theorem q1512 : (Jvm.Cond.code ({ cls := "ConkerYardModel", name := "opens", desc := "(I)Z" } : Jvm.MethodName) prog_19_method_19_code (2 : Nat) (Option.some Jvm.ClassFile.FieldType.boolean)) ∈ lw_all := lw_g (lw_at lw_m6 186 rfl) rfl
theorem q1513 : (Jvm.Cond.methodLink "ConkerYardModel" (199 : Nat) ({ cls := "ConkerYardModel", name := "compare", desc := "()Z" } : Jvm.MethodName)) ∈ lw_all := lw_g (lw_at lw_m6 187 rfl) rfl
theorem q1514 : (Jvm.Cond.privateMethod ({ cls := "ConkerYardModel", name := "compare", desc := "()Z" } : Jvm.MethodName)) ∈ lw_tbl := lw_at lw_m6 188 rfl
theorem q1515 : (Jvm.Cond.instanceMethod ({ cls := "ConkerYardModel", name := "compare", desc := "()Z" } : Jvm.MethodName)) ∈ lw_all := lw_g (lw_at lw_m6 189 rfl) rfl
theorem q1516 : (Jvm.Cond.code ({ cls := "ConkerYardModel", name := "compare", desc := "()Z" } : Jvm.MethodName) prog_19_method_25_code (5 : Nat) (Option.some Jvm.ClassFile.FieldType.boolean)) ∈ lw_all := lw_g (lw_at lw_m6 190 rfl) rfl
theorem q1517 : (Jvm.Cond.methodLink "ConkerYardModel" (211 : Nat) ({ cls := "ConkerYardModel", name := "closes", desc := "()V" } : Jvm.MethodName)) ∈ lw_all := lw_g (lw_at lw_m6 191 rfl) rfl
theorem q1518 : (Jvm.Cond.privateMethod ({ cls := "ConkerYardModel", name := "closes", desc := "()V" } : Jvm.MethodName)) ∈ lw_tbl := lw_at lw_m6 192 rfl
theorem q1519 : (Jvm.Cond.instanceMethod ({ cls := "ConkerYardModel", name := "closes", desc := "()V" } : Jvm.MethodName)) ∈ lw_all := lw_g (lw_at lw_m6 193 rfl) rfl
theorem q1520 : (Jvm.Cond.code ({ cls := "ConkerYardModel", name := "closes", desc := "()V" } : Jvm.MethodName) prog_19_method_28_code (1 : Nat) (Option.none : Option Jvm.ClassFile.FieldType)) ∈ lw_all := lw_g (lw_at lw_m6 194 rfl) rfl
theorem q1521 : (Jvm.Cond.methodLink "ConkerYardModel" (202 : Nat) ({ cls := "ConkerYardModel", name := "layDown", desc := "(I)V" } : Jvm.MethodName)) ∈ lw_all := lw_g (lw_at lw_m6 195 rfl) rfl
theorem q1522 : (Jvm.Cond.privateMethod ({ cls := "ConkerYardModel", name := "layDown", desc := "(I)V" } : Jvm.MethodName)) ∈ lw_tbl := lw_at lw_m6 196 rfl
theorem q1523 : (Jvm.Cond.instanceMethod ({ cls := "ConkerYardModel", name := "layDown", desc := "(I)V" } : Jvm.MethodName)) ∈ lw_all := lw_g (lw_at lw_m6 197 rfl) rfl
theorem q1524 : (Jvm.Cond.code ({ cls := "ConkerYardModel", name := "layDown", desc := "(I)V" } : Jvm.MethodName) prog_19_method_21_code (2 : Nat) (Option.none : Option Jvm.ClassFile.FieldType)) ∈ lw_all := lw_g (lw_at lw_m6 198 rfl) rfl
theorem q1525 : (Jvm.Cond.methodLink "ConkerYardModel" (166 : Nat) ({ cls := "ConkerYardModel", name := "strength", desc := "(I)I" } : Jvm.MethodName)) ∈ lw_all := lw_g (lw_at lw_m6 199 rfl) rfl
theorem q1526 : (Jvm.Cond.static ({ cls := "ConkerYardModel", name := "strength", desc := "(I)I" } : Jvm.MethodName)) ∈ lw_all := lw_g (lw_at lw_m6 200 rfl) rfl
theorem q1527 : (Jvm.Cond.code ({ cls := "ConkerYardModel", name := "strength", desc := "(I)I" } : Jvm.MethodName) prog_19_method_20_code (1 : Nat) (Option.some Jvm.ClassFile.FieldType.int)) ∈ lw_all := lw_g (lw_at lw_m6 201 rfl) rfl
theorem q1528 : (Jvm.Cond.methodLink "ConkerYardModel" (205 : Nat) ({ cls := "ConkerYardModel", name := "isInside", desc := "()Z" } : Jvm.MethodName)) ∈ lw_all := lw_g (lw_at lw_m6 202 rfl) rfl
theorem q1529 : (Jvm.Cond.privateMethod ({ cls := "ConkerYardModel", name := "isInside", desc := "()Z" } : Jvm.MethodName)) ∈ lw_tbl := lw_at lw_m6 203 rfl
theorem q1530 : (Jvm.Cond.instanceMethod ({ cls := "ConkerYardModel", name := "isInside", desc := "()Z" } : Jvm.MethodName)) ∈ lw_all := lw_g (lw_at lw_m6 204 rfl) rfl
theorem q1531 : (Jvm.Cond.code ({ cls := "ConkerYardModel", name := "isInside", desc := "()Z" } : Jvm.MethodName) prog_19_method_27_code (2 : Nat) (Option.some Jvm.ClassFile.FieldType.boolean)) ∈ lw_all := lw_g (lw_at lw_m6 205 rfl) rfl
theorem q1532 : (Jvm.Cond.constantLong "ConkerYardModel" (214 : Nat) (6385252 : Int64)) ∈ lw_all := lw_g (lw_at lw_m6 206 rfl) rfl
theorem q1533 : (Jvm.Cond.constantLong "ConkerYardModel" (216 : Nat) (28530 : Int64)) ∈ lw_all := lw_g (lw_at lw_m6 207 rfl) rfl
theorem q1535 : (Jvm.Cond.instanceMethod ({ cls := "ConkerYardModel", name := "yard", desc := "()I" } : Jvm.MethodName)) ∈ lw_all := lw_g (lw_at lw_m6 209 rfl) rfl
theorem q1536 : (Jvm.Cond.selects "ConkerYardModel" ({ cls := "ConkerYardModel", name := "yard", desc := "()I" } : Jvm.MethodName) ({ cls := "ConkerYardModel", name := "yard", desc := "()I" } : Jvm.MethodName)) ∈ lw_all := lw_g (lw_at lw_m6 210 rfl) rfl
theorem q1537 : (Jvm.Cond.code ({ cls := "ConkerYardModel", name := "yard", desc := "()I" } : Jvm.MethodName) prog_19_method_40_code (2 : Nat) (Option.some Jvm.ClassFile.FieldType.int)) ∈ lw_all := lw_g (lw_at lw_m6 211 rfl) rfl
theorem q1538 : (Jvm.Cond.methodLink "ConkerYardModel" (268 : Nat) ({ cls := "ConkerYardModel", name := "begins", desc := "()V" } : Jvm.MethodName)) ∈ lw_all := lw_g (lw_at lw_m6 212 rfl) rfl
theorem q1539 : (Jvm.Cond.privateMethod ({ cls := "ConkerYardModel", name := "begins", desc := "()V" } : Jvm.MethodName)) ∈ lw_tbl := lw_at lw_m6 213 rfl
theorem q1540 : (Jvm.Cond.instanceMethod ({ cls := "ConkerYardModel", name := "begins", desc := "()V" } : Jvm.MethodName)) ∈ lw_all := lw_g (lw_at lw_m6 214 rfl) rfl
theorem q1541 : (Jvm.Cond.code ({ cls := "ConkerYardModel", name := "begins", desc := "()V" } : Jvm.MethodName) prog_19_method_53_code (3 : Nat) (Option.none : Option Jvm.ClassFile.FieldType)) ∈ lw_all := lw_g (lw_at lw_m6 215 rfl) rfl
theorem q1542 : (Jvm.Cond.methodLink "ConkerYardModel" (299 : Nat) ({ cls := "ConkerYardModel", name := "sets", desc := "(III)V" } : Jvm.MethodName)) ∈ lw_all := lw_g (lw_at lw_m6 216 rfl) rfl
theorem q1543 : (Jvm.Cond.privateMethod ({ cls := "ConkerYardModel", name := "sets", desc := "(III)V" } : Jvm.MethodName)) ∈ lw_tbl := lw_at lw_m6 217 rfl
theorem q1544 : (Jvm.Cond.instanceMethod ({ cls := "ConkerYardModel", name := "sets", desc := "(III)V" } : Jvm.MethodName)) ∈ lw_all := lw_g (lw_at lw_m6 218 rfl) rfl
theorem q1545 : (Jvm.Cond.code ({ cls := "ConkerYardModel", name := "sets", desc := "(III)V" } : Jvm.MethodName) prog_19_method_49_code (4 : Nat) (Option.none : Option Jvm.ClassFile.FieldType)) ∈ lw_all := lw_g (lw_at lw_m6 219 rfl) rfl
theorem q1547 : (Jvm.Cond.instanceMethod ({ cls := "ConkerYardModel", name := "force", desc := "(I)I" } : Jvm.MethodName)) ∈ lw_all := lw_g (lw_at lw_m6 221 rfl) rfl
theorem q1548 : (Jvm.Cond.selects "ConkerYardModel" ({ cls := "ConkerYardModel", name := "force", desc := "(I)I" } : Jvm.MethodName) ({ cls := "ConkerYardModel", name := "force", desc := "(I)I" } : Jvm.MethodName)) ∈ lw_all := lw_g (lw_at lw_m6 222 rfl) rfl
theorem q1549 : (Jvm.Cond.code ({ cls := "ConkerYardModel", name := "force", desc := "(I)I" } : Jvm.MethodName) prog_19_method_54_code (3 : Nat) (Option.some Jvm.ClassFile.FieldType.int)) ∈ lw_all := lw_g (lw_at lw_m6 223 rfl) rfl
theorem q1550 : (Jvm.Cond.methodLink "ConkerYardModel" (303 : Nat) ({ cls := "ConkerYardModel", name := "isRule", desc := "(I)Z" } : Jvm.MethodName)) ∈ lw_all := lw_g (lw_at lw_m6 224 rfl) rfl
theorem q1551 : (Jvm.Cond.privateMethod ({ cls := "ConkerYardModel", name := "isRule", desc := "(I)Z" } : Jvm.MethodName)) ∈ lw_tbl := lw_at lw_m6 225 rfl
theorem q1552 : (Jvm.Cond.instanceMethod ({ cls := "ConkerYardModel", name := "isRule", desc := "(I)Z" } : Jvm.MethodName)) ∈ lw_all := lw_g (lw_at lw_m6 226 rfl) rfl
theorem q1553 : (Jvm.Cond.code ({ cls := "ConkerYardModel", name := "isRule", desc := "(I)Z" } : Jvm.MethodName) prog_19_method_41_code (2 : Nat) (Option.some Jvm.ClassFile.FieldType.boolean)) ∈ lw_all := lw_g (lw_at lw_m6 227 rfl) rfl
theorem q1555 : (Jvm.Cond.instanceMethod ({ cls := "ConkerYardModel", name := "conker", desc := "(II)I" } : Jvm.MethodName)) ∈ lw_all := lw_g (lw_at lw_m6 229 rfl) rfl
theorem q1556 : (Jvm.Cond.selects "ConkerYardModel" ({ cls := "ConkerYardModel", name := "conker", desc := "(II)I" } : Jvm.MethodName) ({ cls := "ConkerYardModel", name := "conker", desc := "(II)I" } : Jvm.MethodName)) ∈ lw_all := lw_g (lw_at lw_m6 230 rfl) rfl
theorem q1557 : (Jvm.Cond.code ({ cls := "ConkerYardModel", name := "conker", desc := "(II)I" } : Jvm.MethodName) prog_19_method_55_code (3 : Nat) (Option.some Jvm.ClassFile.FieldType.int)) ∈ lw_all := lw_g (lw_at lw_m6 231 rfl) rfl
theorem q1558 : (Jvm.Cond.methodLink "ConkerYardModel" (289 : Nat) ({ cls := "ConkerYardModel", name := "isConker", desc := "(I)Z" } : Jvm.MethodName)) ∈ lw_all := lw_g (lw_at lw_m6 232 rfl) rfl
theorem q1559 : (Jvm.Cond.privateMethod ({ cls := "ConkerYardModel", name := "isConker", desc := "(I)Z" } : Jvm.MethodName)) ∈ lw_tbl := lw_at lw_m6 233 rfl
theorem q1560 : (Jvm.Cond.instanceMethod ({ cls := "ConkerYardModel", name := "isConker", desc := "(I)Z" } : Jvm.MethodName)) ∈ lw_all := lw_g (lw_at lw_m6 234 rfl) rfl
theorem q1561 : (Jvm.Cond.code ({ cls := "ConkerYardModel", name := "isConker", desc := "(I)Z" } : Jvm.MethodName) prog_19_method_47_code (2 : Nat) (Option.some Jvm.ClassFile.FieldType.boolean)) ∈ lw_all := lw_g (lw_at lw_m6 235 rfl) rfl
theorem q1562 : (Jvm.Cond.constantLong "ConkerYardModel" (306 : Nat) (4 : Int64)) ∈ lw_all := lw_g (lw_at lw_m6 236 rfl) rfl
theorem q1563 : (Jvm.Cond.methodLink "ConkerYardModel" (292 : Nat) ({ cls := "ConkerYardModel", name := "has", desc := "(II)I" } : Jvm.MethodName)) ∈ lw_all := lw_g (lw_at lw_m6 237 rfl) rfl
theorem q1564 : (Jvm.Cond.privateMethod ({ cls := "ConkerYardModel", name := "has", desc := "(II)I" } : Jvm.MethodName)) ∈ lw_tbl := lw_at lw_m6 238 rfl
theorem q1565 : (Jvm.Cond.instanceMethod ({ cls := "ConkerYardModel", name := "has", desc := "(II)I" } : Jvm.MethodName)) ∈ lw_all := lw_g (lw_at lw_m6 239 rfl) rfl
theorem q1566 : (Jvm.Cond.code ({ cls := "ConkerYardModel", name := "has", desc := "(II)I" } : Jvm.MethodName) prog_19_method_48_code (3 : Nat) (Option.some Jvm.ClassFile.FieldType.int)) ∈ lw_all := lw_g (lw_at lw_m7 0 rfl) rfl
theorem q1568 : (Jvm.Cond.instanceMethod ({ cls := "ConkerYardModel", name := "undo", desc := "()I" } : Jvm.MethodName)) ∈ lw_all := lw_g (lw_at lw_m7 2 rfl) rfl
theorem q1569 : (Jvm.Cond.selects "ConkerYardModel" ({ cls := "ConkerYardModel", name := "undo", desc := "()I" } : Jvm.MethodName) ({ cls := "ConkerYardModel", name := "undo", desc := "()I" } : Jvm.MethodName)) ∈ lw_all := lw_g (lw_at lw_m7 3 rfl) rfl
theorem q1570 : (Jvm.Cond.code ({ cls := "ConkerYardModel", name := "undo", desc := "()I" } : Jvm.MethodName) prog_19_method_67_code (2 : Nat) (Option.some Jvm.ClassFile.FieldType.int)) ∈ lw_all := lw_g (lw_at lw_m7 4 rfl) rfl
theorem q1572 : (Jvm.Cond.instanceMethod ({ cls := "ConkerYardModel", name := "round", desc := "()I" } : Jvm.MethodName)) ∈ lw_all := lw_g (lw_at lw_m7 6 rfl) rfl
theorem q1573 : (Jvm.Cond.selects "ConkerYardModel" ({ cls := "ConkerYardModel", name := "round", desc := "()I" } : Jvm.MethodName) ({ cls := "ConkerYardModel", name := "round", desc := "()I" } : Jvm.MethodName)) ∈ lw_all := lw_g (lw_at lw_m7 7 rfl) rfl
theorem q1574 : (Jvm.Cond.code ({ cls := "ConkerYardModel", name := "round", desc := "()I" } : Jvm.MethodName) prog_19_method_68_code (1 : Nat) (Option.some Jvm.ClassFile.FieldType.int)) ∈ lw_all := lw_g (lw_at lw_m7 8 rfl) rfl
theorem q1575 : (Jvm.Cond.methodLink "ConkerYardModel" (362 : Nat) ({ cls := "ConkerYardModel", name := "isYard", desc := "()Z" } : Jvm.MethodName)) ∈ lw_all := lw_g (lw_at lw_m7 9 rfl) rfl
theorem q1576 : (Jvm.Cond.privateMethod ({ cls := "ConkerYardModel", name := "isYard", desc := "()Z" } : Jvm.MethodName)) ∈ lw_tbl := lw_at lw_m7 10 rfl
theorem q1577 : (Jvm.Cond.instanceMethod ({ cls := "ConkerYardModel", name := "isYard", desc := "()Z" } : Jvm.MethodName)) ∈ lw_all := lw_g (lw_at lw_m7 11 rfl) rfl
theorem q1578 : (Jvm.Cond.code ({ cls := "ConkerYardModel", name := "isYard", desc := "()Z" } : Jvm.MethodName) prog_19_method_46_code (1 : Nat) (Option.some Jvm.ClassFile.FieldType.boolean)) ∈ lw_all := lw_g (lw_at lw_m7 12 rfl) rfl
theorem q1579 : (Jvm.Cond.methodLink "ConkerYardModel" (365 : Nat) ({ cls := "ConkerYardModel", name := "keepsAct", desc := "()V" } : Jvm.MethodName)) ∈ lw_all := lw_g (lw_at lw_m7 13 rfl) rfl
theorem q1580 : (Jvm.Cond.privateMethod ({ cls := "ConkerYardModel", name := "keepsAct", desc := "()V" } : Jvm.MethodName)) ∈ lw_tbl := lw_at lw_m7 14 rfl
theorem q1581 : (Jvm.Cond.instanceMethod ({ cls := "ConkerYardModel", name := "keepsAct", desc := "()V" } : Jvm.MethodName)) ∈ lw_all := lw_g (lw_at lw_m7 15 rfl) rfl
theorem q1582 : (Jvm.Cond.code ({ cls := "ConkerYardModel", name := "keepsAct", desc := "()V" } : Jvm.MethodName) prog_19_method_66_code (2 : Nat) (Option.none : Option Jvm.ClassFile.FieldType)) ∈ lw_all := lw_g (lw_at lw_m7 16 rfl) rfl
theorem q1583 : (Jvm.Cond.methodLink "ConkerYardModel" (359 : Nat) ({ cls := "ConkerYardModel", name := "passes", desc := "()I" } : Jvm.MethodName)) ∈ lw_all := lw_g (lw_at lw_m7 17 rfl) rfl
theorem q1584 : (Jvm.Cond.privateMethod ({ cls := "ConkerYardModel", name := "passes", desc := "()I" } : Jvm.MethodName)) ∈ lw_tbl := lw_at lw_m7 18 rfl
theorem q1585 : (Jvm.Cond.instanceMethod ({ cls := "ConkerYardModel", name := "passes", desc := "()I" } : Jvm.MethodName)) ∈ lw_all := lw_g (lw_at lw_m7 19 rfl) rfl
theorem q1586 : (Jvm.Cond.code ({ cls := "ConkerYardModel", name := "passes", desc := "()I" } : Jvm.MethodName) prog_19_method_64_code (3 : Nat) (Option.some Jvm.ClassFile.FieldType.int)) ∈ lw_all := lw_g (lw_at lw_m7 20 rfl) rfl
theorem q1587 : (Jvm.Cond.methodLink "ConkerYardModel" (350 : Nat) ({ cls := "ConkerYardModel", name := "choosesPlain", desc := "()V" } : Jvm.MethodName)) ∈ lw_all := lw_g (lw_at lw_m7 21 rfl) rfl
theorem q1588 : (Jvm.Cond.privateMethod ({ cls := "ConkerYardModel", name := "choosesPlain", desc := "()V" } : Jvm.MethodName)) ∈ lw_tbl := lw_at lw_m7 22 rfl
theorem q1589 : (Jvm.Cond.instanceMethod ({ cls := "ConkerYardModel", name := "choosesPlain", desc := "()V" } : Jvm.MethodName)) ∈ lw_all := lw_g (lw_at lw_m7 23 rfl) rfl
theorem q1590 : (Jvm.Cond.code ({ cls := "ConkerYardModel", name := "choosesPlain", desc := "()V" } : Jvm.MethodName) prog_19_method_62_code (1 : Nat) (Option.none : Option Jvm.ClassFile.FieldType)) ∈ lw_all := lw_g (lw_at lw_m7 24 rfl) rfl
theorem q1591 : (Jvm.Cond.methodLink "ConkerYardModel" (337 : Nat) ({ cls := "ConkerYardModel", name := "nextWhole", desc := "(I)I" } : Jvm.MethodName)) ∈ lw_all := lw_g (lw_at lw_m7 25 rfl) rfl
theorem q1592 : (Jvm.Cond.privateMethod ({ cls := "ConkerYardModel", name := "nextWhole", desc := "(I)I" } : Jvm.MethodName)) ∈ lw_tbl := lw_at lw_m7 26 rfl
theorem q1593 : (Jvm.Cond.instanceMethod ({ cls := "ConkerYardModel", name := "nextWhole", desc := "(I)I" } : Jvm.MethodName)) ∈ lw_all := lw_g (lw_at lw_m7 27 rfl) rfl
theorem q1594 : (Jvm.Cond.code ({ cls := "ConkerYardModel", name := "nextWhole", desc := "(I)I" } : Jvm.MethodName) prog_19_method_61_code (3 : Nat) (Option.some Jvm.ClassFile.FieldType.int)) ∈ lw_all := lw_g (lw_at lw_m7 28 rfl) rfl
theorem q1595 : (Jvm.Cond.methodLink "ConkerYardModel" (296 : Nat) ({ cls := "ConkerYardModel", name := "isWhole", desc := "(I)Z" } : Jvm.MethodName)) ∈ lw_all := lw_g (lw_at lw_m7 29 rfl) rfl
theorem q1596 : (Jvm.Cond.privateMethod ({ cls := "ConkerYardModel", name := "isWhole", desc := "(I)Z" } : Jvm.MethodName)) ∈ lw_tbl := lw_at lw_m7 30 rfl
theorem q1597 : (Jvm.Cond.instanceMethod ({ cls := "ConkerYardModel", name := "isWhole", desc := "(I)Z" } : Jvm.MethodName)) ∈ lw_all := lw_g (lw_at lw_m7 31 rfl) rfl
theorem q1598 : (Jvm.Cond.code ({ cls := "ConkerYardModel", name := "isWhole", desc := "(I)Z" } : Jvm.MethodName) prog_19_method_50_code (2 : Nat) (Option.some Jvm.ClassFile.FieldType.boolean)) ∈ lw_all := lw_g (lw_at lw_m7 32 rfl) rfl
theorem q1599 : (Jvm.Cond.methodLink "ConkerYardModel" (353 : Nat) ({ cls := "ConkerYardModel", name := "chooses", desc := "()V" } : Jvm.MethodName)) ∈ lw_all := lw_g (lw_at lw_m7 33 rfl) rfl
theorem q1600 : (Jvm.Cond.privateMethod ({ cls := "ConkerYardModel", name := "chooses", desc := "()V" } : Jvm.MethodName)) ∈ lw_tbl := lw_at lw_m7 34 rfl
theorem q1601 : (Jvm.Cond.instanceMethod ({ cls := "ConkerYardModel", name := "chooses", desc := "()V" } : Jvm.MethodName)) ∈ lw_all := lw_g (lw_at lw_m7 35 rfl) rfl
theorem q1602 : (Jvm.Cond.code ({ cls := "ConkerYardModel", name := "chooses", desc := "()V" } : Jvm.MethodName) prog_19_method_63_code (7 : Nat) (Option.none : Option Jvm.ClassFile.FieldType)) ∈ lw_all := lw_g (lw_at lw_m7 36 rfl) rfl
theorem q1603 : (Jvm.Cond.methodLink "ConkerYardModel" (346 : Nat) ({ cls := "ConkerYardModel", name := "sumOf", desc := "(II)J" } : Jvm.MethodName)) ∈ lw_all := lw_g (lw_at lw_m7 37 rfl) rfl
theorem q1604 : (Jvm.Cond.privateMethod ({ cls := "ConkerYardModel", name := "sumOf", desc := "(II)J" } : Jvm.MethodName)) ∈ lw_tbl := lw_at lw_m7 38 rfl
theorem q1605 : (Jvm.Cond.instanceMethod ({ cls := "ConkerYardModel", name := "sumOf", desc := "(II)J" } : Jvm.MethodName)) ∈ lw_all := lw_g (lw_at lw_m7 39 rfl) rfl
theorem q1606 : (Jvm.Cond.code ({ cls := "ConkerYardModel", name := "sumOf", desc := "(II)J" } : Jvm.MethodName) prog_19_method_60_code (4 : Nat) (Option.some Jvm.ClassFile.FieldType.long)) ∈ lw_all := lw_g (lw_at lw_m7 40 rfl) rfl
theorem q1607 : (Jvm.Cond.methodLink "ConkerYardModel" (327 : Nat) ({ cls := "ConkerYardModel", name := "wholeOnes", desc := "()I" } : Jvm.MethodName)) ∈ lw_all := lw_g (lw_at lw_m7 41 rfl) rfl
theorem q1608 : (Jvm.Cond.privateMethod ({ cls := "ConkerYardModel", name := "wholeOnes", desc := "()I" } : Jvm.MethodName)) ∈ lw_tbl := lw_at lw_m7 42 rfl
theorem q1609 : (Jvm.Cond.instanceMethod ({ cls := "ConkerYardModel", name := "wholeOnes", desc := "()I" } : Jvm.MethodName)) ∈ lw_all := lw_g (lw_at lw_m7 43 rfl) rfl
theorem q1610 : (Jvm.Cond.code ({ cls := "ConkerYardModel", name := "wholeOnes", desc := "()I" } : Jvm.MethodName) prog_19_method_51_code (3 : Nat) (Option.some Jvm.ClassFile.FieldType.int)) ∈ lw_all := lw_g (lw_at lw_m7 44 rfl) rfl
theorem q1611 : (Jvm.Cond.methodLink "ConkerYardModel" (330 : Nat) ({ cls := "ConkerYardModel", name := "bits", desc := "(I)I" } : Jvm.MethodName)) ∈ lw_all := lw_g (lw_at lw_m7 45 rfl) rfl
theorem q1612 : (Jvm.Cond.static ({ cls := "ConkerYardModel", name := "bits", desc := "(I)I" } : Jvm.MethodName)) ∈ lw_all := lw_g (lw_at lw_m7 46 rfl) rfl
theorem q1613 : (Jvm.Cond.code ({ cls := "ConkerYardModel", name := "bits", desc := "(I)I" } : Jvm.MethodName) prog_19_method_4_code (3 : Nat) (Option.some Jvm.ClassFile.FieldType.int)) ∈ lw_all := lw_g (lw_at lw_m7 47 rfl) rfl
theorem q1614 : (Jvm.Cond.methodLink "ConkerYardModel" (333 : Nat) ({ cls := "ConkerYardModel", name := "summedBy", desc := "(I)J" } : Jvm.MethodName)) ∈ lw_all := lw_g (lw_at lw_m7 48 rfl) rfl
theorem q1615 : (Jvm.Cond.privateMethod ({ cls := "ConkerYardModel", name := "summedBy", desc := "(I)J" } : Jvm.MethodName)) ∈ lw_tbl := lw_at lw_m7 49 rfl
theorem q1616 : (Jvm.Cond.instanceMethod ({ cls := "ConkerYardModel", name := "summedBy", desc := "(I)J" } : Jvm.MethodName)) ∈ lw_all := lw_g (lw_at lw_m7 50 rfl) rfl
theorem q1617 : (Jvm.Cond.code ({ cls := "ConkerYardModel", name := "summedBy", desc := "(I)J" } : Jvm.MethodName) prog_19_method_59_code (4 : Nat) (Option.some Jvm.ClassFile.FieldType.long)) ∈ lw_all := lw_g (lw_at lw_m7 51 rfl) rfl
theorem q1618 : (Jvm.Cond.methodLink "ConkerYardModel" (323 : Nat) ({ cls := "ConkerYardModel", name := "reckons", desc := "(III)J" } : Jvm.MethodName)) ∈ lw_all := lw_g (lw_at lw_m7 52 rfl) rfl
theorem q1619 : (Jvm.Cond.privateMethod ({ cls := "ConkerYardModel", name := "reckons", desc := "(III)J" } : Jvm.MethodName)) ∈ lw_tbl := lw_at lw_m7 53 rfl
theorem q1620 : (Jvm.Cond.instanceMethod ({ cls := "ConkerYardModel", name := "reckons", desc := "(III)J" } : Jvm.MethodName)) ∈ lw_all := lw_g (lw_at lw_m7 54 rfl) rfl
theorem q1621 : (Jvm.Cond.code ({ cls := "ConkerYardModel", name := "reckons", desc := "(III)J" } : Jvm.MethodName) prog_19_method_45_code (11 : Nat) (Option.some Jvm.ClassFile.FieldType.long)) ∈ lw_all := lw_g (lw_at lw_m7 55 rfl) rfl
theorem q1622 : (Jvm.Cond.methodLink "ConkerYardModel" (277 : Nat) ({ cls := "ConkerYardModel", name := "push", desc := "(J)V" } : Jvm.MethodName)) ∈ lw_all := lw_g (lw_at lw_m7 56 rfl) rfl
theorem q1623 : (Jvm.Cond.privateMethod ({ cls := "ConkerYardModel", name := "push", desc := "(J)V" } : Jvm.MethodName)) ∈ lw_tbl := lw_at lw_m7 57 rfl
theorem q1624 : (Jvm.Cond.instanceMethod ({ cls := "ConkerYardModel", name := "push", desc := "(J)V" } : Jvm.MethodName)) ∈ lw_all := lw_g (lw_at lw_m7 58 rfl) rfl
theorem q1625 : (Jvm.Cond.code ({ cls := "ConkerYardModel", name := "push", desc := "(J)V" } : Jvm.MethodName) prog_19_method_42_code (3 : Nat) (Option.none : Option Jvm.ClassFile.FieldType)) ∈ lw_all := lw_g (lw_at lw_m7 59 rfl) rfl
theorem q1626 : (Jvm.Cond.methodLink "ConkerYardModel" (281 : Nat) ({ cls := "ConkerYardModel", name := "pop", desc := "()J" } : Jvm.MethodName)) ∈ lw_all := lw_g (lw_at lw_m7 60 rfl) rfl
theorem q1627 : (Jvm.Cond.privateMethod ({ cls := "ConkerYardModel", name := "pop", desc := "()J" } : Jvm.MethodName)) ∈ lw_tbl := lw_at lw_m7 61 rfl
theorem q1628 : (Jvm.Cond.instanceMethod ({ cls := "ConkerYardModel", name := "pop", desc := "()J" } : Jvm.MethodName)) ∈ lw_all := lw_g (lw_at lw_m7 62 rfl) rfl
theorem q1629 : (Jvm.Cond.code ({ cls := "ConkerYardModel", name := "pop", desc := "()J" } : Jvm.MethodName) prog_19_method_43_code (1 : Nat) (Option.some Jvm.ClassFile.FieldType.long)) ∈ lw_all := lw_g (lw_at lw_m7 63 rfl) rfl
theorem q1630 : (Jvm.Cond.methodLink "ConkerYardModel" (285 : Nat) ({ cls := "ConkerYardModel", name := "one", desc := "(IJJ)J" } : Jvm.MethodName)) ∈ lw_all := lw_g (lw_at lw_m7 64 rfl) rfl
theorem q1631 : (Jvm.Cond.static ({ cls := "ConkerYardModel", name := "one", desc := "(IJJ)J" } : Jvm.MethodName)) ∈ lw_all := lw_g (lw_at lw_m7 65 rfl) rfl
theorem q1632 : (Jvm.Cond.code ({ cls := "ConkerYardModel", name := "one", desc := "(IJJ)J" } : Jvm.MethodName) prog_19_method_44_code (5 : Nat) (Option.some Jvm.ClassFile.FieldType.long)) ∈ lw_all := lw_g (lw_at lw_m7 66 rfl) rfl
theorem q1633 : (Jvm.Cond.methodLink "ConkerYardModel" (356 : Nat) ({ cls := "ConkerYardModel", name := "strikes", desc := "(II)I" } : Jvm.MethodName)) ∈ lw_all := lw_g (lw_at lw_m7 67 rfl) rfl
theorem q1634 : (Jvm.Cond.privateMethod ({ cls := "ConkerYardModel", name := "strikes", desc := "(II)I" } : Jvm.MethodName)) ∈ lw_tbl := lw_at lw_m7 68 rfl
theorem q1635 : (Jvm.Cond.instanceMethod ({ cls := "ConkerYardModel", name := "strikes", desc := "(II)I" } : Jvm.MethodName)) ∈ lw_all := lw_g (lw_at lw_m7 69 rfl) rfl
theorem q1636 : (Jvm.Cond.code ({ cls := "ConkerYardModel", name := "strikes", desc := "(II)I" } : Jvm.MethodName) prog_19_method_58_code (4 : Nat) (Option.some Jvm.ClassFile.FieldType.int)) ∈ lw_all := lw_g (lw_at lw_m7 70 rfl) rfl
theorem q1637 : (Jvm.Cond.methodLink "ConkerYardModel" (317 : Nat) ({ cls := "ConkerYardModel", name := "smashedOf", desc := "(II)I" } : Jvm.MethodName)) ∈ lw_all := lw_g (lw_at lw_m7 71 rfl) rfl
theorem q1638 : (Jvm.Cond.privateMethod ({ cls := "ConkerYardModel", name := "smashedOf", desc := "(II)I" } : Jvm.MethodName)) ∈ lw_tbl := lw_at lw_m7 72 rfl
theorem q1639 : (Jvm.Cond.instanceMethod ({ cls := "ConkerYardModel", name := "smashedOf", desc := "(II)I" } : Jvm.MethodName)) ∈ lw_all := lw_g (lw_at lw_m7 73 rfl) rfl
theorem q1640 : (Jvm.Cond.code ({ cls := "ConkerYardModel", name := "smashedOf", desc := "(II)I" } : Jvm.MethodName) prog_19_method_56_code (4 : Nat) (Option.some Jvm.ClassFile.FieldType.int)) ∈ lw_all := lw_g (lw_at lw_m7 74 rfl) rfl
theorem q1641 : (Jvm.Cond.methodLink "ConkerYardModel" (320 : Nat) ({ cls := "ConkerYardModel", name := "falls", desc := "(II)V" } : Jvm.MethodName)) ∈ lw_all := lw_g (lw_at lw_m7 75 rfl) rfl
theorem q1642 : (Jvm.Cond.privateMethod ({ cls := "ConkerYardModel", name := "falls", desc := "(II)V" } : Jvm.MethodName)) ∈ lw_tbl := lw_at lw_m7 76 rfl
theorem q1643 : (Jvm.Cond.instanceMethod ({ cls := "ConkerYardModel", name := "falls", desc := "(II)V" } : Jvm.MethodName)) ∈ lw_all := lw_g (lw_at lw_m7 77 rfl) rfl
theorem q1644 : (Jvm.Cond.code ({ cls := "ConkerYardModel", name := "falls", desc := "(II)V" } : Jvm.MethodName) prog_19_method_57_code (4 : Nat) (Option.none : Option Jvm.ClassFile.FieldType)) ∈ lw_all := lw_g (lw_at lw_m7 78 rfl) rfl
theorem q1646 : (Jvm.Cond.instanceMethod ({ cls := "ConkerYardModel", name := "bout", desc := "(II)I" } : Jvm.MethodName)) ∈ lw_all := lw_g (lw_at lw_m7 80 rfl) rfl
theorem q1647 : (Jvm.Cond.selects "ConkerYardModel" ({ cls := "ConkerYardModel", name := "bout", desc := "(II)I" } : Jvm.MethodName) ({ cls := "ConkerYardModel", name := "bout", desc := "(II)I" } : Jvm.MethodName)) ∈ lw_all := lw_g (lw_at lw_m7 81 rfl) rfl
theorem q1648 : (Jvm.Cond.code ({ cls := "ConkerYardModel", name := "bout", desc := "(II)I" } : Jvm.MethodName) prog_19_method_69_code (4 : Nat) (Option.some Jvm.ClassFile.FieldType.int)) ∈ lw_all := lw_g (lw_at lw_m7 82 rfl) rfl
theorem q1650 : (Jvm.Cond.instanceMethod ({ cls := "ConkerYardModel", name := "pickle", desc := "(II)I" } : Jvm.MethodName)) ∈ lw_all := lw_g (lw_at lw_m7 84 rfl) rfl
theorem q1651 : (Jvm.Cond.selects "ConkerYardModel" ({ cls := "ConkerYardModel", name := "pickle", desc := "(II)I" } : Jvm.MethodName) ({ cls := "ConkerYardModel", name := "pickle", desc := "(II)I" } : Jvm.MethodName)) ∈ lw_all := lw_g (lw_at lw_m7 85 rfl) rfl
theorem q1652 : (Jvm.Cond.code ({ cls := "ConkerYardModel", name := "pickle", desc := "(II)I" } : Jvm.MethodName) prog_19_method_71_code (3 : Nat) (Option.some Jvm.ClassFile.FieldType.int)) ∈ lw_all := lw_g (lw_at lw_m7 86 rfl) rfl
theorem q1653 : (Jvm.Cond.constantLong "ConkerYardModel" (368 : Nat) (9 : Int64)) ∈ lw_all := lw_g (lw_at lw_m7 87 rfl) rfl
theorem q1654 : (Jvm.Cond.methodLink "ConkerYardModel" (370 : Nat) ({ cls := "ConkerYardModel", name := "hardens", desc := "(II)V" } : Jvm.MethodName)) ∈ lw_all := lw_g (lw_at lw_m7 88 rfl) rfl
theorem q1655 : (Jvm.Cond.privateMethod ({ cls := "ConkerYardModel", name := "hardens", desc := "(II)V" } : Jvm.MethodName)) ∈ lw_tbl := lw_at lw_m7 89 rfl
theorem q1656 : (Jvm.Cond.instanceMethod ({ cls := "ConkerYardModel", name := "hardens", desc := "(II)V" } : Jvm.MethodName)) ∈ lw_all := lw_g (lw_at lw_m7 90 rfl) rfl
theorem q1657 : (Jvm.Cond.code ({ cls := "ConkerYardModel", name := "hardens", desc := "(II)V" } : Jvm.MethodName) prog_19_method_70_code (4 : Nat) (Option.none : Option Jvm.ClassFile.FieldType)) ∈ lw_all := lw_g (lw_at lw_m7 91 rfl) rfl
theorem q1659 : (Jvm.Cond.instanceMethod ({ cls := "ConkerYardModel", name := "mend", desc := "(I)I" } : Jvm.MethodName)) ∈ lw_all := lw_g (lw_at lw_m7 93 rfl) rfl
theorem q1660 : (Jvm.Cond.selects "ConkerYardModel" ({ cls := "ConkerYardModel", name := "mend", desc := "(I)I" } : Jvm.MethodName) ({ cls := "ConkerYardModel", name := "mend", desc := "(I)I" } : Jvm.MethodName)) ∈ lw_all := lw_g (lw_at lw_m7 94 rfl) rfl
theorem q1661 : (Jvm.Cond.code ({ cls := "ConkerYardModel", name := "mend", desc := "(I)I" } : Jvm.MethodName) prog_19_method_72_code (3 : Nat) (Option.some Jvm.ClassFile.FieldType.int)) ∈ lw_all := lw_g (lw_at lw_m7 95 rfl) rfl
theorem q1663 : (Jvm.Cond.instanceMethod ({ cls := "ConkerYardModel", name := "string", desc := "(II)I" } : Jvm.MethodName)) ∈ lw_all := lw_g (lw_at lw_m7 97 rfl) rfl
theorem q1664 : (Jvm.Cond.selects "ConkerYardModel" ({ cls := "ConkerYardModel", name := "string", desc := "(II)I" } : Jvm.MethodName) ({ cls := "ConkerYardModel", name := "string", desc := "(II)I" } : Jvm.MethodName)) ∈ lw_all := lw_g (lw_at lw_m7 98 rfl) rfl
theorem q1665 : (Jvm.Cond.code ({ cls := "ConkerYardModel", name := "string", desc := "(II)I" } : Jvm.MethodName) prog_19_method_73_code (4 : Nat) (Option.some Jvm.ClassFile.FieldType.int)) ∈ lw_all := lw_g (lw_at lw_m7 99 rfl) rfl
theorem q1666 : (Jvm.Cond.constantLong "ConkerYardModel" (373 : Nat) (20 : Int64)) ∈ lw_all := lw_g (lw_at lw_m7 100 rfl) rfl
theorem q1668 : (Jvm.Cond.instanceMethod ({ cls := "ConkerYardModel", name := "would", desc := "(III)I" } : Jvm.MethodName)) ∈ lw_all := lw_g (lw_at lw_m7 102 rfl) rfl
theorem q1669 : (Jvm.Cond.selects "ConkerYardModel" ({ cls := "ConkerYardModel", name := "would", desc := "(III)I" } : Jvm.MethodName) ({ cls := "ConkerYardModel", name := "would", desc := "(III)I" } : Jvm.MethodName)) ∈ lw_all := lw_g (lw_at lw_m7 103 rfl) rfl
theorem q1670 : (Jvm.Cond.code ({ cls := "ConkerYardModel", name := "would", desc := "(III)I" } : Jvm.MethodName) prog_19_method_74_code (5 : Nat) (Option.some Jvm.ClassFile.FieldType.int)) ∈ lw_all := lw_g (lw_at lw_m7 104 rfl) rfl
theorem q1672 : (Jvm.Cond.instanceMethod ({ cls := "ConkerYardModel", name := "beats", desc := "(I)I" } : Jvm.MethodName)) ∈ lw_all := lw_g (lw_at lw_m7 106 rfl) rfl
theorem q1673 : (Jvm.Cond.selects "ConkerYardModel" ({ cls := "ConkerYardModel", name := "beats", desc := "(I)I" } : Jvm.MethodName) ({ cls := "ConkerYardModel", name := "beats", desc := "(I)I" } : Jvm.MethodName)) ∈ lw_all := lw_g (lw_at lw_m7 107 rfl) rfl
theorem q1674 : (Jvm.Cond.code ({ cls := "ConkerYardModel", name := "beats", desc := "(I)I" } : Jvm.MethodName) prog_19_method_76_code (2 : Nat) (Option.some Jvm.ClassFile.FieldType.int)) ∈ lw_all := lw_g (lw_at lw_m7 108 rfl) rfl
theorem q1675 : (Jvm.Cond.methodLink "ConkerYardModel" (375 : Nat) ({ cls := "ConkerYardModel", name := "beatsOf", desc := "(I)I" } : Jvm.MethodName)) ∈ lw_all := lw_g (lw_at lw_m7 109 rfl) rfl
theorem q1676 : (Jvm.Cond.privateMethod ({ cls := "ConkerYardModel", name := "beatsOf", desc := "(I)I" } : Jvm.MethodName)) ∈ lw_tbl := lw_at lw_m7 110 rfl
theorem q1677 : (Jvm.Cond.instanceMethod ({ cls := "ConkerYardModel", name := "beatsOf", desc := "(I)I" } : Jvm.MethodName)) ∈ lw_all := lw_g (lw_at lw_m7 111 rfl) rfl
theorem q1678 : (Jvm.Cond.code ({ cls := "ConkerYardModel", name := "beatsOf", desc := "(I)I" } : Jvm.MethodName) prog_19_method_75_code (4 : Nat) (Option.some Jvm.ClassFile.FieldType.int)) ∈ lw_all := lw_g (lw_at lw_m7 112 rfl) rfl
theorem q1680 : (Jvm.Cond.instanceMethod ({ cls := "ConkerYardModel", name := "last", desc := "(I)I" } : Jvm.MethodName)) ∈ lw_all := lw_g (lw_at lw_m7 114 rfl) rfl
theorem q1681 : (Jvm.Cond.selects "ConkerYardModel" ({ cls := "ConkerYardModel", name := "last", desc := "(I)I" } : Jvm.MethodName) ({ cls := "ConkerYardModel", name := "last", desc := "(I)I" } : Jvm.MethodName)) ∈ lw_all := lw_g (lw_at lw_m7 115 rfl) rfl
theorem q1682 : (Jvm.Cond.code ({ cls := "ConkerYardModel", name := "last", desc := "(I)I" } : Jvm.MethodName) prog_19_method_79_code (2 : Nat) (Option.some Jvm.ClassFile.FieldType.int)) ∈ lw_all := lw_g (lw_at lw_m7 116 rfl) rfl
theorem q1683 : (Jvm.Cond.methodLink "ConkerYardModel" (381 : Nat) ({ cls := "ConkerYardModel", name := "fillsVictims", desc := "()V" } : Jvm.MethodName)) ∈ lw_all := lw_g (lw_at lw_m7 117 rfl) rfl
theorem q1684 : (Jvm.Cond.privateMethod ({ cls := "ConkerYardModel", name := "fillsVictims", desc := "()V" } : Jvm.MethodName)) ∈ lw_tbl := lw_at lw_m7 118 rfl
theorem q1685 : (Jvm.Cond.instanceMethod ({ cls := "ConkerYardModel", name := "fillsVictims", desc := "()V" } : Jvm.MethodName)) ∈ lw_all := lw_g (lw_at lw_m7 119 rfl) rfl
theorem q1686 : (Jvm.Cond.code ({ cls := "ConkerYardModel", name := "fillsVictims", desc := "()V" } : Jvm.MethodName) prog_19_method_77_code (2 : Nat) (Option.none : Option Jvm.ClassFile.FieldType)) ∈ lw_all := lw_g (lw_at lw_m7 120 rfl) rfl
theorem q1687 : (Jvm.Cond.methodLink "ConkerYardModel" (384 : Nat) ({ cls := "ConkerYardModel", name := "reach", desc := "(II)I" } : Jvm.MethodName)) ∈ lw_all := lw_g (lw_at lw_m7 121 rfl) rfl
theorem q1688 : (Jvm.Cond.privateMethod ({ cls := "ConkerYardModel", name := "reach", desc := "(II)I" } : Jvm.MethodName)) ∈ lw_tbl := lw_at lw_m7 122 rfl
theorem q1689 : (Jvm.Cond.instanceMethod ({ cls := "ConkerYardModel", name := "reach", desc := "(II)I" } : Jvm.MethodName)) ∈ lw_all := lw_g (lw_at lw_m7 123 rfl) rfl
theorem q1690 : (Jvm.Cond.code ({ cls := "ConkerYardModel", name := "reach", desc := "(II)I" } : Jvm.MethodName) prog_19_method_78_code (6 : Nat) (Option.some Jvm.ClassFile.FieldType.int)) ∈ lw_all := lw_g (lw_at lw_m7 124 rfl) rfl
theorem q1691 : (Jvm.Cond.methodLink "ConkerYardModel" (378 : Nat) ({ cls := "ConkerYardModel", name := "isOf", desc := "(II)Z" } : Jvm.MethodName)) ∈ lw_all := lw_g (lw_at lw_m7 125 rfl) rfl
theorem q1692 : (Jvm.Cond.static ({ cls := "ConkerYardModel", name := "isOf", desc := "(II)Z" } : Jvm.MethodName)) ∈ lw_all := lw_g (lw_at lw_m7 126 rfl) rfl
theorem q1693 : (Jvm.Cond.code ({ cls := "ConkerYardModel", name := "isOf", desc := "(II)Z" } : Jvm.MethodName) prog_19_method_3_code (2 : Nat) (Option.some Jvm.ClassFile.FieldType.boolean)) ∈ lw_all := lw_g (lw_at lw_m7 127 rfl) rfl
theorem q1695 : (Jvm.Cond.instanceMethod ({ cls := "ConkerYardModel", name := "own", desc := "(I)I" } : Jvm.MethodName)) ∈ lw_all := lw_g (lw_at lw_m7 129 rfl) rfl
theorem q1696 : (Jvm.Cond.selects "ConkerYardModel" ({ cls := "ConkerYardModel", name := "own", desc := "(I)I" } : Jvm.MethodName) ({ cls := "ConkerYardModel", name := "own", desc := "(I)I" } : Jvm.MethodName)) ∈ lw_all := lw_g (lw_at lw_m7 130 rfl) rfl
theorem q1697 : (Jvm.Cond.code ({ cls := "ConkerYardModel", name := "own", desc := "(I)I" } : Jvm.MethodName) prog_19_method_80_code (5 : Nat) (Option.some Jvm.ClassFile.FieldType.int)) ∈ lw_all := lw_g (lw_at lw_m7 131 rfl) rfl
theorem q1699 : (Jvm.Cond.instanceMethod ({ cls := "ConkerYardModel", name := "cups", desc := "(I)I" } : Jvm.MethodName)) ∈ lw_all := lw_g (lw_at lw_m7 133 rfl) rfl
theorem q1700 : (Jvm.Cond.selects "ConkerYardModel" ({ cls := "ConkerYardModel", name := "cups", desc := "(I)I" } : Jvm.MethodName) ({ cls := "ConkerYardModel", name := "cups", desc := "(I)I" } : Jvm.MethodName)) ∈ lw_all := lw_g (lw_at lw_m7 134 rfl) rfl
theorem q1701 : (Jvm.Cond.code ({ cls := "ConkerYardModel", name := "cups", desc := "(I)I" } : Jvm.MethodName) prog_19_method_85_code (6 : Nat) (Option.some Jvm.ClassFile.FieldType.int)) ∈ lw_all := lw_g (lw_at lw_m7 135 rfl) rfl
theorem q1702 : (Jvm.Cond.constantLong "ConkerYardModel" (396 : Nat) (-1 : Int64)) ∈ lw_all := lw_g (lw_at lw_m7 136 rfl) rfl
theorem q1703 : (Jvm.Cond.constantLong "ConkerYardModel" (398 : Nat) (7 : Int64)) ∈ lw_all := lw_g (lw_at lw_m7 137 rfl) rfl
theorem q1704 : (Jvm.Cond.methodLink "ConkerYardModel" (390 : Nat) ({ cls := "ConkerYardModel", name := "waysOf", desc := "(I)I" } : Jvm.MethodName)) ∈ lw_all := lw_g (lw_at lw_m7 138 rfl) rfl
theorem q1705 : (Jvm.Cond.static ({ cls := "ConkerYardModel", name := "waysOf", desc := "(I)I" } : Jvm.MethodName)) ∈ lw_all := lw_g (lw_at lw_m7 139 rfl) rfl
theorem q1706 : (Jvm.Cond.code ({ cls := "ConkerYardModel", name := "waysOf", desc := "(I)I" } : Jvm.MethodName) prog_19_method_81_code (3 : Nat) (Option.some Jvm.ClassFile.FieldType.int)) ∈ lw_all := lw_g (lw_at lw_m7 140 rfl) rfl
theorem q1707 : (Jvm.Cond.methodLink "ConkerYardModel" (400 : Nat) ({ cls := "ConkerYardModel", name := "lastBy", desc := "(II)I" } : Jvm.MethodName)) ∈ lw_all := lw_g (lw_at lw_m7 141 rfl) rfl
theorem q1708 : (Jvm.Cond.privateMethod ({ cls := "ConkerYardModel", name := "lastBy", desc := "(II)I" } : Jvm.MethodName)) ∈ lw_tbl := lw_at lw_m7 142 rfl
theorem q1709 : (Jvm.Cond.instanceMethod ({ cls := "ConkerYardModel", name := "lastBy", desc := "(II)I" } : Jvm.MethodName)) ∈ lw_all := lw_g (lw_at lw_m7 143 rfl) rfl
theorem q1710 : (Jvm.Cond.code ({ cls := "ConkerYardModel", name := "lastBy", desc := "(II)I" } : Jvm.MethodName) prog_19_method_84_code (6 : Nat) (Option.some Jvm.ClassFile.FieldType.int)) ∈ lw_all := lw_g (lw_at lw_m7 144 rfl) rfl
theorem q1711 : (Jvm.Cond.methodLink "ConkerYardModel" (393 : Nat) ({ cls := "ConkerYardModel", name := "plays", desc := "(II)V" } : Jvm.MethodName)) ∈ lw_all := lw_g (lw_at lw_m7 145 rfl) rfl
theorem q1712 : (Jvm.Cond.privateMethod ({ cls := "ConkerYardModel", name := "plays", desc := "(II)V" } : Jvm.MethodName)) ∈ lw_tbl := lw_at lw_m7 146 rfl
theorem q1713 : (Jvm.Cond.instanceMethod ({ cls := "ConkerYardModel", name := "plays", desc := "(II)V" } : Jvm.MethodName)) ∈ lw_all := lw_g (lw_at lw_m7 147 rfl) rfl
theorem q1714 : (Jvm.Cond.code ({ cls := "ConkerYardModel", name := "plays", desc := "(II)V" } : Jvm.MethodName) prog_19_method_83_code (10 : Nat) (Option.none : Option Jvm.ClassFile.FieldType)) ∈ lw_all := lw_g (lw_at lw_m7 148 rfl) rfl
theorem q1715 : (Jvm.Cond.methodLink "ConkerYardModel" (387 : Nat) ({ cls := "ConkerYardModel", name := "winnerOf", desc := "(II)I" } : Jvm.MethodName)) ∈ lw_all := lw_g (lw_at lw_m7 149 rfl) rfl
theorem q1716 : (Jvm.Cond.privateMethod ({ cls := "ConkerYardModel", name := "winnerOf", desc := "(II)I" } : Jvm.MethodName)) ∈ lw_tbl := lw_at lw_m7 150 rfl
theorem q1717 : (Jvm.Cond.instanceMethod ({ cls := "ConkerYardModel", name := "winnerOf", desc := "(II)I" } : Jvm.MethodName)) ∈ lw_all := lw_g (lw_at lw_m7 151 rfl) rfl
theorem q1718 : (Jvm.Cond.code ({ cls := "ConkerYardModel", name := "winnerOf", desc := "(II)I" } : Jvm.MethodName) prog_19_method_82_code (5 : Nat) (Option.some Jvm.ClassFile.FieldType.int)) ∈ lw_all := lw_g (lw_at lw_m7 152 rfl) rfl
theorem q1720 : (Jvm.Cond.instanceMethod ({ cls := "ConkerYardModel", name := "ladder", desc := "(I)I" } : Jvm.MethodName)) ∈ lw_all := lw_g (lw_at lw_m7 154 rfl) rfl
theorem q1721 : (Jvm.Cond.selects "ConkerYardModel" ({ cls := "ConkerYardModel", name := "ladder", desc := "(I)I" } : Jvm.MethodName) ({ cls := "ConkerYardModel", name := "ladder", desc := "(I)I" } : Jvm.MethodName)) ∈ lw_all := lw_g (lw_at lw_m7 155 rfl) rfl
theorem q1722 : (Jvm.Cond.code ({ cls := "ConkerYardModel", name := "ladder", desc := "(I)I" } : Jvm.MethodName) prog_19_method_88_code (3 : Nat) (Option.some Jvm.ClassFile.FieldType.int)) ∈ lw_all := lw_g (lw_at lw_m7 156 rfl) rfl
theorem q1723 : (Jvm.Cond.methodLink "ConkerYardModel" (406 : Nat) ({ cls := "ConkerYardModel", name := "findsLadder", desc := "()I" } : Jvm.MethodName)) ∈ lw_all := lw_g (lw_at lw_m7 157 rfl) rfl
theorem q1724 : (Jvm.Cond.privateMethod ({ cls := "ConkerYardModel", name := "findsLadder", desc := "()I" } : Jvm.MethodName)) ∈ lw_tbl := lw_at lw_m7 158 rfl
theorem q1725 : (Jvm.Cond.instanceMethod ({ cls := "ConkerYardModel", name := "findsLadder", desc := "()I" } : Jvm.MethodName)) ∈ lw_all := lw_g (lw_at lw_m7 159 rfl) rfl
theorem q1726 : (Jvm.Cond.code ({ cls := "ConkerYardModel", name := "findsLadder", desc := "()I" } : Jvm.MethodName) prog_19_method_87_code (4 : Nat) (Option.some Jvm.ClassFile.FieldType.int)) ∈ lw_all := lw_g (lw_at lw_m7 160 rfl) rfl
theorem q1727 : (Jvm.Cond.methodLink "ConkerYardModel" (403 : Nat) ({ cls := "ConkerYardModel", name := "canStand", desc := "(I)Z" } : Jvm.MethodName)) ∈ lw_all := lw_g (lw_at lw_m7 161 rfl) rfl
theorem q1728 : (Jvm.Cond.privateMethod ({ cls := "ConkerYardModel", name := "canStand", desc := "(I)Z" } : Jvm.MethodName)) ∈ lw_tbl := lw_at lw_m7 162 rfl
theorem q1729 : (Jvm.Cond.instanceMethod ({ cls := "ConkerYardModel", name := "canStand", desc := "(I)Z" } : Jvm.MethodName)) ∈ lw_all := lw_g (lw_at lw_m7 163 rfl) rfl
theorem q1730 : (Jvm.Cond.code ({ cls := "ConkerYardModel", name := "canStand", desc := "(I)Z" } : Jvm.MethodName) prog_19_method_86_code (4 : Nat) (Option.some Jvm.ClassFile.FieldType.boolean)) ∈ lw_all := lw_g (lw_at lw_m7 164 rfl) rfl
theorem q1732 : (Jvm.Cond.instanceMethod ({ cls := "ConkerYardModel", name := "rings", desc := "()I" } : Jvm.MethodName)) ∈ lw_all := lw_g (lw_at lw_m7 166 rfl) rfl
theorem q1733 : (Jvm.Cond.selects "ConkerYardModel" ({ cls := "ConkerYardModel", name := "rings", desc := "()I" } : Jvm.MethodName) ({ cls := "ConkerYardModel", name := "rings", desc := "()I" } : Jvm.MethodName)) ∈ lw_all := lw_g (lw_at lw_m7 167 rfl) rfl
theorem q1734 : (Jvm.Cond.code ({ cls := "ConkerYardModel", name := "rings", desc := "()I" } : Jvm.MethodName) prog_19_method_89_code (3 : Nat) (Option.some Jvm.ClassFile.FieldType.int)) ∈ lw_all := lw_g (lw_at lw_m7 168 rfl) rfl
theorem q1736 : (Jvm.Cond.instanceMethod ({ cls := "ConkerYardModel", name := "kings", desc := "()I" } : Jvm.MethodName)) ∈ lw_all := lw_g (lw_at lw_m7 170 rfl) rfl
theorem q1737 : (Jvm.Cond.selects "ConkerYardModel" ({ cls := "ConkerYardModel", name := "kings", desc := "()I" } : Jvm.MethodName) ({ cls := "ConkerYardModel", name := "kings", desc := "()I" } : Jvm.MethodName)) ∈ lw_all := lw_g (lw_at lw_m7 171 rfl) rfl
theorem q1738 : (Jvm.Cond.code ({ cls := "ConkerYardModel", name := "kings", desc := "()I" } : Jvm.MethodName) prog_19_method_91_code (3 : Nat) (Option.some Jvm.ClassFile.FieldType.int)) ∈ lw_all := lw_g (lw_at lw_m7 172 rfl) rfl
theorem q1739 : (Jvm.Cond.methodLink "ConkerYardModel" (409 : Nat) ({ cls := "ConkerYardModel", name := "underOf", desc := "(I)I" } : Jvm.MethodName)) ∈ lw_all := lw_g (lw_at lw_m7 173 rfl) rfl
theorem q1740 : (Jvm.Cond.privateMethod ({ cls := "ConkerYardModel", name := "underOf", desc := "(I)I" } : Jvm.MethodName)) ∈ lw_tbl := lw_at lw_m7 174 rfl
theorem q1741 : (Jvm.Cond.instanceMethod ({ cls := "ConkerYardModel", name := "underOf", desc := "(I)I" } : Jvm.MethodName)) ∈ lw_all := lw_g (lw_at lw_m7 175 rfl) rfl
theorem q1742 : (Jvm.Cond.code ({ cls := "ConkerYardModel", name := "underOf", desc := "(I)I" } : Jvm.MethodName) prog_19_method_90_code (4 : Nat) (Option.some Jvm.ClassFile.FieldType.int)) ∈ lw_all := lw_g (lw_at lw_m7 176 rfl) rfl
theorem q1744 : (Jvm.Cond.instanceMethod ({ cls := "ConkerYardModel", name := "ahead", desc := "(III)I" } : Jvm.MethodName)) ∈ lw_all := lw_g (lw_at lw_m7 178 rfl) rfl
theorem q1745 : (Jvm.Cond.selects "ConkerYardModel" ({ cls := "ConkerYardModel", name := "ahead", desc := "(III)I" } : Jvm.MethodName) ({ cls := "ConkerYardModel", name := "ahead", desc := "(III)I" } : Jvm.MethodName)) ∈ lw_all := lw_g (lw_at lw_m7 179 rfl) rfl
theorem q1746 : (Jvm.Cond.code ({ cls := "ConkerYardModel", name := "ahead", desc := "(III)I" } : Jvm.MethodName) prog_19_method_94_code (5 : Nat) (Option.some Jvm.ClassFile.FieldType.int)) ∈ lw_all := lw_g (lw_at lw_m7 180 rfl) rfl
theorem q1747 : (Jvm.Cond.constantLong "ConkerYardModel" (412 : Nat) (100 : Int64)) ∈ lw_all := lw_g (lw_at lw_m7 181 rfl) rfl
theorem q1748 : (Jvm.Cond.constantLong "ConkerYardModel" (414 : Nat) (2 : Int64)) ∈ lw_all := lw_g (lw_at lw_m7 182 rfl) rfl
theorem q1749 : (Jvm.Cond.methodLink "ConkerYardModel" (416 : Nat) ({ cls := "ConkerYardModel", name := "keeps", desc := "()V" } : Jvm.MethodName)) ∈ lw_all := lw_g (lw_at lw_m7 183 rfl) rfl
theorem q1750 : (Jvm.Cond.privateMethod ({ cls := "ConkerYardModel", name := "keeps", desc := "()V" } : Jvm.MethodName)) ∈ lw_tbl := lw_at lw_m7 184 rfl
theorem q1751 : (Jvm.Cond.instanceMethod ({ cls := "ConkerYardModel", name := "keeps", desc := "()V" } : Jvm.MethodName)) ∈ lw_all := lw_g (lw_at lw_m7 185 rfl) rfl
theorem q1752 : (Jvm.Cond.code ({ cls := "ConkerYardModel", name := "keeps", desc := "()V" } : Jvm.MethodName) prog_19_method_92_code (2 : Nat) (Option.none : Option Jvm.ClassFile.FieldType)) ∈ lw_all := lw_g (lw_at lw_m7 186 rfl) rfl
theorem q1753 : (Jvm.Cond.methodLink "ConkerYardModel" (419 : Nat) ({ cls := "ConkerYardModel", name := "passesAll", desc := "(I)V" } : Jvm.MethodName)) ∈ lw_all := lw_g (lw_at lw_m7 187 rfl) rfl
theorem q1754 : (Jvm.Cond.privateMethod ({ cls := "ConkerYardModel", name := "passesAll", desc := "(I)V" } : Jvm.MethodName)) ∈ lw_tbl := lw_at lw_m7 188 rfl
theorem q1755 : (Jvm.Cond.instanceMethod ({ cls := "ConkerYardModel", name := "passesAll", desc := "(I)V" } : Jvm.MethodName)) ∈ lw_all := lw_g (lw_at lw_m7 189 rfl) rfl
theorem q1756 : (Jvm.Cond.code ({ cls := "ConkerYardModel", name := "passesAll", desc := "(I)V" } : Jvm.MethodName) prog_19_method_65_code (3 : Nat) (Option.none : Option Jvm.ClassFile.FieldType)) ∈ lw_all := lw_g (lw_at lw_m7 190 rfl) rfl
theorem q1757 : (Jvm.Cond.methodLink "ConkerYardModel" (422 : Nat) ({ cls := "ConkerYardModel", name := "laysBack", desc := "()V" } : Jvm.MethodName)) ∈ lw_all := lw_g (lw_at lw_m7 191 rfl) rfl
theorem q1758 : (Jvm.Cond.privateMethod ({ cls := "ConkerYardModel", name := "laysBack", desc := "()V" } : Jvm.MethodName)) ∈ lw_tbl := lw_at lw_m7 192 rfl
theorem q1759 : (Jvm.Cond.instanceMethod ({ cls := "ConkerYardModel", name := "laysBack", desc := "()V" } : Jvm.MethodName)) ∈ lw_all := lw_g (lw_at lw_m7 193 rfl) rfl
theorem q1760 : (Jvm.Cond.code ({ cls := "ConkerYardModel", name := "laysBack", desc := "()V" } : Jvm.MethodName) prog_19_method_93_code (2 : Nat) (Option.none : Option Jvm.ClassFile.FieldType)) ∈ lw_all := lw_g (lw_at lw_m7 194 rfl) rfl
theorem q1762 : (Jvm.Cond.instanceMethod ({ cls := "ConkerYardModel", name := "smashed", desc := "(I)I" } : Jvm.MethodName)) ∈ lw_all := lw_g (lw_at lw_m7 196 rfl) rfl
theorem q1763 : (Jvm.Cond.selects "ConkerYardModel" ({ cls := "ConkerYardModel", name := "smashed", desc := "(I)I" } : Jvm.MethodName) ({ cls := "ConkerYardModel", name := "smashed", desc := "(I)I" } : Jvm.MethodName)) ∈ lw_all := lw_g (lw_at lw_m7 197 rfl) rfl
theorem q1764 : (Jvm.Cond.code ({ cls := "ConkerYardModel", name := "smashed", desc := "(I)I" } : Jvm.MethodName) prog_19_method_95_code (4 : Nat) (Option.some Jvm.ClassFile.FieldType.int)) ∈ lw_all := lw_g (lw_at lw_m7 198 rfl) rfl
theorem q1766 : (Jvm.Cond.instanceMethod ({ cls := "ConkerYardModel", name := "alone", desc := "()I" } : Jvm.MethodName)) ∈ lw_all := lw_g (lw_at lw_m7 200 rfl) rfl
theorem q1767 : (Jvm.Cond.selects "ConkerYardModel" ({ cls := "ConkerYardModel", name := "alone", desc := "()I" } : Jvm.MethodName) ({ cls := "ConkerYardModel", name := "alone", desc := "()I" } : Jvm.MethodName)) ∈ lw_all := lw_g (lw_at lw_m7 201 rfl) rfl
theorem q1768 : (Jvm.Cond.code ({ cls := "ConkerYardModel", name := "alone", desc := "()I" } : Jvm.MethodName) prog_19_method_96_code (3 : Nat) (Option.some Jvm.ClassFile.FieldType.int)) ∈ lw_all := lw_g (lw_at lw_m7 202 rfl) rfl
theorem q1770 : (Jvm.Cond.instanceMethod ({ cls := "ConkerYardModel", name := "best", desc := "(II)I" } : Jvm.MethodName)) ∈ lw_all := lw_g (lw_at lw_m7 204 rfl) rfl
theorem q1771 : (Jvm.Cond.selects "ConkerYardModel" ({ cls := "ConkerYardModel", name := "best", desc := "(II)I" } : Jvm.MethodName) ({ cls := "ConkerYardModel", name := "best", desc := "(II)I" } : Jvm.MethodName)) ∈ lw_all := lw_g (lw_at lw_m7 205 rfl) rfl
theorem q1772 : (Jvm.Cond.code ({ cls := "ConkerYardModel", name := "best", desc := "(II)I" } : Jvm.MethodName) prog_19_method_98_code (7 : Nat) (Option.some Jvm.ClassFile.FieldType.int)) ∈ lw_all := lw_g (lw_at lw_m7 206 rfl) rfl
theorem q1773 : (Jvm.Cond.constantLong "ConkerYardModel" (425 : Nat) (40 : Int64)) ∈ lw_all := lw_g (lw_at lw_m7 207 rfl) rfl
theorem q1774 : (Jvm.Cond.methodLink "ConkerYardModel" (427 : Nat) ({ cls := "ConkerYardModel", name := "wholeIn", desc := "(I)I" } : Jvm.MethodName)) ∈ lw_all := lw_g (lw_at lw_m7 208 rfl) rfl
theorem q1775 : (Jvm.Cond.privateMethod ({ cls := "ConkerYardModel", name := "wholeIn", desc := "(I)I" } : Jvm.MethodName)) ∈ lw_tbl := lw_at lw_m7 209 rfl
theorem q1776 : (Jvm.Cond.instanceMethod ({ cls := "ConkerYardModel", name := "wholeIn", desc := "(I)I" } : Jvm.MethodName)) ∈ lw_all := lw_g (lw_at lw_m7 210 rfl) rfl
theorem q1777 : (Jvm.Cond.code ({ cls := "ConkerYardModel", name := "wholeIn", desc := "(I)I" } : Jvm.MethodName) prog_19_method_97_code (3 : Nat) (Option.some Jvm.ClassFile.FieldType.int)) ∈ lw_all := lw_g (lw_at lw_m7 211 rfl) rfl
theorem q1779 : (Jvm.Cond.instanceMethod ({ cls := "ConkerYardModel", name := "rests", desc := "(IIII)I" } : Jvm.MethodName)) ∈ lw_all := lw_g (lw_at lw_m7 213 rfl) rfl
theorem q1780 : (Jvm.Cond.selects "ConkerYardModel" ({ cls := "ConkerYardModel", name := "rests", desc := "(IIII)I" } : Jvm.MethodName) ({ cls := "ConkerYardModel", name := "rests", desc := "(IIII)I" } : Jvm.MethodName)) ∈ lw_all := lw_g (lw_at lw_m7 214 rfl) rfl
theorem q1781 : (Jvm.Cond.code ({ cls := "ConkerYardModel", name := "rests", desc := "(IIII)I" } : Jvm.MethodName) prog_19_method_102_code (8 : Nat) (Option.some Jvm.ClassFile.FieldType.int)) ∈ lw_all := lw_g (lw_at lw_m7 215 rfl) rfl
theorem q1782 : (Jvm.Cond.methodLink "ConkerYardModel" (433 : Nat) ({ cls := "ConkerYardModel", name := "fillsRest", desc := "(IIII)V" } : Jvm.MethodName)) ∈ lw_all := lw_g (lw_at lw_m7 216 rfl) rfl
theorem q1783 : (Jvm.Cond.privateMethod ({ cls := "ConkerYardModel", name := "fillsRest", desc := "(IIII)V" } : Jvm.MethodName)) ∈ lw_tbl := lw_at lw_m7 217 rfl
theorem q1784 : (Jvm.Cond.instanceMethod ({ cls := "ConkerYardModel", name := "fillsRest", desc := "(IIII)V" } : Jvm.MethodName)) ∈ lw_all := lw_g (lw_at lw_m7 218 rfl) rfl
theorem q1785 : (Jvm.Cond.code ({ cls := "ConkerYardModel", name := "fillsRest", desc := "(IIII)V" } : Jvm.MethodName) prog_19_method_101_code (5 : Nat) (Option.none : Option Jvm.ClassFile.FieldType)) ∈ lw_all := lw_g (lw_at lw_m7 219 rfl) rfl
theorem q1786 : (Jvm.Cond.methodLink "ConkerYardModel" (430 : Nat) ({ cls := "ConkerYardModel", name := "hasThen", desc := "(I)I" } : Jvm.MethodName)) ∈ lw_all := lw_g (lw_at lw_m7 220 rfl) rfl
theorem q1787 : (Jvm.Cond.privateMethod ({ cls := "ConkerYardModel", name := "hasThen", desc := "(I)I" } : Jvm.MethodName)) ∈ lw_tbl := lw_at lw_m7 221 rfl
theorem q1788 : (Jvm.Cond.instanceMethod ({ cls := "ConkerYardModel", name := "hasThen", desc := "(I)I" } : Jvm.MethodName)) ∈ lw_all := lw_g (lw_at lw_m7 222 rfl) rfl
theorem q1789 : (Jvm.Cond.code ({ cls := "ConkerYardModel", name := "hasThen", desc := "(I)I" } : Jvm.MethodName) prog_19_method_100_code (2 : Nat) (Option.some Jvm.ClassFile.FieldType.int)) ∈ lw_all := lw_g (lw_at lw_m7 223 rfl) rfl
theorem q1790 : (Jvm.Cond.methodLink "ConkerYardModel" (437 : Nat) ({ cls := "ConkerYardModel", name := "isRest", desc := "(II)Z" } : Jvm.MethodName)) ∈ lw_all := lw_g (lw_at lw_m7 224 rfl) rfl
theorem q1791 : (Jvm.Cond.privateMethod ({ cls := "ConkerYardModel", name := "isRest", desc := "(II)Z" } : Jvm.MethodName)) ∈ lw_tbl := lw_at lw_m7 225 rfl
theorem q1792 : (Jvm.Cond.instanceMethod ({ cls := "ConkerYardModel", name := "isRest", desc := "(II)Z" } : Jvm.MethodName)) ∈ lw_all := lw_g (lw_at lw_m7 226 rfl) rfl
theorem q1793 : (Jvm.Cond.code ({ cls := "ConkerYardModel", name := "isRest", desc := "(II)Z" } : Jvm.MethodName) prog_19_method_99_code (4 : Nat) (Option.some Jvm.ClassFile.FieldType.boolean)) ∈ lw_all := lw_g (lw_at lw_m7 227 rfl) rfl
theorem q1795 : (Jvm.Cond.instanceMethod ({ cls := "ConkerYardModel", name := "pence", desc := "(II)I" } : Jvm.MethodName)) ∈ lw_all := lw_g (lw_at lw_m7 229 rfl) rfl
theorem q1796 : (Jvm.Cond.selects "ConkerYardModel" ({ cls := "ConkerYardModel", name := "pence", desc := "(II)I" } : Jvm.MethodName) ({ cls := "ConkerYardModel", name := "pence", desc := "(II)I" } : Jvm.MethodName)) ∈ lw_all := lw_g (lw_at lw_m7 230 rfl) rfl
theorem q1797 : (Jvm.Cond.code ({ cls := "ConkerYardModel", name := "pence", desc := "(II)I" } : Jvm.MethodName) prog_19_method_103_code (9 : Nat) (Option.some Jvm.ClassFile.FieldType.int)) ∈ lw_all := lw_g (lw_at lw_m7 231 rfl) rfl
theorem q1798 : (Jvm.Cond.constantLong "ConkerYardModel" (440 : Nat) (9999 : Int64)) ∈ lw_all := lw_g (lw_at lw_m7 232 rfl) rfl
theorem q1799 : (Jvm.Cond.methodLink "ConkerYardModel" (442 : Nat) ({ cls := "ConkerYardModel", name := "sumOver", desc := "(I)I" } : Jvm.MethodName)) ∈ lw_all := lw_g (lw_at lw_m7 233 rfl) rfl
theorem q1800 : (Jvm.Cond.privateMethod ({ cls := "ConkerYardModel", name := "sumOver", desc := "(I)I" } : Jvm.MethodName)) ∈ lw_tbl := lw_at lw_m7 234 rfl
theorem q1801 : (Jvm.Cond.instanceMethod ({ cls := "ConkerYardModel", name := "sumOver", desc := "(I)I" } : Jvm.MethodName)) ∈ lw_all := lw_g (lw_at lw_m7 235 rfl) rfl
theorem q1802 : (Jvm.Cond.code ({ cls := "ConkerYardModel", name := "sumOver", desc := "(I)I" } : Jvm.MethodName) prog_19_method_52_code (4 : Nat) (Option.some Jvm.ClassFile.FieldType.int)) ∈ lw_all := lw_g (lw_at lw_m7 236 rfl) rfl
theorem q1804 : (Jvm.Cond.instanceMethod ({ cls := "ConkerYardModel", name := "note", desc := "(III)I" } : Jvm.MethodName)) ∈ lw_all := lw_g (lw_at lw_m7 238 rfl) rfl
theorem q1805 : (Jvm.Cond.selects "ConkerYardModel" ({ cls := "ConkerYardModel", name := "note", desc := "(III)I" } : Jvm.MethodName) ({ cls := "ConkerYardModel", name := "note", desc := "(III)I" } : Jvm.MethodName)) ∈ lw_all := lw_g (lw_at lw_m7 239 rfl) rfl
theorem q1806 : (Jvm.Cond.code ({ cls := "ConkerYardModel", name := "note", desc := "(III)I" } : Jvm.MethodName) prog_19_method_104_code (5 : Nat) (Option.some Jvm.ClassFile.FieldType.int)) ∈ lw_all := lw_g (lw_at lw_m8 0 rfl) rfl
theorem q1807 : (Jvm.Cond.constantLong "ConkerYardModel" (445 : Nat) (60 : Int64)) ∈ lw_all := lw_g (lw_at lw_m8 1 rfl) rfl
theorem q1809 : (Jvm.Cond.instanceMethod ({ cls := "ConkerYardModel", name := "ruled", desc := "(I)I" } : Jvm.MethodName)) ∈ lw_all := lw_g (lw_at lw_m8 3 rfl) rfl
theorem q1810 : (Jvm.Cond.selects "ConkerYardModel" ({ cls := "ConkerYardModel", name := "ruled", desc := "(I)I" } : Jvm.MethodName) ({ cls := "ConkerYardModel", name := "ruled", desc := "(I)I" } : Jvm.MethodName)) ∈ lw_all := lw_g (lw_at lw_m8 4 rfl) rfl
theorem q1811 : (Jvm.Cond.code ({ cls := "ConkerYardModel", name := "ruled", desc := "(I)I" } : Jvm.MethodName) prog_19_method_108_code (5 : Nat) (Option.some Jvm.ClassFile.FieldType.int)) ∈ lw_all := lw_g (lw_at lw_m8 5 rfl) rfl
theorem q1812 : (Jvm.Cond.methodLink "ConkerYardModel" (453 : Nat) ({ cls := "ConkerYardModel", name := "fillsFits", desc := "(I)V" } : Jvm.MethodName)) ∈ lw_all := lw_g (lw_at lw_m8 6 rfl) rfl
theorem q1813 : (Jvm.Cond.privateMethod ({ cls := "ConkerYardModel", name := "fillsFits", desc := "(I)V" } : Jvm.MethodName)) ∈ lw_tbl := lw_at lw_m8 7 rfl
theorem q1814 : (Jvm.Cond.instanceMethod ({ cls := "ConkerYardModel", name := "fillsFits", desc := "(I)V" } : Jvm.MethodName)) ∈ lw_all := lw_g (lw_at lw_m8 8 rfl) rfl
theorem q1815 : (Jvm.Cond.code ({ cls := "ConkerYardModel", name := "fillsFits", desc := "(I)V" } : Jvm.MethodName) prog_19_method_107_code (4 : Nat) (Option.none : Option Jvm.ClassFile.FieldType)) ∈ lw_all := lw_g (lw_at lw_m8 9 rfl) rfl
theorem q1816 : (Jvm.Cond.methodLink "ConkerYardModel" (450 : Nat) ({ cls := "ConkerYardModel", name := "areAllSo", desc := "(II)Z" } : Jvm.MethodName)) ∈ lw_all := lw_g (lw_at lw_m8 10 rfl) rfl
theorem q1817 : (Jvm.Cond.privateMethod ({ cls := "ConkerYardModel", name := "areAllSo", desc := "(II)Z" } : Jvm.MethodName)) ∈ lw_tbl := lw_at lw_m8 11 rfl
theorem q1818 : (Jvm.Cond.instanceMethod ({ cls := "ConkerYardModel", name := "areAllSo", desc := "(II)Z" } : Jvm.MethodName)) ∈ lw_all := lw_g (lw_at lw_m8 12 rfl) rfl
theorem q1819 : (Jvm.Cond.code ({ cls := "ConkerYardModel", name := "areAllSo", desc := "(II)Z" } : Jvm.MethodName) prog_19_method_106_code (5 : Nat) (Option.some Jvm.ClassFile.FieldType.boolean)) ∈ lw_all := lw_g (lw_at lw_m8 13 rfl) rfl
theorem q1820 : (Jvm.Cond.methodLink "ConkerYardModel" (447 : Nat) ({ cls := "ConkerYardModel", name := "areNotesSo", desc := "(I)Z" } : Jvm.MethodName)) ∈ lw_all := lw_g (lw_at lw_m8 14 rfl) rfl
theorem q1821 : (Jvm.Cond.privateMethod ({ cls := "ConkerYardModel", name := "areNotesSo", desc := "(I)Z" } : Jvm.MethodName)) ∈ lw_tbl := lw_at lw_m8 15 rfl
theorem q1822 : (Jvm.Cond.instanceMethod ({ cls := "ConkerYardModel", name := "areNotesSo", desc := "(I)Z" } : Jvm.MethodName)) ∈ lw_all := lw_g (lw_at lw_m8 16 rfl) rfl
theorem q1823 : (Jvm.Cond.code ({ cls := "ConkerYardModel", name := "areNotesSo", desc := "(I)Z" } : Jvm.MethodName) prog_19_method_105_code (3 : Nat) (Option.some Jvm.ClassFile.FieldType.boolean)) ∈ lw_all := lw_g (lw_at lw_m8 17 rfl) rfl
theorem q1825 : (Jvm.Cond.instanceMethod ({ cls := "ConkerYardModel", name := "look", desc := "(II)I" } : Jvm.MethodName)) ∈ lw_all := lw_g (lw_at lw_m8 19 rfl) rfl
theorem q1826 : (Jvm.Cond.selects "ConkerYardModel" ({ cls := "ConkerYardModel", name := "look", desc := "(II)I" } : Jvm.MethodName) ({ cls := "ConkerYardModel", name := "look", desc := "(II)I" } : Jvm.MethodName)) ∈ lw_all := lw_g (lw_at lw_m8 20 rfl) rfl
theorem q1827 : (Jvm.Cond.code ({ cls := "ConkerYardModel", name := "look", desc := "(II)I" } : Jvm.MethodName) prog_19_method_110_code (7 : Nat) (Option.some Jvm.ClassFile.FieldType.int)) ∈ lw_all := lw_g (lw_at lw_m8 21 rfl) rfl
theorem q1828 : (Jvm.Cond.methodLink "ConkerYardModel" (456 : Nat) ({ cls := "ConkerYardModel", name := "alikeAt", desc := "(I)I" } : Jvm.MethodName)) ∈ lw_all := lw_g (lw_at lw_m8 22 rfl) rfl
theorem q1829 : (Jvm.Cond.privateMethod ({ cls := "ConkerYardModel", name := "alikeAt", desc := "(I)I" } : Jvm.MethodName)) ∈ lw_tbl := lw_at lw_m8 23 rfl
theorem q1830 : (Jvm.Cond.instanceMethod ({ cls := "ConkerYardModel", name := "alikeAt", desc := "(I)I" } : Jvm.MethodName)) ∈ lw_all := lw_g (lw_at lw_m8 24 rfl) rfl
theorem q1831 : (Jvm.Cond.code ({ cls := "ConkerYardModel", name := "alikeAt", desc := "(I)I" } : Jvm.MethodName) prog_19_method_109_code (5 : Nat) (Option.some Jvm.ClassFile.FieldType.int)) ∈ lw_all := lw_g (lw_at lw_m8 25 rfl) rfl
theorem q1833 : (Jvm.Cond.instanceMethod ({ cls := "ConkerYardModel", name := "hards", desc := "(II)I" } : Jvm.MethodName)) ∈ lw_all := lw_g (lw_at lw_m8 27 rfl) rfl
theorem q1834 : (Jvm.Cond.selects "ConkerYardModel" ({ cls := "ConkerYardModel", name := "hards", desc := "(II)I" } : Jvm.MethodName) ({ cls := "ConkerYardModel", name := "hards", desc := "(II)I" } : Jvm.MethodName)) ∈ lw_all := lw_g (lw_at lw_m8 28 rfl) rfl
theorem q1835 : (Jvm.Cond.code ({ cls := "ConkerYardModel", name := "hards", desc := "(II)I" } : Jvm.MethodName) prog_19_method_112_code (6 : Nat) (Option.some Jvm.ClassFile.FieldType.int)) ∈ lw_all := lw_g (lw_at lw_m8 29 rfl) rfl
theorem q1836 : (Jvm.Cond.methodLink "ConkerYardModel" (459 : Nat) ({ cls := "ConkerYardModel", name := "canBe", desc := "(III)I" } : Jvm.MethodName)) ∈ lw_all := lw_g (lw_at lw_m8 30 rfl) rfl
theorem q1837 : (Jvm.Cond.privateMethod ({ cls := "ConkerYardModel", name := "canBe", desc := "(III)I" } : Jvm.MethodName)) ∈ lw_tbl := lw_at lw_m8 31 rfl
theorem q1838 : (Jvm.Cond.instanceMethod ({ cls := "ConkerYardModel", name := "canBe", desc := "(III)I" } : Jvm.MethodName)) ∈ lw_all := lw_g (lw_at lw_m8 32 rfl) rfl
theorem q1839 : (Jvm.Cond.code ({ cls := "ConkerYardModel", name := "canBe", desc := "(III)I" } : Jvm.MethodName) prog_19_method_111_code (7 : Nat) (Option.some Jvm.ClassFile.FieldType.int)) ∈ lw_all := lw_g (lw_at lw_m8 33 rfl) rfl
theorem q1841 : (Jvm.Cond.instanceMethod ({ cls := "ConkerYardModel", name := "swings", desc := "(I)I" } : Jvm.MethodName)) ∈ lw_all := lw_g (lw_at lw_m8 35 rfl) rfl
theorem q1842 : (Jvm.Cond.selects "ConkerYardModel" ({ cls := "ConkerYardModel", name := "swings", desc := "(I)I" } : Jvm.MethodName) ({ cls := "ConkerYardModel", name := "swings", desc := "(I)I" } : Jvm.MethodName)) ∈ lw_all := lw_g (lw_at lw_m8 36 rfl) rfl
theorem q1843 : (Jvm.Cond.code ({ cls := "ConkerYardModel", name := "swings", desc := "(I)I" } : Jvm.MethodName) prog_19_method_113_code (2 : Nat) (Option.some Jvm.ClassFile.FieldType.int)) ∈ lw_all := lw_g (lw_at lw_m8 37 rfl) rfl
theorem q1845 : (Jvm.Cond.instanceMethod ({ cls := "ConkerYardModel", name := "seed", desc := "(I)I" } : Jvm.MethodName)) ∈ lw_all := lw_g (lw_at lw_m8 39 rfl) rfl
theorem q1846 : (Jvm.Cond.selects "ConkerYardModel" ({ cls := "ConkerYardModel", name := "seed", desc := "(I)I" } : Jvm.MethodName) ({ cls := "ConkerYardModel", name := "seed", desc := "(I)I" } : Jvm.MethodName)) ∈ lw_all := lw_g (lw_at lw_m8 40 rfl) rfl
theorem q1847 : (Jvm.Cond.code ({ cls := "ConkerYardModel", name := "seed", desc := "(I)I" } : Jvm.MethodName) prog_19_method_114_code (3 : Nat) (Option.some Jvm.ClassFile.FieldType.int)) ∈ lw_all := lw_g (lw_at lw_m8 41 rfl) rfl
theorem q1849 : (Jvm.Cond.instanceMethod ({ cls := "ConkerYardModel", name := "frost", desc := "(IIII)I" } : Jvm.MethodName)) ∈ lw_all := lw_g (lw_at lw_m8 43 rfl) rfl
theorem q1850 : (Jvm.Cond.selects "ConkerYardModel" ({ cls := "ConkerYardModel", name := "frost", desc := "(IIII)I" } : Jvm.MethodName) ({ cls := "ConkerYardModel", name := "frost", desc := "(IIII)I" } : Jvm.MethodName)) ∈ lw_all := lw_g (lw_at lw_m8 44 rfl) rfl
theorem q1851 : (Jvm.Cond.code ({ cls := "ConkerYardModel", name := "frost", desc := "(IIII)I" } : Jvm.MethodName) prog_19_method_117_code (9 : Nat) (Option.some Jvm.ClassFile.FieldType.int)) ∈ lw_all := lw_g (lw_at lw_m8 45 rfl) rfl
theorem q1852 : (Jvm.Cond.constantLong "ConkerYardModel" (478 : Nat) (10 : Int64)) ∈ lw_all := lw_g (lw_at lw_m8 46 rfl) rfl
theorem q1853 : (Jvm.Cond.methodLink "ConkerYardModel" (480 : Nat) ({ cls := "ConkerYardModel", name := "draw", desc := "(I)I" } : Jvm.MethodName)) ∈ lw_all := lw_g (lw_at lw_m8 47 rfl) rfl
theorem q1854 : (Jvm.Cond.privateMethod ({ cls := "ConkerYardModel", name := "draw", desc := "(I)I" } : Jvm.MethodName)) ∈ lw_tbl := lw_at lw_m8 48 rfl
theorem q1855 : (Jvm.Cond.instanceMethod ({ cls := "ConkerYardModel", name := "draw", desc := "(I)I" } : Jvm.MethodName)) ∈ lw_all := lw_g (lw_at lw_m8 49 rfl) rfl
theorem q1856 : (Jvm.Cond.code ({ cls := "ConkerYardModel", name := "draw", desc := "(I)I" } : Jvm.MethodName) prog_19_method_115_code (2 : Nat) (Option.some Jvm.ClassFile.FieldType.int)) ∈ lw_all := lw_g (lw_at lw_m8 50 rfl) rfl
theorem q1857 : (Jvm.Cond.constantLong "ConkerYardModel" (470 : Nat) (1103515245 : Int64)) ∈ lw_all := lw_g (lw_at lw_m8 51 rfl) rfl
theorem q1858 : (Jvm.Cond.constantLong "ConkerYardModel" (472 : Nat) (12345 : Int64)) ∈ lw_all := lw_g (lw_at lw_m8 52 rfl) rfl
theorem q1859 : (Jvm.Cond.constantLong "ConkerYardModel" (474 : Nat) (2147483648 : Int64)) ∈ lw_all := lw_g (lw_at lw_m8 53 rfl) rfl
theorem q1860 : (Jvm.Cond.constantLong "ConkerYardModel" (476 : Nat) (65536 : Int64)) ∈ lw_all := lw_g (lw_at lw_m8 54 rfl) rfl
theorem q1861 : (Jvm.Cond.methodLink "ConkerYardModel" (483 : Nat) ({ cls := "ConkerYardModel", name := "freezes", desc := "(I)V" } : Jvm.MethodName)) ∈ lw_all := lw_g (lw_at lw_m8 55 rfl) rfl
theorem q1862 : (Jvm.Cond.privateMethod ({ cls := "ConkerYardModel", name := "freezes", desc := "(I)V" } : Jvm.MethodName)) ∈ lw_tbl := lw_at lw_m8 56 rfl
theorem q1863 : (Jvm.Cond.instanceMethod ({ cls := "ConkerYardModel", name := "freezes", desc := "(I)V" } : Jvm.MethodName)) ∈ lw_all := lw_g (lw_at lw_m8 57 rfl) rfl
theorem q1864 : (Jvm.Cond.code ({ cls := "ConkerYardModel", name := "freezes", desc := "(I)V" } : Jvm.MethodName) prog_19_method_116_code (3 : Nat) (Option.none : Option Jvm.ClassFile.FieldType)) ∈ lw_all := lw_g (lw_at lw_m8 58 rfl) rfl
theorem q1866 : (Jvm.Cond.instanceMethod ({ cls := "ConkerYardModel", name := "count", desc := "(I)I" } : Jvm.MethodName)) ∈ lw_all := lw_g (lw_at lw_m8 60 rfl) rfl
theorem q1867 : (Jvm.Cond.selects "ConkerYardModel" ({ cls := "ConkerYardModel", name := "count", desc := "(I)I" } : Jvm.MethodName) ({ cls := "ConkerYardModel", name := "count", desc := "(I)I" } : Jvm.MethodName)) ∈ lw_all := lw_g (lw_at lw_m8 61 rfl) rfl
theorem q1868 : (Jvm.Cond.code ({ cls := "ConkerYardModel", name := "count", desc := "(I)I" } : Jvm.MethodName) prog_19_method_118_code (2 : Nat) (Option.some Jvm.ClassFile.FieldType.int)) ∈ lw_all := lw_g (lw_at lw_m8 62 rfl) rfl
theorem q1870 : (Jvm.Cond.instanceMethod ({ cls := "ConkerYardModel", name := "image", desc := "(I)I" } : Jvm.MethodName)) ∈ lw_all := lw_g (lw_at lw_m8 64 rfl) rfl
theorem q1871 : (Jvm.Cond.selects "ConkerYardModel" ({ cls := "ConkerYardModel", name := "image", desc := "(I)I" } : Jvm.MethodName) ({ cls := "ConkerYardModel", name := "image", desc := "(I)I" } : Jvm.MethodName)) ∈ lw_all := lw_g (lw_at lw_m8 65 rfl) rfl
theorem q1872 : (Jvm.Cond.code ({ cls := "ConkerYardModel", name := "image", desc := "(I)I" } : Jvm.MethodName) prog_19_method_119_code (3 : Nat) (Option.some Jvm.ClassFile.FieldType.int)) ∈ lw_all := lw_g (lw_at lw_m8 66 rfl) rfl
theorem q1873 : (Jvm.Cond.constantLong "ConkerYardModel" (486 : Nat) (3 : Int64)) ∈ lw_all := lw_g (lw_at lw_m8 67 rfl) rfl
theorem q1875 : (Jvm.Cond.instanceMethod ({ cls := "ConkerYardModel", name := "back", desc := "(I)I" } : Jvm.MethodName)) ∈ lw_all := lw_g (lw_at lw_m8 69 rfl) rfl
theorem q1876 : (Jvm.Cond.selects "ConkerYardModel" ({ cls := "ConkerYardModel", name := "back", desc := "(I)I" } : Jvm.MethodName) ({ cls := "ConkerYardModel", name := "back", desc := "(I)I" } : Jvm.MethodName)) ∈ lw_all := lw_g (lw_at lw_m8 70 rfl) rfl
theorem q1877 : (Jvm.Cond.code ({ cls := "ConkerYardModel", name := "back", desc := "(I)I" } : Jvm.MethodName) prog_19_method_120_code (3 : Nat) (Option.some Jvm.ClassFile.FieldType.int)) ∈ lw_all := lw_g (lw_at lw_m8 71 rfl) rfl
theorem q1887 : (Jvm.Cond.castable "ConkerYardModel" "java/lang/Object") ∈ lw_tbl := lw_at lw_m8 81 rfl
theorem in_X4 : ∀ w ∈ wsX40, w ∈ lw_all := lw_in wsX40 [1282, 1284, 1286, 1288, 1290, 1292, 1294, 1296, 1298, 1300, 1302, 1304, 1306, 1308, 1310, 1312, 1314, 1316, 1318, 1320, 1322, 1324, 1326, 1328, 1330, 1332, 1334, 1336, 1338, 1340, 1342, 1344, 1346, 1348, 1350, 1352, 1354, 1356, 1358, 1360, 1362, 1364, 1366] (by decide +kernel) (by decide +kernel)
