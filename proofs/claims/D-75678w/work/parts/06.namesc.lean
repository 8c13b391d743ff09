/-! ConkerYard -/
set_option maxRecDepth 100000
def RX0 : String := "ConkerYard"
def TX0 : u_T := fun k => match k with
  | 0 => ("ConkerYard", "yard", "LConkerYard$Yard;", false)
  | 1 => ("ConkerYard", "state", "LConkerYard$State;", true)
  | 2 => ("ConkerYard", "kept", "LConkerYard$State;", true)
  | 3 => ("ConkerYard", "rules", "Ljava/util/ArrayList;", true)
  | 4 => ("ConkerYard", "inForce", "I", false)
  | 5 => ("ConkerYard", "wrong", "LConkerYard$Wrong;", true)
  | 6 => ("ConkerYard", "tape", "[B", true)
  | 7 => ("ConkerYard", "taped", "I", false)
  | 8 => ("ConkerYard", "noteWhen", "[I", true)
  | 9 => ("ConkerYard", "noteWho", "[I", true)
  | 10 => ("ConkerYard", "noteWhole", "[I", true)
  | 11 => ("ConkerYard", "notes", "I", false)
  | 12 => ("ConkerYard", "draw", "I", false)
  | 13 => ("ConkerYard", "words", "[J", true)
  | 14 => ("ConkerYard", "past", "[LConkerYard$State;", true)
  | 15 => ("ConkerYard", "pastMany", "I", false)
  | 16 => ("ConkerYard", "pastAt", "I", false)
  | 17 => ("ConkerYard", "beaten", "[I", true)
  | 18 => ("ConkerYard", "lasts", "[I", true)
  | 19 => ("ConkerYard", "bouts", "[I", true)
  | 20 => ("ConkerYard", "cupsOf", "[I", true)
  | 21 => ("ConkerYard", "rungs", "[I", true)
  | 22 => ("ConkerYard", "bestRungs", "[I", true)
  | 23 => ("ConkerYard", "longest", "I", false)
  | 24 => ("ConkerYard", "firstHas", "[I", true)
  | 25 => ("ConkerYard", "secondHas", "[I", true)
  | 26 => ("ConkerYard", "course", "[I", true)
  | 27 => ("ConkerYard", "shows", "[I", true)
  | _ => ("ConkerYard", "images", "[LConkerYard$Image;", true)
def tyX0 : Nat → FieldType := fun k => match k with
  | 0 => .object "ConkerYard$Yard"
  | 1 => .object "ConkerYard$State"
  | 2 => .object "ConkerYard$State"
  | 3 => .object "java/util/ArrayList"
  | 4 => .int
  | 5 => .object "ConkerYard$Wrong"
  | 6 => .array .byte
  | 7 => .int
  | 8 => .array .int
  | 9 => .array .int
  | 10 => .array .int
  | 11 => .int
  | 12 => .int
  | 13 => .array .long
  | 14 => .array (.object "ConkerYard$State")
  | 15 => .int
  | 16 => .int
  | 17 => .array .int
  | 18 => .array .int
  | 19 => .array .int
  | 20 => .array .int
  | 21 => .array .int
  | 22 => .array .int
  | 23 => .int
  | 24 => .array .int
  | 25 => .array .int
  | 26 => .array .int
  | 27 => .array .int
  | _ => .array (.object "ConkerYard$Image")
abbrev wsX00 : List Cond := u_ws RX0 TX0 29
set_option maxRecDepth 100000 in
theorem nmX0 : ∀ a, a < 29 → ∀ b, b < 29 → a ≠ b → (TX0 a).2.1 ≠ (TX0 b).2.1 := by decide +kernel
set_option maxRecDepth 100000 in
theorem tyX0_ok : ∀ k, k < 29 → parseFieldDescriptor (TX0 k).2.2.1 = some (tyX0 k) := by decide +kernel
abbrev cX0_init : ByteArray := prog_1_method_4_code
def yX0_init : MethodName := ⟨RX0, "<init>", "()V"⟩
def dkwX0_init_8 : List UInt8 := [188, 10, 181, 0, 100, 42, 16, 7, 188, 10, 181, 0, 103, 42, 7, 189, 0, 106, 181, 0, 108, 177]
abbrev dktX0_init_8 : List UInt8 := dkwX0_init_8 ++ []
def dkwX0_init_7 : List UInt8 := [188, 10, 181, 0, 91, 42, 16, 16, 188, 10, 181, 0, 94, 42, 16, 16, 188, 10, 181, 0, 97, 42, 16, 61]
abbrev dktX0_init_7 : List UInt8 := dkwX0_init_7 ++ dktX0_init_8
def dkwX0_init_6 : List UInt8 := [181, 0, 82, 42, 17, 8, 0, 188, 10, 181, 0, 85, 42, 16, 8, 188, 10, 181, 0, 88, 42, 16, 8]
abbrev dktX0_init_6 : List UInt8 := dkwX0_init_6 ++ dktX0_init_7
def dkwX0_init_5 : List UInt8 := [42, 16, 8, 188, 10, 181, 0, 76, 42, 17, 1, 0, 188, 10, 181, 0, 79, 42, 17, 1, 0, 188, 10]
abbrev dktX0_init_5 : List UInt8 := dkwX0_init_5 ++ dktX0_init_6
def dkwX0_init_4 : List UInt8 := [188, 10, 181, 0, 57, 42, 178, 0, 60, 190, 188, 11, 181, 0, 64, 42, 16, 20, 184, 0, 68, 181, 0, 72]
abbrev dktX0_init_4 : List UInt8 := dkwX0_init_4 ++ dktX0_init_5
def dkwX0_init_3 : List UInt8 := [188, 8, 181, 0, 46, 42, 16, 10, 188, 10, 181, 0, 50, 42, 16, 10, 188, 10, 181, 0, 54, 42, 16, 10]
abbrev dktX0_init_3 : List UInt8 := dkwX0_init_3 ++ dktX0_init_4
def dkwX0_init_2 : List UInt8 := [181, 0, 31, 42, 2, 181, 0, 35, 42, 187, 0, 39, 89, 183, 0, 41, 181, 0, 42, 42, 17, 1, 144]
abbrev dktX0_init_2 : List UInt8 := dkwX0_init_2 ++ dktX0_init_3
def dkwX0_init_1 : List UInt8 := [181, 0, 19, 42, 187, 0, 16, 89, 183, 0, 18, 181, 0, 23, 42, 187, 0, 26, 89, 5, 183, 0, 28]
abbrev dktX0_init_1 : List UInt8 := dkwX0_init_1 ++ dktX0_init_2
def dkwX0_init_0 : List UInt8 := [42, 183, 0, 1, 42, 187, 0, 7, 89, 183, 0, 9, 181, 0, 10, 42, 187, 0, 16, 89, 183, 0, 18]
abbrev dktX0_init_0 : List UInt8 := dkwX0_init_0 ++ dktX0_init_1
theorem dksX0_init_0 : cX0_init.data.toList.drop 0 = dktX0_init_0 := by decide +kernel
theorem dksX0_init_1 : cX0_init.data.toList.drop 23 = dktX0_init_1 := dk_seg dksX0_init_0 23 rfl rfl
theorem dksX0_init_2 : cX0_init.data.toList.drop 46 = dktX0_init_2 := dk_seg dksX0_init_1 23 rfl rfl
theorem dksX0_init_3 : cX0_init.data.toList.drop 69 = dktX0_init_3 := dk_seg dksX0_init_2 23 rfl rfl
theorem dksX0_init_4 : cX0_init.data.toList.drop 93 = dktX0_init_4 := dk_seg dksX0_init_3 24 rfl rfl
theorem dksX0_init_5 : cX0_init.data.toList.drop 117 = dktX0_init_5 := dk_seg dksX0_init_4 24 rfl rfl
theorem dksX0_init_6 : cX0_init.data.toList.drop 140 = dktX0_init_6 := dk_seg dksX0_init_5 23 rfl rfl
theorem dksX0_init_7 : cX0_init.data.toList.drop 163 = dktX0_init_7 := dk_seg dksX0_init_6 23 rfl rfl
theorem dksX0_init_8 : cX0_init.data.toList.drop 187 = dktX0_init_8 := dk_seg dksX0_init_7 24 rfl rfl
theorem dX0_init_0 : decode cX0_init 0 = .ok (.aload_n 0, 1) := dk_42 (dk_at dksX0_init_0 0 rfl rfl)
theorem dX0_init_1 : decode cX0_init 1 = .ok (.invokespecial 1, 3) := dk_183 0 1 (dk_at dksX0_init_0 1 rfl rfl)
theorem dX0_init_4 : decode cX0_init 4 = .ok (.aload_n 0, 1) := dk_42 (dk_at dksX0_init_0 4 rfl rfl)
theorem dX0_init_5 : decode cX0_init 5 = .ok (.new 7, 3) := dk_187 0 7 (dk_at dksX0_init_0 5 rfl rfl)
theorem dX0_init_8 : decode cX0_init 8 = .ok (.dup, 1) := dk_89 (dk_at dksX0_init_0 8 rfl rfl)
theorem dX0_init_9 : decode cX0_init 9 = .ok (.invokespecial 9, 3) := dk_183 0 9 (dk_at dksX0_init_0 9 rfl rfl)
theorem dX0_init_12 : decode cX0_init 12 = .ok (.putfield 10, 3) := dk_181 0 10 (dk_at dksX0_init_0 12 rfl rfl)
theorem dX0_init_15 : decode cX0_init 15 = .ok (.aload_n 0, 1) := dk_42 (dk_at dksX0_init_0 15 rfl rfl)
theorem dX0_init_16 : decode cX0_init 16 = .ok (.new 16, 3) := dk_187 0 16 (dk_at dksX0_init_0 16 rfl rfl)
theorem dX0_init_19 : decode cX0_init 19 = .ok (.dup, 1) := dk_89 (dk_at dksX0_init_0 19 rfl rfl)
theorem dX0_init_20 : decode cX0_init 20 = .ok (.invokespecial 18, 3) := dk_183 0 18 (dk_at dksX0_init_0 20 rfl rfl)
theorem dX0_init_23 : decode cX0_init 23 = .ok (.putfield 19, 3) := dk_181 0 19 (dk_at dksX0_init_1 0 rfl rfl)
theorem dX0_init_26 : decode cX0_init 26 = .ok (.aload_n 0, 1) := dk_42 (dk_at dksX0_init_1 3 rfl rfl)
theorem dX0_init_27 : decode cX0_init 27 = .ok (.new 16, 3) := dk_187 0 16 (dk_at dksX0_init_1 4 rfl rfl)
theorem dX0_init_30 : decode cX0_init 30 = .ok (.dup, 1) := dk_89 (dk_at dksX0_init_1 7 rfl rfl)
theorem dX0_init_31 : decode cX0_init 31 = .ok (.invokespecial 18, 3) := dk_183 0 18 (dk_at dksX0_init_1 8 rfl rfl)
theorem dX0_init_34 : decode cX0_init 34 = .ok (.putfield 23, 3) := dk_181 0 23 (dk_at dksX0_init_1 11 rfl rfl)
theorem dX0_init_37 : decode cX0_init 37 = .ok (.aload_n 0, 1) := dk_42 (dk_at dksX0_init_1 14 rfl rfl)
theorem dX0_init_38 : decode cX0_init 38 = .ok (.new 26, 3) := dk_187 0 26 (dk_at dksX0_init_1 15 rfl rfl)
theorem dX0_init_41 : decode cX0_init 41 = .ok (.dup, 1) := dk_89 (dk_at dksX0_init_1 18 rfl rfl)
theorem dX0_init_42 : decode cX0_init 42 = .ok (.iconst 2, 1) := dk_5 (dk_at dksX0_init_1 19 rfl rfl)
theorem dX0_init_43 : decode cX0_init 43 = .ok (.invokespecial 28, 3) := dk_183 0 28 (dk_at dksX0_init_1 20 rfl rfl)
theorem dX0_init_46 : decode cX0_init 46 = .ok (.putfield 31, 3) := dk_181 0 31 (dk_at dksX0_init_2 0 rfl rfl)
theorem dX0_init_49 : decode cX0_init 49 = .ok (.aload_n 0, 1) := dk_42 (dk_at dksX0_init_2 3 rfl rfl)
theorem dX0_init_50 : decode cX0_init 50 = .ok (.iconst (-1), 1) := dk_2 (dk_at dksX0_init_2 4 rfl rfl)
theorem dX0_init_51 : decode cX0_init 51 = .ok (.putfield 35, 3) := dk_181 0 35 (dk_at dksX0_init_2 5 rfl rfl)
theorem dX0_init_54 : decode cX0_init 54 = .ok (.aload_n 0, 1) := dk_42 (dk_at dksX0_init_2 8 rfl rfl)
theorem dX0_init_55 : decode cX0_init 55 = .ok (.new 39, 3) := dk_187 0 39 (dk_at dksX0_init_2 9 rfl rfl)
theorem dX0_init_58 : decode cX0_init 58 = .ok (.dup, 1) := dk_89 (dk_at dksX0_init_2 12 rfl rfl)
theorem dX0_init_59 : decode cX0_init 59 = .ok (.invokespecial 41, 3) := dk_183 0 41 (dk_at dksX0_init_2 13 rfl rfl)
theorem dX0_init_62 : decode cX0_init 62 = .ok (.putfield 42, 3) := dk_181 0 42 (dk_at dksX0_init_2 16 rfl rfl)
theorem dX0_init_65 : decode cX0_init 65 = .ok (.aload_n 0, 1) := dk_42 (dk_at dksX0_init_2 19 rfl rfl)
theorem dX0_init_66 : decode cX0_init 66 = .ok (.sipush 400, 3) := dk_17 1 144 (dk_at dksX0_init_2 20 rfl rfl)
theorem dX0_init_69 : decode cX0_init 69 = .ok (.newarray .byte, 2) := dk_188_8 (dk_at dksX0_init_3 0 rfl rfl)
theorem dX0_init_71 : decode cX0_init 71 = .ok (.putfield 46, 3) := dk_181 0 46 (dk_at dksX0_init_3 2 rfl rfl)
theorem dX0_init_74 : decode cX0_init 74 = .ok (.aload_n 0, 1) := dk_42 (dk_at dksX0_init_3 5 rfl rfl)
theorem dX0_init_75 : decode cX0_init 75 = .ok (.bipush 10, 2) := dk_16 10 (dk_at dksX0_init_3 6 rfl rfl)
theorem dX0_init_77 : decode cX0_init 77 = .ok (.newarray .int, 2) := dk_188_10 (dk_at dksX0_init_3 8 rfl rfl)
theorem dX0_init_79 : decode cX0_init 79 = .ok (.putfield 50, 3) := dk_181 0 50 (dk_at dksX0_init_3 10 rfl rfl)
theorem dX0_init_82 : decode cX0_init 82 = .ok (.aload_n 0, 1) := dk_42 (dk_at dksX0_init_3 13 rfl rfl)
theorem dX0_init_83 : decode cX0_init 83 = .ok (.bipush 10, 2) := dk_16 10 (dk_at dksX0_init_3 14 rfl rfl)
theorem dX0_init_85 : decode cX0_init 85 = .ok (.newarray .int, 2) := dk_188_10 (dk_at dksX0_init_3 16 rfl rfl)
theorem dX0_init_87 : decode cX0_init 87 = .ok (.putfield 54, 3) := dk_181 0 54 (dk_at dksX0_init_3 18 rfl rfl)
theorem dX0_init_90 : decode cX0_init 90 = .ok (.aload_n 0, 1) := dk_42 (dk_at dksX0_init_3 21 rfl rfl)
theorem dX0_init_91 : decode cX0_init 91 = .ok (.bipush 10, 2) := dk_16 10 (dk_at dksX0_init_3 22 rfl rfl)
theorem dX0_init_93 : decode cX0_init 93 = .ok (.newarray .int, 2) := dk_188_10 (dk_at dksX0_init_4 0 rfl rfl)
theorem dX0_init_95 : decode cX0_init 95 = .ok (.putfield 57, 3) := dk_181 0 57 (dk_at dksX0_init_4 2 rfl rfl)
theorem dX0_init_98 : decode cX0_init 98 = .ok (.aload_n 0, 1) := dk_42 (dk_at dksX0_init_4 5 rfl rfl)
theorem dX0_init_99 : decode cX0_init 99 = .ok (.getstatic 60, 3) := dk_178 0 60 (dk_at dksX0_init_4 6 rfl rfl)
theorem dX0_init_102 : decode cX0_init 102 = .ok (.arraylength, 1) := dk_190 (dk_at dksX0_init_4 9 rfl rfl)
theorem dX0_init_103 : decode cX0_init 103 = .ok (.newarray .long, 2) := dk_188_11 (dk_at dksX0_init_4 10 rfl rfl)
theorem dX0_init_105 : decode cX0_init 105 = .ok (.putfield 64, 3) := dk_181 0 64 (dk_at dksX0_init_4 12 rfl rfl)
theorem dX0_init_108 : decode cX0_init 108 = .ok (.aload_n 0, 1) := dk_42 (dk_at dksX0_init_4 15 rfl rfl)
theorem dX0_init_109 : decode cX0_init 109 = .ok (.bipush 20, 2) := dk_16 20 (dk_at dksX0_init_4 16 rfl rfl)
theorem dX0_init_111 : decode cX0_init 111 = .ok (.invokestatic 68, 3) := dk_184 0 68 (dk_at dksX0_init_4 18 rfl rfl)
theorem dX0_init_114 : decode cX0_init 114 = .ok (.putfield 72, 3) := dk_181 0 72 (dk_at dksX0_init_4 21 rfl rfl)
theorem dX0_init_117 : decode cX0_init 117 = .ok (.aload_n 0, 1) := dk_42 (dk_at dksX0_init_5 0 rfl rfl)
theorem dX0_init_118 : decode cX0_init 118 = .ok (.bipush 8, 2) := dk_16 8 (dk_at dksX0_init_5 1 rfl rfl)
theorem dX0_init_120 : decode cX0_init 120 = .ok (.newarray .int, 2) := dk_188_10 (dk_at dksX0_init_5 3 rfl rfl)
theorem dX0_init_122 : decode cX0_init 122 = .ok (.putfield 76, 3) := dk_181 0 76 (dk_at dksX0_init_5 5 rfl rfl)
theorem dX0_init_125 : decode cX0_init 125 = .ok (.aload_n 0, 1) := dk_42 (dk_at dksX0_init_5 8 rfl rfl)
theorem dX0_init_126 : decode cX0_init 126 = .ok (.sipush 256, 3) := dk_17 1 0 (dk_at dksX0_init_5 9 rfl rfl)
theorem dX0_init_129 : decode cX0_init 129 = .ok (.newarray .int, 2) := dk_188_10 (dk_at dksX0_init_5 12 rfl rfl)
theorem dX0_init_131 : decode cX0_init 131 = .ok (.putfield 79, 3) := dk_181 0 79 (dk_at dksX0_init_5 14 rfl rfl)
theorem dX0_init_134 : decode cX0_init 134 = .ok (.aload_n 0, 1) := dk_42 (dk_at dksX0_init_5 17 rfl rfl)
theorem dX0_init_135 : decode cX0_init 135 = .ok (.sipush 256, 3) := dk_17 1 0 (dk_at dksX0_init_5 18 rfl rfl)
theorem dX0_init_138 : decode cX0_init 138 = .ok (.newarray .int, 2) := dk_188_10 (dk_at dksX0_init_5 21 rfl rfl)
theorem dX0_init_140 : decode cX0_init 140 = .ok (.putfield 82, 3) := dk_181 0 82 (dk_at dksX0_init_6 0 rfl rfl)
theorem dX0_init_143 : decode cX0_init 143 = .ok (.aload_n 0, 1) := dk_42 (dk_at dksX0_init_6 3 rfl rfl)
theorem dX0_init_144 : decode cX0_init 144 = .ok (.sipush 2048, 3) := dk_17 8 0 (dk_at dksX0_init_6 4 rfl rfl)
theorem dX0_init_147 : decode cX0_init 147 = .ok (.newarray .int, 2) := dk_188_10 (dk_at dksX0_init_6 7 rfl rfl)
theorem dX0_init_149 : decode cX0_init 149 = .ok (.putfield 85, 3) := dk_181 0 85 (dk_at dksX0_init_6 9 rfl rfl)
theorem dX0_init_152 : decode cX0_init 152 = .ok (.aload_n 0, 1) := dk_42 (dk_at dksX0_init_6 12 rfl rfl)
theorem dX0_init_153 : decode cX0_init 153 = .ok (.bipush 8, 2) := dk_16 8 (dk_at dksX0_init_6 13 rfl rfl)
theorem dX0_init_155 : decode cX0_init 155 = .ok (.newarray .int, 2) := dk_188_10 (dk_at dksX0_init_6 15 rfl rfl)
theorem dX0_init_157 : decode cX0_init 157 = .ok (.putfield 88, 3) := dk_181 0 88 (dk_at dksX0_init_6 17 rfl rfl)
theorem dX0_init_160 : decode cX0_init 160 = .ok (.aload_n 0, 1) := dk_42 (dk_at dksX0_init_6 20 rfl rfl)
theorem dX0_init_161 : decode cX0_init 161 = .ok (.bipush 8, 2) := dk_16 8 (dk_at dksX0_init_6 21 rfl rfl)
theorem dX0_init_163 : decode cX0_init 163 = .ok (.newarray .int, 2) := dk_188_10 (dk_at dksX0_init_7 0 rfl rfl)
theorem dX0_init_165 : decode cX0_init 165 = .ok (.putfield 91, 3) := dk_181 0 91 (dk_at dksX0_init_7 2 rfl rfl)
theorem dX0_init_168 : decode cX0_init 168 = .ok (.aload_n 0, 1) := dk_42 (dk_at dksX0_init_7 5 rfl rfl)
theorem dX0_init_169 : decode cX0_init 169 = .ok (.bipush 16, 2) := dk_16 16 (dk_at dksX0_init_7 6 rfl rfl)
theorem dX0_init_171 : decode cX0_init 171 = .ok (.newarray .int, 2) := dk_188_10 (dk_at dksX0_init_7 8 rfl rfl)
theorem dX0_init_173 : decode cX0_init 173 = .ok (.putfield 94, 3) := dk_181 0 94 (dk_at dksX0_init_7 10 rfl rfl)
theorem dX0_init_176 : decode cX0_init 176 = .ok (.aload_n 0, 1) := dk_42 (dk_at dksX0_init_7 13 rfl rfl)
theorem dX0_init_177 : decode cX0_init 177 = .ok (.bipush 16, 2) := dk_16 16 (dk_at dksX0_init_7 14 rfl rfl)
theorem dX0_init_179 : decode cX0_init 179 = .ok (.newarray .int, 2) := dk_188_10 (dk_at dksX0_init_7 16 rfl rfl)
theorem dX0_init_181 : decode cX0_init 181 = .ok (.putfield 97, 3) := dk_181 0 97 (dk_at dksX0_init_7 18 rfl rfl)
theorem dX0_init_184 : decode cX0_init 184 = .ok (.aload_n 0, 1) := dk_42 (dk_at dksX0_init_7 21 rfl rfl)
theorem dX0_init_185 : decode cX0_init 185 = .ok (.bipush 61, 2) := dk_16 61 (dk_at dksX0_init_7 22 rfl rfl)
theorem dX0_init_187 : decode cX0_init 187 = .ok (.newarray .int, 2) := dk_188_10 (dk_at dksX0_init_8 0 rfl rfl)
theorem dX0_init_189 : decode cX0_init 189 = .ok (.putfield 100, 3) := dk_181 0 100 (dk_at dksX0_init_8 2 rfl rfl)
theorem dX0_init_192 : decode cX0_init 192 = .ok (.aload_n 0, 1) := dk_42 (dk_at dksX0_init_8 5 rfl rfl)
theorem dX0_init_193 : decode cX0_init 193 = .ok (.bipush 7, 2) := dk_16 7 (dk_at dksX0_init_8 6 rfl rfl)
theorem dX0_init_195 : decode cX0_init 195 = .ok (.newarray .int, 2) := dk_188_10 (dk_at dksX0_init_8 8 rfl rfl)
theorem dX0_init_197 : decode cX0_init 197 = .ok (.putfield 103, 3) := dk_181 0 103 (dk_at dksX0_init_8 10 rfl rfl)
theorem dX0_init_200 : decode cX0_init 200 = .ok (.aload_n 0, 1) := dk_42 (dk_at dksX0_init_8 13 rfl rfl)
theorem dX0_init_201 : decode cX0_init 201 = .ok (.iconst 4, 1) := dk_7 (dk_at dksX0_init_8 14 rfl rfl)
theorem dX0_init_202 : decode cX0_init 202 = .ok (.anewarray 106, 3) := dk_189 0 106 (dk_at dksX0_init_8 15 rfl rfl)
theorem dX0_init_205 : decode cX0_init 205 = .ok (.putfield 108, 3) := dk_181 0 108 (dk_at dksX0_init_8 18 rfl rfl)
theorem dX0_init_208 : decode cX0_init 208 = .ok (.return_, 1) := dk_177 (dk_at dksX0_init_8 21 rfl rfl)
abbrev cX0_newStates : ByteArray := prog_1_method_20_code
def yX0_newStates : MethodName := ⟨RX0, "newStates", "(I)[LConkerYard$State;"⟩
def dkwX0_newStates_1 : List UInt8 := [132, 2, 1, 167, 255, 238, 43, 176]
abbrev dktX0_newStates_1 : List UInt8 := dkwX0_newStates_1 ++ []
def dkwX0_newStates_0 : List UInt8 := [26, 189, 0, 16, 76, 3, 61, 28, 26, 162, 0, 19, 43, 28, 187, 0, 16, 89, 183, 0, 18, 83]
abbrev dktX0_newStates_0 : List UInt8 := dkwX0_newStates_0 ++ dktX0_newStates_1
theorem dksX0_newStates_0 : cX0_newStates.data.toList.drop 0 = dktX0_newStates_0 := by decide +kernel
theorem dksX0_newStates_1 : cX0_newStates.data.toList.drop 22 = dktX0_newStates_1 := dk_seg dksX0_newStates_0 22 rfl rfl
theorem dX0_newStates_0 : decode cX0_newStates 0 = .ok (.iload_n 0, 1) := dk_26 (dk_at dksX0_newStates_0 0 rfl rfl)
theorem dX0_newStates_1 : decode cX0_newStates 1 = .ok (.anewarray 16, 3) := dk_189 0 16 (dk_at dksX0_newStates_0 1 rfl rfl)
theorem dX0_newStates_4 : decode cX0_newStates 4 = .ok (.astore_n 1, 1) := dk_76 (dk_at dksX0_newStates_0 4 rfl rfl)
theorem dX0_newStates_5 : decode cX0_newStates 5 = .ok (.iconst 0, 1) := dk_3 (dk_at dksX0_newStates_0 5 rfl rfl)
theorem dX0_newStates_6 : decode cX0_newStates 6 = .ok (.istore_n 2, 1) := dk_61 (dk_at dksX0_newStates_0 6 rfl rfl)
theorem dX0_newStates_7 : decode cX0_newStates 7 = .ok (.iload_n 2, 1) := dk_28 (dk_at dksX0_newStates_0 7 rfl rfl)
theorem dX0_newStates_8 : decode cX0_newStates 8 = .ok (.iload_n 0, 1) := dk_26 (dk_at dksX0_newStates_0 8 rfl rfl)
theorem dX0_newStates_9 : decode cX0_newStates 9 = .ok (.if_icmp .ge 19, 3) := dk_162 0 19 (dk_at dksX0_newStates_0 9 rfl rfl)
theorem dX0_newStates_12 : decode cX0_newStates 12 = .ok (.aload_n 1, 1) := dk_43 (dk_at dksX0_newStates_0 12 rfl rfl)
theorem dX0_newStates_13 : decode cX0_newStates 13 = .ok (.iload_n 2, 1) := dk_28 (dk_at dksX0_newStates_0 13 rfl rfl)
theorem dX0_newStates_14 : decode cX0_newStates 14 = .ok (.new 16, 3) := dk_187 0 16 (dk_at dksX0_newStates_0 14 rfl rfl)
theorem dX0_newStates_17 : decode cX0_newStates 17 = .ok (.dup, 1) := dk_89 (dk_at dksX0_newStates_0 17 rfl rfl)
theorem dX0_newStates_18 : decode cX0_newStates 18 = .ok (.invokespecial 18, 3) := dk_183 0 18 (dk_at dksX0_newStates_0 18 rfl rfl)
theorem dX0_newStates_21 : decode cX0_newStates 21 = .ok (.aastore, 1) := dk_83 (dk_at dksX0_newStates_0 21 rfl rfl)
theorem dX0_newStates_22 : decode cX0_newStates 22 = .ok (.iinc 2 1, 3) := dk_132 2 1 (dk_at dksX0_newStates_1 0 rfl rfl)
theorem dX0_newStates_25 : decode cX0_newStates 25 = .ok (.goto (-18), 3) := dk_167 255 238 (dk_at dksX0_newStates_1 3 rfl rfl)
theorem dX0_newStates_28 : decode cX0_newStates 28 = .ok (.aload_n 1, 1) := dk_43 (dk_at dksX0_newStates_1 6 rfl rfl)
theorem dX0_newStates_29 : decode cX0_newStates 29 = .ok (.areturn, 1) := dk_176 (dk_at dksX0_newStates_1 7 rfl rfl)
abbrev cX0_feed : ByteArray := prog_1_method_9_code
def yX0_feed : MethodName := ⟨RX0, "feed", "(IIIII)I"⟩
def dkwX0_feed_2 : List UInt8 := [172]
abbrev dktX0_feed_2 : List UInt8 := dkwX0_feed_2 ++ []
def dkwX0_feed_1 : List UInt8 := [182, 0, 140, 42, 29, 182, 0, 140, 42, 21, 4, 182, 0, 140, 42, 21, 5, 182, 0, 140, 42, 180, 0, 137]
abbrev dktX0_feed_1 : List UInt8 := dkwX0_feed_1 ++ dktX0_feed_2
def dkwX0_feed_0 : List UInt8 := [42, 180, 0, 137, 16, 20, 96, 17, 1, 144, 164, 0, 5, 2, 172, 42, 27, 182, 0, 140, 42, 28]
abbrev dktX0_feed_0 : List UInt8 := dkwX0_feed_0 ++ dktX0_feed_1
theorem dksX0_feed_0 : cX0_feed.data.toList.drop 0 = dktX0_feed_0 := by decide +kernel
theorem dksX0_feed_1 : cX0_feed.data.toList.drop 22 = dktX0_feed_1 := dk_seg dksX0_feed_0 22 rfl rfl
theorem dksX0_feed_2 : cX0_feed.data.toList.drop 46 = dktX0_feed_2 := dk_seg dksX0_feed_1 24 rfl rfl
theorem dX0_feed_0 : decode cX0_feed 0 = .ok (.aload_n 0, 1) := dk_42 (dk_at dksX0_feed_0 0 rfl rfl)
theorem dX0_feed_1 : decode cX0_feed 1 = .ok (.getfield 137, 3) := dk_180 0 137 (dk_at dksX0_feed_0 1 rfl rfl)
theorem dX0_feed_4 : decode cX0_feed 4 = .ok (.bipush 20, 2) := dk_16 20 (dk_at dksX0_feed_0 4 rfl rfl)
theorem dX0_feed_6 : decode cX0_feed 6 = .ok (.iadd, 1) := dk_96 (dk_at dksX0_feed_0 6 rfl rfl)
theorem dX0_feed_7 : decode cX0_feed 7 = .ok (.sipush 400, 3) := dk_17 1 144 (dk_at dksX0_feed_0 7 rfl rfl)
theorem dX0_feed_10 : decode cX0_feed 10 = .ok (.if_icmp .le 5, 3) := dk_164 0 5 (dk_at dksX0_feed_0 10 rfl rfl)
theorem dX0_feed_13 : decode cX0_feed 13 = .ok (.iconst (-1), 1) := dk_2 (dk_at dksX0_feed_0 13 rfl rfl)
theorem dX0_feed_14 : decode cX0_feed 14 = .ok (.ireturn, 1) := dk_172 (dk_at dksX0_feed_0 14 rfl rfl)
theorem dX0_feed_15 : decode cX0_feed 15 = .ok (.aload_n 0, 1) := dk_42 (dk_at dksX0_feed_0 15 rfl rfl)
theorem dX0_feed_16 : decode cX0_feed 16 = .ok (.iload_n 1, 1) := dk_27 (dk_at dksX0_feed_0 16 rfl rfl)
theorem dX0_feed_17 : decode cX0_feed 17 = .ok (.invokevirtual 140, 3) := dk_182 0 140 (dk_at dksX0_feed_0 17 rfl rfl)
theorem dX0_feed_20 : decode cX0_feed 20 = .ok (.aload_n 0, 1) := dk_42 (dk_at dksX0_feed_0 20 rfl rfl)
theorem dX0_feed_21 : decode cX0_feed 21 = .ok (.iload_n 2, 1) := dk_28 (dk_at dksX0_feed_0 21 rfl rfl)
theorem dX0_feed_22 : decode cX0_feed 22 = .ok (.invokevirtual 140, 3) := dk_182 0 140 (dk_at dksX0_feed_1 0 rfl rfl)
theorem dX0_feed_25 : decode cX0_feed 25 = .ok (.aload_n 0, 1) := dk_42 (dk_at dksX0_feed_1 3 rfl rfl)
theorem dX0_feed_26 : decode cX0_feed 26 = .ok (.iload_n 3, 1) := dk_29 (dk_at dksX0_feed_1 4 rfl rfl)
theorem dX0_feed_27 : decode cX0_feed 27 = .ok (.invokevirtual 140, 3) := dk_182 0 140 (dk_at dksX0_feed_1 5 rfl rfl)
theorem dX0_feed_30 : decode cX0_feed 30 = .ok (.aload_n 0, 1) := dk_42 (dk_at dksX0_feed_1 8 rfl rfl)
theorem dX0_feed_31 : decode cX0_feed 31 = .ok (.iload 4, 2) := dk_21 4 (dk_at dksX0_feed_1 9 rfl rfl)
theorem dX0_feed_33 : decode cX0_feed 33 = .ok (.invokevirtual 140, 3) := dk_182 0 140 (dk_at dksX0_feed_1 11 rfl rfl)
theorem dX0_feed_36 : decode cX0_feed 36 = .ok (.aload_n 0, 1) := dk_42 (dk_at dksX0_feed_1 14 rfl rfl)
theorem dX0_feed_37 : decode cX0_feed 37 = .ok (.iload 5, 2) := dk_21 5 (dk_at dksX0_feed_1 15 rfl rfl)
theorem dX0_feed_39 : decode cX0_feed 39 = .ok (.invokevirtual 140, 3) := dk_182 0 140 (dk_at dksX0_feed_1 17 rfl rfl)
theorem dX0_feed_42 : decode cX0_feed 42 = .ok (.aload_n 0, 1) := dk_42 (dk_at dksX0_feed_1 20 rfl rfl)
theorem dX0_feed_43 : decode cX0_feed 43 = .ok (.getfield 137, 3) := dk_180 0 137 (dk_at dksX0_feed_1 21 rfl rfl)
theorem dX0_feed_46 : decode cX0_feed 46 = .ok (.ireturn, 1) := dk_172 (dk_at dksX0_feed_2 0 rfl rfl)
abbrev cX0_tapes : ByteArray := prog_1_method_10_code
def yX0_tapes : MethodName := ⟨RX0, "tapes", "(I)V"⟩
def dkwX0_tapes_1 : List UInt8 := [180, 0, 137, 4, 96, 181, 0, 137, 132, 2, 248, 167, 255, 226, 177]
abbrev dktX0_tapes_1 : List UInt8 := dkwX0_tapes_1 ++ []
def dkwX0_tapes_0 : List UInt8 := [16, 24, 61, 28, 155, 0, 32, 42, 180, 0, 46, 42, 180, 0, 137, 27, 28, 122, 145, 84, 42, 89]
abbrev dktX0_tapes_0 : List UInt8 := dkwX0_tapes_0 ++ dktX0_tapes_1
theorem dksX0_tapes_0 : cX0_tapes.data.toList.drop 0 = dktX0_tapes_0 := by decide +kernel
theorem dksX0_tapes_1 : cX0_tapes.data.toList.drop 22 = dktX0_tapes_1 := dk_seg dksX0_tapes_0 22 rfl rfl
theorem dX0_tapes_0 : decode cX0_tapes 0 = .ok (.bipush 24, 2) := dk_16 24 (dk_at dksX0_tapes_0 0 rfl rfl)
theorem dX0_tapes_2 : decode cX0_tapes 2 = .ok (.istore_n 2, 1) := dk_61 (dk_at dksX0_tapes_0 2 rfl rfl)
theorem dX0_tapes_3 : decode cX0_tapes 3 = .ok (.iload_n 2, 1) := dk_28 (dk_at dksX0_tapes_0 3 rfl rfl)
theorem dX0_tapes_4 : decode cX0_tapes 4 = .ok (.ifCond .lt 32, 3) := dk_155 0 32 (dk_at dksX0_tapes_0 4 rfl rfl)
theorem dX0_tapes_7 : decode cX0_tapes 7 = .ok (.aload_n 0, 1) := dk_42 (dk_at dksX0_tapes_0 7 rfl rfl)
theorem dX0_tapes_8 : decode cX0_tapes 8 = .ok (.getfield 46, 3) := dk_180 0 46 (dk_at dksX0_tapes_0 8 rfl rfl)
theorem dX0_tapes_11 : decode cX0_tapes 11 = .ok (.aload_n 0, 1) := dk_42 (dk_at dksX0_tapes_0 11 rfl rfl)
theorem dX0_tapes_12 : decode cX0_tapes 12 = .ok (.getfield 137, 3) := dk_180 0 137 (dk_at dksX0_tapes_0 12 rfl rfl)
theorem dX0_tapes_15 : decode cX0_tapes 15 = .ok (.iload_n 1, 1) := dk_27 (dk_at dksX0_tapes_0 15 rfl rfl)
theorem dX0_tapes_16 : decode cX0_tapes 16 = .ok (.iload_n 2, 1) := dk_28 (dk_at dksX0_tapes_0 16 rfl rfl)
theorem dX0_tapes_17 : decode cX0_tapes 17 = .ok (.ishr, 1) := dk_122 (dk_at dksX0_tapes_0 17 rfl rfl)
theorem dX0_tapes_18 : decode cX0_tapes 18 = .ok (.i2b, 1) := dk_145 (dk_at dksX0_tapes_0 18 rfl rfl)
theorem dX0_tapes_19 : decode cX0_tapes 19 = .ok (.bastore, 1) := dk_84 (dk_at dksX0_tapes_0 19 rfl rfl)
theorem dX0_tapes_20 : decode cX0_tapes 20 = .ok (.aload_n 0, 1) := dk_42 (dk_at dksX0_tapes_0 20 rfl rfl)
theorem dX0_tapes_21 : decode cX0_tapes 21 = .ok (.dup, 1) := dk_89 (dk_at dksX0_tapes_0 21 rfl rfl)
theorem dX0_tapes_22 : decode cX0_tapes 22 = .ok (.getfield 137, 3) := dk_180 0 137 (dk_at dksX0_tapes_1 0 rfl rfl)
theorem dX0_tapes_25 : decode cX0_tapes 25 = .ok (.iconst 1, 1) := dk_4 (dk_at dksX0_tapes_1 3 rfl rfl)
theorem dX0_tapes_26 : decode cX0_tapes 26 = .ok (.iadd, 1) := dk_96 (dk_at dksX0_tapes_1 4 rfl rfl)
theorem dX0_tapes_27 : decode cX0_tapes 27 = .ok (.putfield 137, 3) := dk_181 0 137 (dk_at dksX0_tapes_1 5 rfl rfl)
theorem dX0_tapes_30 : decode cX0_tapes 30 = .ok (.iinc 2 (-8), 3) := dk_132 2 248 (dk_at dksX0_tapes_1 8 rfl rfl)
theorem dX0_tapes_33 : decode cX0_tapes 33 = .ok (.goto (-30), 3) := dk_167 255 226 (dk_at dksX0_tapes_1 11 rfl rfl)
theorem dX0_tapes_36 : decode cX0_tapes 36 = .ok (.return_, 1) := dk_177 (dk_at dksX0_tapes_1 14 rfl rfl)
abbrev cX0_end : ByteArray := prog_1_method_11_code
def yX0_end : MethodName := ⟨RX0, "end", "(I)I"⟩
def dkwX0_end_0 : List UInt8 := [27, 155, 0, 11, 27, 42, 180, 0, 137, 164, 0, 5, 2, 172, 42, 27, 181, 0, 137, 27, 172]
abbrev dktX0_end_0 : List UInt8 := dkwX0_end_0 ++ []
theorem dksX0_end_0 : cX0_end.data.toList.drop 0 = dktX0_end_0 := by decide +kernel
theorem dX0_end_0 : decode cX0_end 0 = .ok (.iload_n 1, 1) := dk_27 (dk_at dksX0_end_0 0 rfl rfl)
theorem dX0_end_1 : decode cX0_end 1 = .ok (.ifCond .lt 11, 3) := dk_155 0 11 (dk_at dksX0_end_0 1 rfl rfl)
theorem dX0_end_4 : decode cX0_end 4 = .ok (.iload_n 1, 1) := dk_27 (dk_at dksX0_end_0 4 rfl rfl)
theorem dX0_end_5 : decode cX0_end 5 = .ok (.aload_n 0, 1) := dk_42 (dk_at dksX0_end_0 5 rfl rfl)
theorem dX0_end_6 : decode cX0_end 6 = .ok (.getfield 137, 3) := dk_180 0 137 (dk_at dksX0_end_0 6 rfl rfl)
theorem dX0_end_9 : decode cX0_end 9 = .ok (.if_icmp .le 5, 3) := dk_164 0 5 (dk_at dksX0_end_0 9 rfl rfl)
theorem dX0_end_12 : decode cX0_end 12 = .ok (.iconst (-1), 1) := dk_2 (dk_at dksX0_end_0 12 rfl rfl)
theorem dX0_end_13 : decode cX0_end 13 = .ok (.ireturn, 1) := dk_172 (dk_at dksX0_end_0 13 rfl rfl)
theorem dX0_end_14 : decode cX0_end 14 = .ok (.aload_n 0, 1) := dk_42 (dk_at dksX0_end_0 14 rfl rfl)
theorem dX0_end_15 : decode cX0_end 15 = .ok (.iload_n 1, 1) := dk_27 (dk_at dksX0_end_0 15 rfl rfl)
theorem dX0_end_16 : decode cX0_end 16 = .ok (.putfield 137, 3) := dk_181 0 137 (dk_at dksX0_end_0 16 rfl rfl)
theorem dX0_end_19 : decode cX0_end 19 = .ok (.iload_n 1, 1) := dk_27 (dk_at dksX0_end_0 19 rfl rfl)
theorem dX0_end_20 : decode cX0_end 20 = .ok (.ireturn, 1) := dk_172 (dk_at dksX0_end_0 20 rfl rfl)
abbrev cX0_yard : ByteArray := prog_1_method_12_code
def yX0_yard : MethodName := ⟨RX0, "yard", "()I"⟩
def dkwX0_yard_3 : List UInt8 := [78, 42, 3, 181, 0, 137, 45, 191]
abbrev dktX0_yard_3 : List UInt8 := dkwX0_yard_3 ++ []
def dkwX0_yard_2 : List UInt8 := [60, 42, 3, 181, 0, 137, 27, 172, 76, 16, 254, 43, 180, 0, 134, 100, 61, 42, 3, 181, 0, 137, 28, 172]
abbrev dktX0_yard_2 : List UInt8 := dkwX0_yard_2 ++ dktX0_yard_3
def dkwX0_yard_1 : List UInt8 := [42, 180, 0, 10, 182, 0, 152, 42, 3, 181, 0, 156, 42, 3, 181, 0, 159, 42, 180, 0, 10, 182, 0, 115]
abbrev dktX0_yard_1 : List UInt8 := dkwX0_yard_1 ++ dktX0_yard_2
def dkwX0_yard_0 : List UInt8 := [42, 187, 0, 143, 89, 42, 178, 0, 60, 16, 40, 183, 0, 145, 182, 0, 148, 181, 0, 10, 42, 180, 0, 19]
abbrev dktX0_yard_0 : List UInt8 := dkwX0_yard_0 ++ dktX0_yard_1
theorem dksX0_yard_0 : cX0_yard.data.toList.drop 0 = dktX0_yard_0 := by decide +kernel
theorem dksX0_yard_1 : cX0_yard.data.toList.drop 24 = dktX0_yard_1 := dk_seg dksX0_yard_0 24 rfl rfl
theorem dksX0_yard_2 : cX0_yard.data.toList.drop 48 = dktX0_yard_2 := dk_seg dksX0_yard_1 24 rfl rfl
theorem dksX0_yard_3 : cX0_yard.data.toList.drop 72 = dktX0_yard_3 := dk_seg dksX0_yard_2 24 rfl rfl
theorem dX0_yard_0 : decode cX0_yard 0 = .ok (.aload_n 0, 1) := dk_42 (dk_at dksX0_yard_0 0 rfl rfl)
theorem dX0_yard_1 : decode cX0_yard 1 = .ok (.new 143, 3) := dk_187 0 143 (dk_at dksX0_yard_0 1 rfl rfl)
theorem dX0_yard_4 : decode cX0_yard 4 = .ok (.dup, 1) := dk_89 (dk_at dksX0_yard_0 4 rfl rfl)
theorem dX0_yard_5 : decode cX0_yard 5 = .ok (.aload_n 0, 1) := dk_42 (dk_at dksX0_yard_0 5 rfl rfl)
theorem dX0_yard_6 : decode cX0_yard 6 = .ok (.getstatic 60, 3) := dk_178 0 60 (dk_at dksX0_yard_0 6 rfl rfl)
theorem dX0_yard_9 : decode cX0_yard 9 = .ok (.bipush 40, 2) := dk_16 40 (dk_at dksX0_yard_0 9 rfl rfl)
theorem dX0_yard_11 : decode cX0_yard 11 = .ok (.invokespecial 145, 3) := dk_183 0 145 (dk_at dksX0_yard_0 11 rfl rfl)
theorem dX0_yard_14 : decode cX0_yard 14 = .ok (.invokevirtual 148, 3) := dk_182 0 148 (dk_at dksX0_yard_0 14 rfl rfl)
theorem dX0_yard_17 : decode cX0_yard 17 = .ok (.putfield 10, 3) := dk_181 0 10 (dk_at dksX0_yard_0 17 rfl rfl)
theorem dX0_yard_20 : decode cX0_yard 20 = .ok (.aload_n 0, 1) := dk_42 (dk_at dksX0_yard_0 20 rfl rfl)
theorem dX0_yard_21 : decode cX0_yard 21 = .ok (.getfield 19, 3) := dk_180 0 19 (dk_at dksX0_yard_0 21 rfl rfl)
theorem dX0_yard_24 : decode cX0_yard 24 = .ok (.aload_n 0, 1) := dk_42 (dk_at dksX0_yard_1 0 rfl rfl)
theorem dX0_yard_25 : decode cX0_yard 25 = .ok (.getfield 10, 3) := dk_180 0 10 (dk_at dksX0_yard_1 1 rfl rfl)
theorem dX0_yard_28 : decode cX0_yard 28 = .ok (.invokevirtual 152, 3) := dk_182 0 152 (dk_at dksX0_yard_1 4 rfl rfl)
theorem dX0_yard_31 : decode cX0_yard 31 = .ok (.aload_n 0, 1) := dk_42 (dk_at dksX0_yard_1 7 rfl rfl)
theorem dX0_yard_32 : decode cX0_yard 32 = .ok (.iconst 0, 1) := dk_3 (dk_at dksX0_yard_1 8 rfl rfl)
theorem dX0_yard_33 : decode cX0_yard 33 = .ok (.putfield 156, 3) := dk_181 0 156 (dk_at dksX0_yard_1 9 rfl rfl)
theorem dX0_yard_36 : decode cX0_yard 36 = .ok (.aload_n 0, 1) := dk_42 (dk_at dksX0_yard_1 12 rfl rfl)
theorem dX0_yard_37 : decode cX0_yard 37 = .ok (.iconst 0, 1) := dk_3 (dk_at dksX0_yard_1 13 rfl rfl)
theorem dX0_yard_38 : decode cX0_yard 38 = .ok (.putfield 159, 3) := dk_181 0 159 (dk_at dksX0_yard_1 14 rfl rfl)
theorem dX0_yard_41 : decode cX0_yard 41 = .ok (.aload_n 0, 1) := dk_42 (dk_at dksX0_yard_1 17 rfl rfl)
theorem dX0_yard_42 : decode cX0_yard 42 = .ok (.getfield 10, 3) := dk_180 0 10 (dk_at dksX0_yard_1 18 rfl rfl)
theorem dX0_yard_45 : decode cX0_yard 45 = .ok (.invokevirtual 115, 3) := dk_182 0 115 (dk_at dksX0_yard_1 21 rfl rfl)
theorem dX0_yard_48 : decode cX0_yard 48 = .ok (.istore_n 1, 1) := dk_60 (dk_at dksX0_yard_2 0 rfl rfl)
theorem dX0_yard_49 : decode cX0_yard 49 = .ok (.aload_n 0, 1) := dk_42 (dk_at dksX0_yard_2 1 rfl rfl)
theorem dX0_yard_50 : decode cX0_yard 50 = .ok (.iconst 0, 1) := dk_3 (dk_at dksX0_yard_2 2 rfl rfl)
theorem dX0_yard_51 : decode cX0_yard 51 = .ok (.putfield 137, 3) := dk_181 0 137 (dk_at dksX0_yard_2 3 rfl rfl)
theorem dX0_yard_54 : decode cX0_yard 54 = .ok (.iload_n 1, 1) := dk_27 (dk_at dksX0_yard_2 6 rfl rfl)
theorem dX0_yard_55 : decode cX0_yard 55 = .ok (.ireturn, 1) := dk_172 (dk_at dksX0_yard_2 7 rfl rfl)
theorem dX0_yard_56 : decode cX0_yard 56 = .ok (.astore_n 1, 1) := dk_76 (dk_at dksX0_yard_2 8 rfl rfl)
theorem dX0_yard_57 : decode cX0_yard 57 = .ok (.bipush (-2), 2) := dk_16 254 (dk_at dksX0_yard_2 9 rfl rfl)
theorem dX0_yard_59 : decode cX0_yard 59 = .ok (.aload_n 1, 1) := dk_43 (dk_at dksX0_yard_2 11 rfl rfl)
theorem dX0_yard_60 : decode cX0_yard 60 = .ok (.getfield 134, 3) := dk_180 0 134 (dk_at dksX0_yard_2 12 rfl rfl)
theorem dX0_yard_63 : decode cX0_yard 63 = .ok (.isub, 1) := dk_100 (dk_at dksX0_yard_2 15 rfl rfl)
theorem dX0_yard_64 : decode cX0_yard 64 = .ok (.istore_n 2, 1) := dk_61 (dk_at dksX0_yard_2 16 rfl rfl)
theorem dX0_yard_65 : decode cX0_yard 65 = .ok (.aload_n 0, 1) := dk_42 (dk_at dksX0_yard_2 17 rfl rfl)
theorem dX0_yard_66 : decode cX0_yard 66 = .ok (.iconst 0, 1) := dk_3 (dk_at dksX0_yard_2 18 rfl rfl)
theorem dX0_yard_67 : decode cX0_yard 67 = .ok (.putfield 137, 3) := dk_181 0 137 (dk_at dksX0_yard_2 19 rfl rfl)
theorem dX0_yard_70 : decode cX0_yard 70 = .ok (.iload_n 2, 1) := dk_28 (dk_at dksX0_yard_2 22 rfl rfl)
theorem dX0_yard_71 : decode cX0_yard 71 = .ok (.ireturn, 1) := dk_172 (dk_at dksX0_yard_2 23 rfl rfl)
theorem dX0_yard_72 : decode cX0_yard 72 = .ok (.astore_n 3, 1) := dk_78 (dk_at dksX0_yard_3 0 rfl rfl)
theorem dX0_yard_73 : decode cX0_yard 73 = .ok (.aload_n 0, 1) := dk_42 (dk_at dksX0_yard_3 1 rfl rfl)
theorem dX0_yard_74 : decode cX0_yard 74 = .ok (.iconst 0, 1) := dk_3 (dk_at dksX0_yard_3 2 rfl rfl)
theorem dX0_yard_75 : decode cX0_yard 75 = .ok (.putfield 137, 3) := dk_181 0 137 (dk_at dksX0_yard_3 3 rfl rfl)
theorem dX0_yard_78 : decode cX0_yard 78 = .ok (.aload_n 3, 1) := dk_45 (dk_at dksX0_yard_3 6 rfl rfl)
theorem dX0_yard_79 : decode cX0_yard 79 = .ok (.athrow, 1) := dk_191 (dk_at dksX0_yard_3 7 rfl rfl)
abbrev cX0_in : ByteArray := prog_1_method_1_code
def yX0_in : MethodName := ⟨RX0, "in", "(JJJ)Z"⟩
def dkwX0_in_0 : List UInt8 := [30, 32, 148, 155, 0, 14, 30, 22, 4, 148, 157, 0, 7, 4, 167, 0, 4, 3, 172]
abbrev dktX0_in_0 : List UInt8 := dkwX0_in_0 ++ []
theorem dksX0_in_0 : cX0_in.data.toList.drop 0 = dktX0_in_0 := by decide +kernel
theorem dX0_in_0 : decode cX0_in 0 = .ok (.lload_n 0, 1) := dk_30 (dk_at dksX0_in_0 0 rfl rfl)
theorem dX0_in_1 : decode cX0_in 1 = .ok (.lload_n 2, 1) := dk_32 (dk_at dksX0_in_0 1 rfl rfl)
theorem dX0_in_2 : decode cX0_in 2 = .ok (.lcmp, 1) := dk_148 (dk_at dksX0_in_0 2 rfl rfl)
theorem dX0_in_3 : decode cX0_in 3 = .ok (.ifCond .lt 14, 3) := dk_155 0 14 (dk_at dksX0_in_0 3 rfl rfl)
theorem dX0_in_6 : decode cX0_in 6 = .ok (.lload_n 0, 1) := dk_30 (dk_at dksX0_in_0 6 rfl rfl)
theorem dX0_in_7 : decode cX0_in 7 = .ok (.lload 4, 2) := dk_22 4 (dk_at dksX0_in_0 7 rfl rfl)
theorem dX0_in_9 : decode cX0_in 9 = .ok (.lcmp, 1) := dk_148 (dk_at dksX0_in_0 9 rfl rfl)
theorem dX0_in_10 : decode cX0_in 10 = .ok (.ifCond .gt 7, 3) := dk_157 0 7 (dk_at dksX0_in_0 10 rfl rfl)
theorem dX0_in_13 : decode cX0_in 13 = .ok (.iconst 1, 1) := dk_4 (dk_at dksX0_in_0 13 rfl rfl)
theorem dX0_in_14 : decode cX0_in 14 = .ok (.goto 4, 3) := dk_167 0 4 (dk_at dksX0_in_0 14 rfl rfl)
theorem dX0_in_17 : decode cX0_in 17 = .ok (.iconst 0, 1) := dk_3 (dk_at dksX0_in_0 17 rfl rfl)
theorem dX0_in_18 : decode cX0_in 18 = .ok (.ireturn, 1) := dk_172 (dk_at dksX0_in_0 18 rfl rfl)
abbrev cX0_fails : ByteArray := prog_1_method_8_code
def yX0_fails : MethodName := ⟨RX0, "fails", "(II)LConkerYard$Wrong;"⟩
def dkwX0_fails_0 : List UInt8 := [42, 180, 0, 42, 4, 16, 8, 28, 104, 96, 27, 96, 181, 0, 134, 42, 180, 0, 42, 176]
abbrev dktX0_fails_0 : List UInt8 := dkwX0_fails_0 ++ []
theorem dksX0_fails_0 : cX0_fails.data.toList.drop 0 = dktX0_fails_0 := by decide +kernel
theorem dX0_fails_0 : decode cX0_fails 0 = .ok (.aload_n 0, 1) := dk_42 (dk_at dksX0_fails_0 0 rfl rfl)
theorem dX0_fails_1 : decode cX0_fails 1 = .ok (.getfield 42, 3) := dk_180 0 42 (dk_at dksX0_fails_0 1 rfl rfl)
theorem dX0_fails_4 : decode cX0_fails 4 = .ok (.iconst 1, 1) := dk_4 (dk_at dksX0_fails_0 4 rfl rfl)
theorem dX0_fails_5 : decode cX0_fails 5 = .ok (.bipush 8, 2) := dk_16 8 (dk_at dksX0_fails_0 5 rfl rfl)
theorem dX0_fails_7 : decode cX0_fails 7 = .ok (.iload_n 2, 1) := dk_28 (dk_at dksX0_fails_0 7 rfl rfl)
theorem dX0_fails_8 : decode cX0_fails 8 = .ok (.imul, 1) := dk_104 (dk_at dksX0_fails_0 8 rfl rfl)
theorem dX0_fails_9 : decode cX0_fails 9 = .ok (.iadd, 1) := dk_96 (dk_at dksX0_fails_0 9 rfl rfl)
theorem dX0_fails_10 : decode cX0_fails 10 = .ok (.iload_n 1, 1) := dk_27 (dk_at dksX0_fails_0 10 rfl rfl)
theorem dX0_fails_11 : decode cX0_fails 11 = .ok (.iadd, 1) := dk_96 (dk_at dksX0_fails_0 11 rfl rfl)
theorem dX0_fails_12 : decode cX0_fails 12 = .ok (.putfield 134, 3) := dk_181 0 134 (dk_at dksX0_fails_0 12 rfl rfl)
theorem dX0_fails_15 : decode cX0_fails 15 = .ok (.aload_n 0, 1) := dk_42 (dk_at dksX0_fails_0 15 rfl rfl)
theorem dX0_fails_16 : decode cX0_fails 16 = .ok (.getfield 42, 3) := dk_180 0 42 (dk_at dksX0_fails_0 16 rfl rfl)
theorem dX0_fails_19 : decode cX0_fails 19 = .ok (.areturn, 1) := dk_176 (dk_at dksX0_fails_0 19 rfl rfl)
abbrev cX0_rule : ByteArray := prog_1_method_13_code
def yX0_rule : MethodName := ⟨RX0, "rule", "()I"⟩
def dkwX0_rule_2 : List UInt8 := [3, 181, 0, 137, 28, 172, 78, 42, 3, 181, 0, 137, 45, 191]
abbrev dktX0_rule_2 : List UInt8 := dkwX0_rule_2 ++ []
def dkwX0_rule_1 : List UInt8 := [183, 0, 145, 182, 0, 165, 60, 42, 3, 181, 0, 137, 27, 172, 76, 16, 254, 43, 180, 0, 134, 100, 61, 42]
abbrev dktX0_rule_1 : List UInt8 := dkwX0_rule_1 ++ dktX0_rule_2
def dkwX0_rule_0 : List UInt8 := [42, 180, 0, 31, 182, 0, 162, 16, 6, 160, 0, 5, 2, 172, 187, 0, 143, 89, 42, 178, 0, 60, 16, 12]
abbrev dktX0_rule_0 : List UInt8 := dkwX0_rule_0 ++ dktX0_rule_1
theorem dksX0_rule_0 : cX0_rule.data.toList.drop 0 = dktX0_rule_0 := by decide +kernel
theorem dksX0_rule_1 : cX0_rule.data.toList.drop 24 = dktX0_rule_1 := dk_seg dksX0_rule_0 24 rfl rfl
theorem dksX0_rule_2 : cX0_rule.data.toList.drop 48 = dktX0_rule_2 := dk_seg dksX0_rule_1 24 rfl rfl
theorem dX0_rule_0 : decode cX0_rule 0 = .ok (.aload_n 0, 1) := dk_42 (dk_at dksX0_rule_0 0 rfl rfl)
theorem dX0_rule_1 : decode cX0_rule 1 = .ok (.getfield 31, 3) := dk_180 0 31 (dk_at dksX0_rule_0 1 rfl rfl)
theorem dX0_rule_4 : decode cX0_rule 4 = .ok (.invokevirtual 162, 3) := dk_182 0 162 (dk_at dksX0_rule_0 4 rfl rfl)
theorem dX0_rule_7 : decode cX0_rule 7 = .ok (.bipush 6, 2) := dk_16 6 (dk_at dksX0_rule_0 7 rfl rfl)
theorem dX0_rule_9 : decode cX0_rule 9 = .ok (.if_icmp .ne 5, 3) := dk_160 0 5 (dk_at dksX0_rule_0 9 rfl rfl)
theorem dX0_rule_12 : decode cX0_rule 12 = .ok (.iconst (-1), 1) := dk_2 (dk_at dksX0_rule_0 12 rfl rfl)
theorem dX0_rule_13 : decode cX0_rule 13 = .ok (.ireturn, 1) := dk_172 (dk_at dksX0_rule_0 13 rfl rfl)
theorem dX0_rule_14 : decode cX0_rule 14 = .ok (.new 143, 3) := dk_187 0 143 (dk_at dksX0_rule_0 14 rfl rfl)
theorem dX0_rule_17 : decode cX0_rule 17 = .ok (.dup, 1) := dk_89 (dk_at dksX0_rule_0 17 rfl rfl)
theorem dX0_rule_18 : decode cX0_rule 18 = .ok (.aload_n 0, 1) := dk_42 (dk_at dksX0_rule_0 18 rfl rfl)
theorem dX0_rule_19 : decode cX0_rule 19 = .ok (.getstatic 60, 3) := dk_178 0 60 (dk_at dksX0_rule_0 19 rfl rfl)
theorem dX0_rule_22 : decode cX0_rule 22 = .ok (.bipush 12, 2) := dk_16 12 (dk_at dksX0_rule_0 22 rfl rfl)
theorem dX0_rule_24 : decode cX0_rule 24 = .ok (.invokespecial 145, 3) := dk_183 0 145 (dk_at dksX0_rule_1 0 rfl rfl)
theorem dX0_rule_27 : decode cX0_rule 27 = .ok (.invokevirtual 165, 3) := dk_182 0 165 (dk_at dksX0_rule_1 3 rfl rfl)
theorem dX0_rule_30 : decode cX0_rule 30 = .ok (.istore_n 1, 1) := dk_60 (dk_at dksX0_rule_1 6 rfl rfl)
theorem dX0_rule_31 : decode cX0_rule 31 = .ok (.aload_n 0, 1) := dk_42 (dk_at dksX0_rule_1 7 rfl rfl)
theorem dX0_rule_32 : decode cX0_rule 32 = .ok (.iconst 0, 1) := dk_3 (dk_at dksX0_rule_1 8 rfl rfl)
theorem dX0_rule_33 : decode cX0_rule 33 = .ok (.putfield 137, 3) := dk_181 0 137 (dk_at dksX0_rule_1 9 rfl rfl)
theorem dX0_rule_36 : decode cX0_rule 36 = .ok (.iload_n 1, 1) := dk_27 (dk_at dksX0_rule_1 12 rfl rfl)
theorem dX0_rule_37 : decode cX0_rule 37 = .ok (.ireturn, 1) := dk_172 (dk_at dksX0_rule_1 13 rfl rfl)
theorem dX0_rule_38 : decode cX0_rule 38 = .ok (.astore_n 1, 1) := dk_76 (dk_at dksX0_rule_1 14 rfl rfl)
theorem dX0_rule_39 : decode cX0_rule 39 = .ok (.bipush (-2), 2) := dk_16 254 (dk_at dksX0_rule_1 15 rfl rfl)
theorem dX0_rule_41 : decode cX0_rule 41 = .ok (.aload_n 1, 1) := dk_43 (dk_at dksX0_rule_1 17 rfl rfl)
theorem dX0_rule_42 : decode cX0_rule 42 = .ok (.getfield 134, 3) := dk_180 0 134 (dk_at dksX0_rule_1 18 rfl rfl)
theorem dX0_rule_45 : decode cX0_rule 45 = .ok (.isub, 1) := dk_100 (dk_at dksX0_rule_1 21 rfl rfl)
theorem dX0_rule_46 : decode cX0_rule 46 = .ok (.istore_n 2, 1) := dk_61 (dk_at dksX0_rule_1 22 rfl rfl)
theorem dX0_rule_47 : decode cX0_rule 47 = .ok (.aload_n 0, 1) := dk_42 (dk_at dksX0_rule_1 23 rfl rfl)
theorem dX0_rule_48 : decode cX0_rule 48 = .ok (.iconst 0, 1) := dk_3 (dk_at dksX0_rule_2 0 rfl rfl)
theorem dX0_rule_49 : decode cX0_rule 49 = .ok (.putfield 137, 3) := dk_181 0 137 (dk_at dksX0_rule_2 1 rfl rfl)
theorem dX0_rule_52 : decode cX0_rule 52 = .ok (.iload_n 2, 1) := dk_28 (dk_at dksX0_rule_2 4 rfl rfl)
theorem dX0_rule_53 : decode cX0_rule 53 = .ok (.ireturn, 1) := dk_172 (dk_at dksX0_rule_2 5 rfl rfl)
theorem dX0_rule_54 : decode cX0_rule 54 = .ok (.astore_n 3, 1) := dk_78 (dk_at dksX0_rule_2 6 rfl rfl)
theorem dX0_rule_55 : decode cX0_rule 55 = .ok (.aload_n 0, 1) := dk_42 (dk_at dksX0_rule_2 7 rfl rfl)
theorem dX0_rule_56 : decode cX0_rule 56 = .ok (.iconst 0, 1) := dk_3 (dk_at dksX0_rule_2 8 rfl rfl)
theorem dX0_rule_57 : decode cX0_rule 57 = .ok (.putfield 137, 3) := dk_181 0 137 (dk_at dksX0_rule_2 9 rfl rfl)
theorem dX0_rule_60 : decode cX0_rule 60 = .ok (.aload_n 3, 1) := dk_45 (dk_at dksX0_rule_2 12 rfl rfl)
theorem dX0_rule_61 : decode cX0_rule 61 = .ok (.athrow, 1) := dk_191 (dk_at dksX0_rule_2 13 rfl rfl)
abbrev cX0_force : ByteArray := prog_1_method_14_code
def yX0_force : MethodName := ⟨RX0, "force", "(I)I"⟩
def dkwX0_force_1 : List UInt8 := [42, 180, 0, 35, 61, 42, 27, 181, 0, 35, 28, 172]
abbrev dktX0_force_1 : List UInt8 := dkwX0_force_1 ++ []
def dkwX0_force_0 : List UInt8 := [27, 133, 20, 0, 168, 42, 180, 0, 31, 182, 0, 162, 4, 100, 133, 184, 0, 119, 154, 0, 6, 16, 254, 172]
abbrev dktX0_force_0 : List UInt8 := dkwX0_force_0 ++ dktX0_force_1
theorem dksX0_force_0 : cX0_force.data.toList.drop 0 = dktX0_force_0 := by decide +kernel
theorem dksX0_force_1 : cX0_force.data.toList.drop 24 = dktX0_force_1 := dk_seg dksX0_force_0 24 rfl rfl
theorem dX0_force_0 : decode cX0_force 0 = .ok (.iload_n 1, 1) := dk_27 (dk_at dksX0_force_0 0 rfl rfl)
theorem dX0_force_1 : decode cX0_force 1 = .ok (.i2l, 1) := dk_133 (dk_at dksX0_force_0 1 rfl rfl)
theorem dX0_force_2 : decode cX0_force 2 = .ok (.ldc2_w 168, 3) := dk_20 0 168 (dk_at dksX0_force_0 2 rfl rfl)
theorem dX0_force_5 : decode cX0_force 5 = .ok (.aload_n 0, 1) := dk_42 (dk_at dksX0_force_0 5 rfl rfl)
theorem dX0_force_6 : decode cX0_force 6 = .ok (.getfield 31, 3) := dk_180 0 31 (dk_at dksX0_force_0 6 rfl rfl)
theorem dX0_force_9 : decode cX0_force 9 = .ok (.invokevirtual 162, 3) := dk_182 0 162 (dk_at dksX0_force_0 9 rfl rfl)
theorem dX0_force_12 : decode cX0_force 12 = .ok (.iconst 1, 1) := dk_4 (dk_at dksX0_force_0 12 rfl rfl)
theorem dX0_force_13 : decode cX0_force 13 = .ok (.isub, 1) := dk_100 (dk_at dksX0_force_0 13 rfl rfl)
theorem dX0_force_14 : decode cX0_force 14 = .ok (.i2l, 1) := dk_133 (dk_at dksX0_force_0 14 rfl rfl)
theorem dX0_force_15 : decode cX0_force 15 = .ok (.invokestatic 119, 3) := dk_184 0 119 (dk_at dksX0_force_0 15 rfl rfl)
theorem dX0_force_18 : decode cX0_force 18 = .ok (.ifCond .ne 6, 3) := dk_154 0 6 (dk_at dksX0_force_0 18 rfl rfl)
theorem dX0_force_21 : decode cX0_force 21 = .ok (.bipush (-2), 2) := dk_16 254 (dk_at dksX0_force_0 21 rfl rfl)
theorem dX0_force_23 : decode cX0_force 23 = .ok (.ireturn, 1) := dk_172 (dk_at dksX0_force_0 23 rfl rfl)
theorem dX0_force_24 : decode cX0_force 24 = .ok (.aload_n 0, 1) := dk_42 (dk_at dksX0_force_1 0 rfl rfl)
theorem dX0_force_25 : decode cX0_force 25 = .ok (.getfield 35, 3) := dk_180 0 35 (dk_at dksX0_force_1 1 rfl rfl)
theorem dX0_force_28 : decode cX0_force 28 = .ok (.istore_n 2, 1) := dk_61 (dk_at dksX0_force_1 4 rfl rfl)
theorem dX0_force_29 : decode cX0_force 29 = .ok (.aload_n 0, 1) := dk_42 (dk_at dksX0_force_1 5 rfl rfl)
theorem dX0_force_30 : decode cX0_force 30 = .ok (.iload_n 1, 1) := dk_27 (dk_at dksX0_force_1 6 rfl rfl)
theorem dX0_force_31 : decode cX0_force 31 = .ok (.putfield 35, 3) := dk_181 0 35 (dk_at dksX0_force_1 7 rfl rfl)
theorem dX0_force_34 : decode cX0_force 34 = .ok (.iload_n 2, 1) := dk_28 (dk_at dksX0_force_1 10 rfl rfl)
theorem dX0_force_35 : decode cX0_force 35 = .ok (.ireturn, 1) := dk_172 (dk_at dksX0_force_1 11 rfl rfl)
abbrev cX0_conker : ByteArray := prog_1_method_15_code
def yX0_conker : MethodName := ⟨RX0, "conker", "(II)I"⟩
def dkwX0_conker_4 : List UInt8 := [184, 0, 130, 184, 0, 182, 172, 2, 172]
abbrev dktX0_conker_4 : List UInt8 := dkwX0_conker_4 ++ []
def dkwX0_conker_3 : List UInt8 := [180, 0, 176, 27, 46, 172, 42, 180, 0, 19, 180, 0, 179, 27, 46, 172, 42, 180, 0, 19, 180, 0, 127, 27]
abbrev dktX0_conker_3 : List UInt8 := dkwX0_conker_3 ++ dktX0_conker_4
def dkwX0_conker_2 : List UInt8 := [42, 180, 0, 19, 180, 0, 170, 27, 46, 172, 42, 180, 0, 19, 180, 0, 173, 27, 46, 172, 42, 180, 0, 19]
abbrev dktX0_conker_2 : List UInt8 := dkwX0_conker_2 ++ dktX0_conker_3
def dkwX0_conker_1 : List UInt8 := [170, 0, 0, 0, 88, 0, 0, 0, 0, 0, 0, 0, 4, 0, 0, 0, 33, 0, 0, 0, 43, 0, 0, 0, 53, 0, 0, 0, 63, 0, 0, 0, 73]
abbrev dktX0_conker_1 : List UInt8 := dkwX0_conker_1 ++ dktX0_conker_2
def dkwX0_conker_0 : List UInt8 := [42, 27, 182, 0, 123, 154, 0, 5, 2, 172, 28]
abbrev dktX0_conker_0 : List UInt8 := dkwX0_conker_0 ++ dktX0_conker_1
theorem dksX0_conker_0 : cX0_conker.data.toList.drop 0 = dktX0_conker_0 := by decide +kernel
theorem dksX0_conker_1 : cX0_conker.data.toList.drop 11 = dktX0_conker_1 := dk_seg dksX0_conker_0 11 rfl rfl
theorem dksX0_conker_2 : cX0_conker.data.toList.drop 44 = dktX0_conker_2 := dk_seg dksX0_conker_1 33 rfl rfl
theorem dksX0_conker_3 : cX0_conker.data.toList.drop 68 = dktX0_conker_3 := dk_seg dksX0_conker_2 24 rfl rfl
theorem dksX0_conker_4 : cX0_conker.data.toList.drop 92 = dktX0_conker_4 := dk_seg dksX0_conker_3 24 rfl rfl
theorem dX0_conker_0 : decode cX0_conker 0 = .ok (.aload_n 0, 1) := dk_42 (dk_at dksX0_conker_0 0 rfl rfl)
theorem dX0_conker_1 : decode cX0_conker 1 = .ok (.iload_n 1, 1) := dk_27 (dk_at dksX0_conker_0 1 rfl rfl)
theorem dX0_conker_2 : decode cX0_conker 2 = .ok (.invokevirtual 123, 3) := dk_182 0 123 (dk_at dksX0_conker_0 2 rfl rfl)
theorem dX0_conker_5 : decode cX0_conker 5 = .ok (.ifCond .ne 5, 3) := dk_154 0 5 (dk_at dksX0_conker_0 5 rfl rfl)
theorem dX0_conker_8 : decode cX0_conker 8 = .ok (.iconst (-1), 1) := dk_2 (dk_at dksX0_conker_0 8 rfl rfl)
theorem dX0_conker_9 : decode cX0_conker 9 = .ok (.ireturn, 1) := dk_172 (dk_at dksX0_conker_0 9 rfl rfl)
theorem dX0_conker_10 : decode cX0_conker 10 = .ok (.iload_n 2, 1) := dk_28 (dk_at dksX0_conker_0 10 rfl rfl)
theorem dX0_conker_11 : decode cX0_conker 11 = .ok (.tableswitch 88 0 4 #[33, 43, 53, 63, 73], 33) := by decide +kernel
theorem dX0_conker_44 : decode cX0_conker 44 = .ok (.aload_n 0, 1) := dk_42 (dk_at dksX0_conker_2 0 rfl rfl)
theorem dX0_conker_45 : decode cX0_conker 45 = .ok (.getfield 19, 3) := dk_180 0 19 (dk_at dksX0_conker_2 1 rfl rfl)
theorem dX0_conker_48 : decode cX0_conker 48 = .ok (.getfield 170, 3) := dk_180 0 170 (dk_at dksX0_conker_2 4 rfl rfl)
theorem dX0_conker_51 : decode cX0_conker 51 = .ok (.iload_n 1, 1) := dk_27 (dk_at dksX0_conker_2 7 rfl rfl)
theorem dX0_conker_52 : decode cX0_conker 52 = .ok (.iaload, 1) := dk_46 (dk_at dksX0_conker_2 8 rfl rfl)
theorem dX0_conker_53 : decode cX0_conker 53 = .ok (.ireturn, 1) := dk_172 (dk_at dksX0_conker_2 9 rfl rfl)
theorem dX0_conker_54 : decode cX0_conker 54 = .ok (.aload_n 0, 1) := dk_42 (dk_at dksX0_conker_2 10 rfl rfl)
theorem dX0_conker_55 : decode cX0_conker 55 = .ok (.getfield 19, 3) := dk_180 0 19 (dk_at dksX0_conker_2 11 rfl rfl)
theorem dX0_conker_58 : decode cX0_conker 58 = .ok (.getfield 173, 3) := dk_180 0 173 (dk_at dksX0_conker_2 14 rfl rfl)
theorem dX0_conker_61 : decode cX0_conker 61 = .ok (.iload_n 1, 1) := dk_27 (dk_at dksX0_conker_2 17 rfl rfl)
theorem dX0_conker_62 : decode cX0_conker 62 = .ok (.iaload, 1) := dk_46 (dk_at dksX0_conker_2 18 rfl rfl)
theorem dX0_conker_63 : decode cX0_conker 63 = .ok (.ireturn, 1) := dk_172 (dk_at dksX0_conker_2 19 rfl rfl)
theorem dX0_conker_64 : decode cX0_conker 64 = .ok (.aload_n 0, 1) := dk_42 (dk_at dksX0_conker_2 20 rfl rfl)
theorem dX0_conker_65 : decode cX0_conker 65 = .ok (.getfield 19, 3) := dk_180 0 19 (dk_at dksX0_conker_2 21 rfl rfl)
theorem dX0_conker_68 : decode cX0_conker 68 = .ok (.getfield 176, 3) := dk_180 0 176 (dk_at dksX0_conker_3 0 rfl rfl)
theorem dX0_conker_71 : decode cX0_conker 71 = .ok (.iload_n 1, 1) := dk_27 (dk_at dksX0_conker_3 3 rfl rfl)
theorem dX0_conker_72 : decode cX0_conker 72 = .ok (.iaload, 1) := dk_46 (dk_at dksX0_conker_3 4 rfl rfl)
theorem dX0_conker_73 : decode cX0_conker 73 = .ok (.ireturn, 1) := dk_172 (dk_at dksX0_conker_3 5 rfl rfl)
theorem dX0_conker_74 : decode cX0_conker 74 = .ok (.aload_n 0, 1) := dk_42 (dk_at dksX0_conker_3 6 rfl rfl)
theorem dX0_conker_75 : decode cX0_conker 75 = .ok (.getfield 19, 3) := dk_180 0 19 (dk_at dksX0_conker_3 7 rfl rfl)
theorem dX0_conker_78 : decode cX0_conker 78 = .ok (.getfield 179, 3) := dk_180 0 179 (dk_at dksX0_conker_3 10 rfl rfl)
theorem dX0_conker_81 : decode cX0_conker 81 = .ok (.iload_n 1, 1) := dk_27 (dk_at dksX0_conker_3 13 rfl rfl)
theorem dX0_conker_82 : decode cX0_conker 82 = .ok (.iaload, 1) := dk_46 (dk_at dksX0_conker_3 14 rfl rfl)
theorem dX0_conker_83 : decode cX0_conker 83 = .ok (.ireturn, 1) := dk_172 (dk_at dksX0_conker_3 15 rfl rfl)
theorem dX0_conker_84 : decode cX0_conker 84 = .ok (.aload_n 0, 1) := dk_42 (dk_at dksX0_conker_3 16 rfl rfl)
theorem dX0_conker_85 : decode cX0_conker 85 = .ok (.getfield 19, 3) := dk_180 0 19 (dk_at dksX0_conker_3 17 rfl rfl)
theorem dX0_conker_88 : decode cX0_conker 88 = .ok (.getfield 127, 3) := dk_180 0 127 (dk_at dksX0_conker_3 20 rfl rfl)
theorem dX0_conker_91 : decode cX0_conker 91 = .ok (.iload_n 1, 1) := dk_27 (dk_at dksX0_conker_3 23 rfl rfl)
theorem dX0_conker_92 : decode cX0_conker 92 = .ok (.invokestatic 130, 3) := dk_184 0 130 (dk_at dksX0_conker_4 0 rfl rfl)
theorem dX0_conker_95 : decode cX0_conker 95 = .ok (.invokestatic 182, 3) := dk_184 0 182 (dk_at dksX0_conker_4 3 rfl rfl)
theorem dX0_conker_98 : decode cX0_conker 98 = .ok (.ireturn, 1) := dk_172 (dk_at dksX0_conker_4 6 rfl rfl)
theorem dX0_conker_99 : decode cX0_conker 99 = .ok (.iconst (-1), 1) := dk_2 (dk_at dksX0_conker_4 7 rfl rfl)
theorem dX0_conker_100 : decode cX0_conker 100 = .ok (.ireturn, 1) := dk_172 (dk_at dksX0_conker_4 8 rfl rfl)
abbrev cX0_isConker : ByteArray := prog_1_method_6_code
def yX0_isConker : MethodName := ⟨RX0, "isConker", "(I)Z"⟩
def dkwX0_isConker_0 : List UInt8 := [27, 133, 9, 42, 180, 0, 10, 182, 0, 115, 4, 100, 133, 184, 0, 119, 172]
abbrev dktX0_isConker_0 : List UInt8 := dkwX0_isConker_0 ++ []
theorem dksX0_isConker_0 : cX0_isConker.data.toList.drop 0 = dktX0_isConker_0 := by decide +kernel
theorem dX0_isConker_0 : decode cX0_isConker 0 = .ok (.iload_n 1, 1) := dk_27 (dk_at dksX0_isConker_0 0 rfl rfl)
theorem dX0_isConker_1 : decode cX0_isConker 1 = .ok (.i2l, 1) := dk_133 (dk_at dksX0_isConker_0 1 rfl rfl)
theorem dX0_isConker_2 : decode cX0_isConker 2 = .ok (.lconst 0, 1) := dk_9 (dk_at dksX0_isConker_0 2 rfl rfl)
theorem dX0_isConker_3 : decode cX0_isConker 3 = .ok (.aload_n 0, 1) := dk_42 (dk_at dksX0_isConker_0 3 rfl rfl)
theorem dX0_isConker_4 : decode cX0_isConker 4 = .ok (.getfield 10, 3) := dk_180 0 10 (dk_at dksX0_isConker_0 4 rfl rfl)
theorem dX0_isConker_7 : decode cX0_isConker 7 = .ok (.invokevirtual 115, 3) := dk_182 0 115 (dk_at dksX0_isConker_0 7 rfl rfl)
theorem dX0_isConker_10 : decode cX0_isConker 10 = .ok (.iconst 1, 1) := dk_4 (dk_at dksX0_isConker_0 10 rfl rfl)
theorem dX0_isConker_11 : decode cX0_isConker 11 = .ok (.isub, 1) := dk_100 (dk_at dksX0_isConker_0 11 rfl rfl)
theorem dX0_isConker_12 : decode cX0_isConker 12 = .ok (.i2l, 1) := dk_133 (dk_at dksX0_isConker_0 12 rfl rfl)
theorem dX0_isConker_13 : decode cX0_isConker 13 = .ok (.invokestatic 119, 3) := dk_184 0 119 (dk_at dksX0_isConker_0 13 rfl rfl)
theorem dX0_isConker_16 : decode cX0_isConker 16 = .ok (.ireturn, 1) := dk_172 (dk_at dksX0_isConker_0 16 rfl rfl)
abbrev cX0_has : ByteArray := prog_1_method_2_code
def yX0_has : MethodName := ⟨RX0, "has", "(II)Z"⟩
def dkwX0_has_0 : List UInt8 := [26, 27, 122, 4, 126, 4, 160, 0, 7, 4, 167, 0, 4, 3, 172]
abbrev dktX0_has_0 : List UInt8 := dkwX0_has_0 ++ []
theorem dksX0_has_0 : cX0_has.data.toList.drop 0 = dktX0_has_0 := by decide +kernel
theorem dX0_has_0 : decode cX0_has 0 = .ok (.iload_n 0, 1) := dk_26 (dk_at dksX0_has_0 0 rfl rfl)
theorem dX0_has_1 : decode cX0_has 1 = .ok (.iload_n 1, 1) := dk_27 (dk_at dksX0_has_0 1 rfl rfl)
theorem dX0_has_2 : decode cX0_has 2 = .ok (.ishr, 1) := dk_122 (dk_at dksX0_has_0 2 rfl rfl)
theorem dX0_has_3 : decode cX0_has 3 = .ok (.iconst 1, 1) := dk_4 (dk_at dksX0_has_0 3 rfl rfl)
theorem dX0_has_4 : decode cX0_has 4 = .ok (.iand, 1) := dk_126 (dk_at dksX0_has_0 4 rfl rfl)
theorem dX0_has_5 : decode cX0_has 5 = .ok (.iconst 1, 1) := dk_4 (dk_at dksX0_has_0 5 rfl rfl)
theorem dX0_has_6 : decode cX0_has 6 = .ok (.if_icmp .ne 7, 3) := dk_160 0 7 (dk_at dksX0_has_0 6 rfl rfl)
theorem dX0_has_9 : decode cX0_has 9 = .ok (.iconst 1, 1) := dk_4 (dk_at dksX0_has_0 9 rfl rfl)
theorem dX0_has_10 : decode cX0_has 10 = .ok (.goto 4, 3) := dk_167 0 4 (dk_at dksX0_has_0 10 rfl rfl)
theorem dX0_has_13 : decode cX0_has 13 = .ok (.iconst 0, 1) := dk_3 (dk_at dksX0_has_0 13 rfl rfl)
theorem dX0_has_14 : decode cX0_has 14 = .ok (.ireturn, 1) := dk_172 (dk_at dksX0_has_0 14 rfl rfl)
abbrev cX0_bit : ByteArray := prog_1_method_3_code
def yX0_bit : MethodName := ⟨RX0, "bit", "(Z)I"⟩
def dkwX0_bit_0 : List UInt8 := [26, 153, 0, 7, 4, 167, 0, 4, 3, 172]
abbrev dktX0_bit_0 : List UInt8 := dkwX0_bit_0 ++ []
theorem dksX0_bit_0 : cX0_bit.data.toList.drop 0 = dktX0_bit_0 := by decide +kernel
theorem dX0_bit_0 : decode cX0_bit 0 = .ok (.iload_n 0, 1) := dk_26 (dk_at dksX0_bit_0 0 rfl rfl)
theorem dX0_bit_1 : decode cX0_bit 1 = .ok (.ifCond .eq 7, 3) := dk_153 0 7 (dk_at dksX0_bit_0 1 rfl rfl)
theorem dX0_bit_4 : decode cX0_bit 4 = .ok (.iconst 1, 1) := dk_4 (dk_at dksX0_bit_0 4 rfl rfl)
theorem dX0_bit_5 : decode cX0_bit 5 = .ok (.goto 4, 3) := dk_167 0 4 (dk_at dksX0_bit_0 5 rfl rfl)
theorem dX0_bit_8 : decode cX0_bit 8 = .ok (.iconst 0, 1) := dk_3 (dk_at dksX0_bit_0 8 rfl rfl)
theorem dX0_bit_9 : decode cX0_bit 9 = .ok (.ireturn, 1) := dk_172 (dk_at dksX0_bit_0 9 rfl rfl)
abbrev cX0_undo : ByteArray := prog_1_method_22_code
def yX0_undo : MethodName := ⟨RX0, "undo", "()I"⟩
def dkwX0_undo_2 : List UInt8 := [180, 0, 222, 50, 182, 0, 225, 42, 180, 0, 159, 172]
abbrev dktX0_undo_2 : List UInt8 := dkwX0_undo_2 ++ []
def dkwX0_undo_1 : List UInt8 := [181, 0, 222, 42, 89, 180, 0, 159, 4, 100, 181, 0, 159, 42, 180, 0, 19, 42, 180, 0, 72, 42]
abbrev dktX0_undo_1 : List UInt8 := dkwX0_undo_1 ++ dktX0_undo_2
def dkwX0_undo_0 : List UInt8 := [42, 180, 0, 159, 154, 0, 5, 2, 172, 42, 42, 180, 0, 222, 16, 20, 96, 4, 100, 16, 20, 112]
abbrev dktX0_undo_0 : List UInt8 := dkwX0_undo_0 ++ dktX0_undo_1
theorem dksX0_undo_0 : cX0_undo.data.toList.drop 0 = dktX0_undo_0 := by decide +kernel
theorem dksX0_undo_1 : cX0_undo.data.toList.drop 22 = dktX0_undo_1 := dk_seg dksX0_undo_0 22 rfl rfl
theorem dksX0_undo_2 : cX0_undo.data.toList.drop 44 = dktX0_undo_2 := dk_seg dksX0_undo_1 22 rfl rfl
theorem dX0_undo_0 : decode cX0_undo 0 = .ok (.aload_n 0, 1) := dk_42 (dk_at dksX0_undo_0 0 rfl rfl)
theorem dX0_undo_1 : decode cX0_undo 1 = .ok (.getfield 159, 3) := dk_180 0 159 (dk_at dksX0_undo_0 1 rfl rfl)
theorem dX0_undo_4 : decode cX0_undo 4 = .ok (.ifCond .ne 5, 3) := dk_154 0 5 (dk_at dksX0_undo_0 4 rfl rfl)
theorem dX0_undo_7 : decode cX0_undo 7 = .ok (.iconst (-1), 1) := dk_2 (dk_at dksX0_undo_0 7 rfl rfl)
theorem dX0_undo_8 : decode cX0_undo 8 = .ok (.ireturn, 1) := dk_172 (dk_at dksX0_undo_0 8 rfl rfl)
theorem dX0_undo_9 : decode cX0_undo 9 = .ok (.aload_n 0, 1) := dk_42 (dk_at dksX0_undo_0 9 rfl rfl)
theorem dX0_undo_10 : decode cX0_undo 10 = .ok (.aload_n 0, 1) := dk_42 (dk_at dksX0_undo_0 10 rfl rfl)
theorem dX0_undo_11 : decode cX0_undo 11 = .ok (.getfield 222, 3) := dk_180 0 222 (dk_at dksX0_undo_0 11 rfl rfl)
theorem dX0_undo_14 : decode cX0_undo 14 = .ok (.bipush 20, 2) := dk_16 20 (dk_at dksX0_undo_0 14 rfl rfl)
theorem dX0_undo_16 : decode cX0_undo 16 = .ok (.iadd, 1) := dk_96 (dk_at dksX0_undo_0 16 rfl rfl)
theorem dX0_undo_17 : decode cX0_undo 17 = .ok (.iconst 1, 1) := dk_4 (dk_at dksX0_undo_0 17 rfl rfl)
theorem dX0_undo_18 : decode cX0_undo 18 = .ok (.isub, 1) := dk_100 (dk_at dksX0_undo_0 18 rfl rfl)
theorem dX0_undo_19 : decode cX0_undo 19 = .ok (.bipush 20, 2) := dk_16 20 (dk_at dksX0_undo_0 19 rfl rfl)
theorem dX0_undo_21 : decode cX0_undo 21 = .ok (.irem, 1) := dk_112 (dk_at dksX0_undo_0 21 rfl rfl)
theorem dX0_undo_22 : decode cX0_undo 22 = .ok (.putfield 222, 3) := dk_181 0 222 (dk_at dksX0_undo_1 0 rfl rfl)
theorem dX0_undo_25 : decode cX0_undo 25 = .ok (.aload_n 0, 1) := dk_42 (dk_at dksX0_undo_1 3 rfl rfl)
theorem dX0_undo_26 : decode cX0_undo 26 = .ok (.dup, 1) := dk_89 (dk_at dksX0_undo_1 4 rfl rfl)
theorem dX0_undo_27 : decode cX0_undo 27 = .ok (.getfield 159, 3) := dk_180 0 159 (dk_at dksX0_undo_1 5 rfl rfl)
theorem dX0_undo_30 : decode cX0_undo 30 = .ok (.iconst 1, 1) := dk_4 (dk_at dksX0_undo_1 8 rfl rfl)
theorem dX0_undo_31 : decode cX0_undo 31 = .ok (.isub, 1) := dk_100 (dk_at dksX0_undo_1 9 rfl rfl)
theorem dX0_undo_32 : decode cX0_undo 32 = .ok (.putfield 159, 3) := dk_181 0 159 (dk_at dksX0_undo_1 10 rfl rfl)
theorem dX0_undo_35 : decode cX0_undo 35 = .ok (.aload_n 0, 1) := dk_42 (dk_at dksX0_undo_1 13 rfl rfl)
theorem dX0_undo_36 : decode cX0_undo 36 = .ok (.getfield 19, 3) := dk_180 0 19 (dk_at dksX0_undo_1 14 rfl rfl)
theorem dX0_undo_39 : decode cX0_undo 39 = .ok (.aload_n 0, 1) := dk_42 (dk_at dksX0_undo_1 17 rfl rfl)
theorem dX0_undo_40 : decode cX0_undo 40 = .ok (.getfield 72, 3) := dk_180 0 72 (dk_at dksX0_undo_1 18 rfl rfl)
theorem dX0_undo_43 : decode cX0_undo 43 = .ok (.aload_n 0, 1) := dk_42 (dk_at dksX0_undo_1 21 rfl rfl)
theorem dX0_undo_44 : decode cX0_undo 44 = .ok (.getfield 222, 3) := dk_180 0 222 (dk_at dksX0_undo_2 0 rfl rfl)
theorem dX0_undo_47 : decode cX0_undo 47 = .ok (.aaload, 1) := dk_50 (dk_at dksX0_undo_2 3 rfl rfl)
theorem dX0_undo_48 : decode cX0_undo 48 = .ok (.invokevirtual 225, 3) := dk_182 0 225 (dk_at dksX0_undo_2 4 rfl rfl)
theorem dX0_undo_51 : decode cX0_undo 51 = .ok (.aload_n 0, 1) := dk_42 (dk_at dksX0_undo_2 7 rfl rfl)
theorem dX0_undo_52 : decode cX0_undo 52 = .ok (.getfield 159, 3) := dk_180 0 159 (dk_at dksX0_undo_2 8 rfl rfl)
theorem dX0_undo_55 : decode cX0_undo 55 = .ok (.ireturn, 1) := dk_172 (dk_at dksX0_undo_2 11 rfl rfl)
abbrev cX0_round : ByteArray := prog_1_method_23_code
def yX0_round : MethodName := ⟨RX0, "round", "()I"⟩
def dkwX0_round_1 : List UInt8 := [182, 0, 239, 42, 42, 180, 0, 19, 182, 0, 219, 60, 27, 2, 160, 0, 8, 16, 254, 167, 0, 4, 27, 172]
abbrev dktX0_round_1 : List UInt8 := dkwX0_round_1 ++ []
def dkwX0_round_0 : List UInt8 := [42, 182, 0, 235, 153, 0, 16, 42, 180, 0, 19, 180, 0, 192, 17, 3, 231, 160, 0, 5, 2, 172, 42]
abbrev dktX0_round_0 : List UInt8 := dkwX0_round_0 ++ dktX0_round_1
theorem dksX0_round_0 : cX0_round.data.toList.drop 0 = dktX0_round_0 := by decide +kernel
theorem dksX0_round_1 : cX0_round.data.toList.drop 23 = dktX0_round_1 := dk_seg dksX0_round_0 23 rfl rfl
theorem dX0_round_0 : decode cX0_round 0 = .ok (.aload_n 0, 1) := dk_42 (dk_at dksX0_round_0 0 rfl rfl)
theorem dX0_round_1 : decode cX0_round 1 = .ok (.invokevirtual 235, 3) := dk_182 0 235 (dk_at dksX0_round_0 1 rfl rfl)
theorem dX0_round_4 : decode cX0_round 4 = .ok (.ifCond .eq 16, 3) := dk_153 0 16 (dk_at dksX0_round_0 4 rfl rfl)
theorem dX0_round_7 : decode cX0_round 7 = .ok (.aload_n 0, 1) := dk_42 (dk_at dksX0_round_0 7 rfl rfl)
theorem dX0_round_8 : decode cX0_round 8 = .ok (.getfield 19, 3) := dk_180 0 19 (dk_at dksX0_round_0 8 rfl rfl)
theorem dX0_round_11 : decode cX0_round 11 = .ok (.getfield 192, 3) := dk_180 0 192 (dk_at dksX0_round_0 11 rfl rfl)
theorem dX0_round_14 : decode cX0_round 14 = .ok (.sipush 999, 3) := dk_17 3 231 (dk_at dksX0_round_0 14 rfl rfl)
theorem dX0_round_17 : decode cX0_round 17 = .ok (.if_icmp .ne 5, 3) := dk_160 0 5 (dk_at dksX0_round_0 17 rfl rfl)
theorem dX0_round_20 : decode cX0_round 20 = .ok (.iconst (-1), 1) := dk_2 (dk_at dksX0_round_0 20 rfl rfl)
theorem dX0_round_21 : decode cX0_round 21 = .ok (.ireturn, 1) := dk_172 (dk_at dksX0_round_0 21 rfl rfl)
theorem dX0_round_22 : decode cX0_round 22 = .ok (.aload_n 0, 1) := dk_42 (dk_at dksX0_round_0 22 rfl rfl)
theorem dX0_round_23 : decode cX0_round 23 = .ok (.invokevirtual 239, 3) := dk_182 0 239 (dk_at dksX0_round_1 0 rfl rfl)
theorem dX0_round_26 : decode cX0_round 26 = .ok (.aload_n 0, 1) := dk_42 (dk_at dksX0_round_1 3 rfl rfl)
theorem dX0_round_27 : decode cX0_round 27 = .ok (.aload_n 0, 1) := dk_42 (dk_at dksX0_round_1 4 rfl rfl)
theorem dX0_round_28 : decode cX0_round 28 = .ok (.getfield 19, 3) := dk_180 0 19 (dk_at dksX0_round_1 5 rfl rfl)
theorem dX0_round_31 : decode cX0_round 31 = .ok (.invokevirtual 219, 3) := dk_182 0 219 (dk_at dksX0_round_1 8 rfl rfl)
theorem dX0_round_34 : decode cX0_round 34 = .ok (.istore_n 1, 1) := dk_60 (dk_at dksX0_round_1 11 rfl rfl)
theorem dX0_round_35 : decode cX0_round 35 = .ok (.iload_n 1, 1) := dk_27 (dk_at dksX0_round_1 12 rfl rfl)
theorem dX0_round_36 : decode cX0_round 36 = .ok (.iconst (-1), 1) := dk_2 (dk_at dksX0_round_1 13 rfl rfl)
theorem dX0_round_37 : decode cX0_round 37 = .ok (.if_icmp .ne 8, 3) := dk_160 0 8 (dk_at dksX0_round_1 14 rfl rfl)
theorem dX0_round_40 : decode cX0_round 40 = .ok (.bipush (-2), 2) := dk_16 254 (dk_at dksX0_round_1 17 rfl rfl)
theorem dX0_round_42 : decode cX0_round 42 = .ok (.goto 4, 3) := dk_167 0 4 (dk_at dksX0_round_1 19 rfl rfl)
theorem dX0_round_45 : decode cX0_round 45 = .ok (.iload_n 1, 1) := dk_27 (dk_at dksX0_round_1 22 rfl rfl)
theorem dX0_round_46 : decode cX0_round 46 = .ok (.ireturn, 1) := dk_172 (dk_at dksX0_round_1 23 rfl rfl)
abbrev cX0_isYard : ByteArray := prog_1_method_5_code
def yX0_isYard : MethodName := ⟨RX0, "isYard", "()Z"⟩
def dkwX0_isYard_0 : List UInt8 := [42, 180, 0, 10, 180, 0, 112, 158, 0, 7, 4, 167, 0, 4, 3, 172]
abbrev dktX0_isYard_0 : List UInt8 := dkwX0_isYard_0 ++ []
theorem dksX0_isYard_0 : cX0_isYard.data.toList.drop 0 = dktX0_isYard_0 := by decide +kernel
theorem dX0_isYard_0 : decode cX0_isYard 0 = .ok (.aload_n 0, 1) := dk_42 (dk_at dksX0_isYard_0 0 rfl rfl)
theorem dX0_isYard_1 : decode cX0_isYard 1 = .ok (.getfield 10, 3) := dk_180 0 10 (dk_at dksX0_isYard_0 1 rfl rfl)
theorem dX0_isYard_4 : decode cX0_isYard 4 = .ok (.getfield 112, 3) := dk_180 0 112 (dk_at dksX0_isYard_0 4 rfl rfl)
theorem dX0_isYard_7 : decode cX0_isYard 7 = .ok (.ifCond .le 7, 3) := dk_158 0 7 (dk_at dksX0_isYard_0 7 rfl rfl)
theorem dX0_isYard_10 : decode cX0_isYard 10 = .ok (.iconst 1, 1) := dk_4 (dk_at dksX0_isYard_0 10 rfl rfl)
theorem dX0_isYard_11 : decode cX0_isYard 11 = .ok (.goto 4, 3) := dk_167 0 4 (dk_at dksX0_isYard_0 11 rfl rfl)
theorem dX0_isYard_14 : decode cX0_isYard 14 = .ok (.iconst 0, 1) := dk_3 (dk_at dksX0_isYard_0 14 rfl rfl)
theorem dX0_isYard_15 : decode cX0_isYard 15 = .ok (.ireturn, 1) := dk_172 (dk_at dksX0_isYard_0 15 rfl rfl)
abbrev cX0_keeps : ByteArray := prog_1_method_21_code
def yX0_keeps : MethodName := ⟨RX0, "keeps", "()V"⟩
def dkwX0_keeps_1 : List UInt8 := [16, 20, 112, 181, 0, 222, 42, 16, 20, 42, 180, 0, 159, 4, 96, 184, 0, 229, 181, 0, 159, 177]
abbrev dktX0_keeps_1 : List UInt8 := dkwX0_keeps_1 ++ []
def dkwX0_keeps_0 : List UInt8 := [42, 180, 0, 72, 42, 180, 0, 222, 50, 42, 180, 0, 19, 182, 0, 225, 42, 42, 180, 0, 222, 4, 96]
abbrev dktX0_keeps_0 : List UInt8 := dkwX0_keeps_0 ++ dktX0_keeps_1
theorem dksX0_keeps_0 : cX0_keeps.data.toList.drop 0 = dktX0_keeps_0 := by decide +kernel
theorem dksX0_keeps_1 : cX0_keeps.data.toList.drop 23 = dktX0_keeps_1 := dk_seg dksX0_keeps_0 23 rfl rfl
theorem dX0_keeps_0 : decode cX0_keeps 0 = .ok (.aload_n 0, 1) := dk_42 (dk_at dksX0_keeps_0 0 rfl rfl)
theorem dX0_keeps_1 : decode cX0_keeps 1 = .ok (.getfield 72, 3) := dk_180 0 72 (dk_at dksX0_keeps_0 1 rfl rfl)
theorem dX0_keeps_4 : decode cX0_keeps 4 = .ok (.aload_n 0, 1) := dk_42 (dk_at dksX0_keeps_0 4 rfl rfl)
theorem dX0_keeps_5 : decode cX0_keeps 5 = .ok (.getfield 222, 3) := dk_180 0 222 (dk_at dksX0_keeps_0 5 rfl rfl)
theorem dX0_keeps_8 : decode cX0_keeps 8 = .ok (.aaload, 1) := dk_50 (dk_at dksX0_keeps_0 8 rfl rfl)
theorem dX0_keeps_9 : decode cX0_keeps 9 = .ok (.aload_n 0, 1) := dk_42 (dk_at dksX0_keeps_0 9 rfl rfl)
theorem dX0_keeps_10 : decode cX0_keeps 10 = .ok (.getfield 19, 3) := dk_180 0 19 (dk_at dksX0_keeps_0 10 rfl rfl)
theorem dX0_keeps_13 : decode cX0_keeps 13 = .ok (.invokevirtual 225, 3) := dk_182 0 225 (dk_at dksX0_keeps_0 13 rfl rfl)
theorem dX0_keeps_16 : decode cX0_keeps 16 = .ok (.aload_n 0, 1) := dk_42 (dk_at dksX0_keeps_0 16 rfl rfl)
theorem dX0_keeps_17 : decode cX0_keeps 17 = .ok (.aload_n 0, 1) := dk_42 (dk_at dksX0_keeps_0 17 rfl rfl)
theorem dX0_keeps_18 : decode cX0_keeps 18 = .ok (.getfield 222, 3) := dk_180 0 222 (dk_at dksX0_keeps_0 18 rfl rfl)
theorem dX0_keeps_21 : decode cX0_keeps 21 = .ok (.iconst 1, 1) := dk_4 (dk_at dksX0_keeps_0 21 rfl rfl)
theorem dX0_keeps_22 : decode cX0_keeps 22 = .ok (.iadd, 1) := dk_96 (dk_at dksX0_keeps_0 22 rfl rfl)
theorem dX0_keeps_23 : decode cX0_keeps 23 = .ok (.bipush 20, 2) := dk_16 20 (dk_at dksX0_keeps_1 0 rfl rfl)
theorem dX0_keeps_25 : decode cX0_keeps 25 = .ok (.irem, 1) := dk_112 (dk_at dksX0_keeps_1 2 rfl rfl)
theorem dX0_keeps_26 : decode cX0_keeps 26 = .ok (.putfield 222, 3) := dk_181 0 222 (dk_at dksX0_keeps_1 3 rfl rfl)
theorem dX0_keeps_29 : decode cX0_keeps 29 = .ok (.aload_n 0, 1) := dk_42 (dk_at dksX0_keeps_1 6 rfl rfl)
theorem dX0_keeps_30 : decode cX0_keeps 30 = .ok (.bipush 20, 2) := dk_16 20 (dk_at dksX0_keeps_1 7 rfl rfl)
theorem dX0_keeps_32 : decode cX0_keeps 32 = .ok (.aload_n 0, 1) := dk_42 (dk_at dksX0_keeps_1 9 rfl rfl)
theorem dX0_keeps_33 : decode cX0_keeps 33 = .ok (.getfield 159, 3) := dk_180 0 159 (dk_at dksX0_keeps_1 10 rfl rfl)
theorem dX0_keeps_36 : decode cX0_keeps 36 = .ok (.iconst 1, 1) := dk_4 (dk_at dksX0_keeps_1 13 rfl rfl)
theorem dX0_keeps_37 : decode cX0_keeps 37 = .ok (.iadd, 1) := dk_96 (dk_at dksX0_keeps_1 14 rfl rfl)
theorem dX0_keeps_38 : decode cX0_keeps 38 = .ok (.invokestatic 229, 3) := dk_184 0 229 (dk_at dksX0_keeps_1 15 rfl rfl)
theorem dX0_keeps_41 : decode cX0_keeps 41 = .ok (.putfield 159, 3) := dk_181 0 159 (dk_at dksX0_keeps_1 18 rfl rfl)
theorem dX0_keeps_44 : decode cX0_keeps 44 = .ok (.return_, 1) := dk_177 (dk_at dksX0_keeps_1 21 rfl rfl)
abbrev cX0_goesOn : ByteArray := prog_1_method_18_code
def yX0_goesOn : MethodName := ⟨RX0, "goesOn", "(LConkerYard$State;)I"⟩
def dkwX0_goesOn_2 : List UInt8 := [180, 0, 112, 182, 0, 215, 87, 43, 4, 29, 120, 4, 21, 4, 120, 128, 182, 0, 212, 29, 172]
abbrev dktX0_goesOn_2 : List UInt8 := dkwX0_goesOn_2 ++ []
def dkwX0_goesOn_1 : List UInt8 := [182, 0, 212, 2, 172, 28, 16, 8, 108, 62, 28, 16, 8, 112, 54, 4, 43, 29, 21, 4, 42, 180, 0, 10]
abbrev dktX0_goesOn_1 : List UInt8 := dkwX0_goesOn_1 ++ dktX0_goesOn_2
def dkwX0_goesOn_0 : List UInt8 := [42, 43, 182, 0, 208, 61, 43, 89, 180, 0, 192, 4, 96, 181, 0, 192, 28, 2, 160, 0, 10, 43, 3]
abbrev dktX0_goesOn_0 : List UInt8 := dkwX0_goesOn_0 ++ dktX0_goesOn_1
theorem dksX0_goesOn_0 : cX0_goesOn.data.toList.drop 0 = dktX0_goesOn_0 := by decide +kernel
theorem dksX0_goesOn_1 : cX0_goesOn.data.toList.drop 23 = dktX0_goesOn_1 := dk_seg dksX0_goesOn_0 23 rfl rfl
theorem dksX0_goesOn_2 : cX0_goesOn.data.toList.drop 47 = dktX0_goesOn_2 := dk_seg dksX0_goesOn_1 24 rfl rfl
theorem dX0_goesOn_0 : decode cX0_goesOn 0 = .ok (.aload_n 0, 1) := dk_42 (dk_at dksX0_goesOn_0 0 rfl rfl)
theorem dX0_goesOn_1 : decode cX0_goesOn 1 = .ok (.aload_n 1, 1) := dk_43 (dk_at dksX0_goesOn_0 1 rfl rfl)
theorem dX0_goesOn_2 : decode cX0_goesOn 2 = .ok (.invokevirtual 208, 3) := dk_182 0 208 (dk_at dksX0_goesOn_0 2 rfl rfl)
theorem dX0_goesOn_5 : decode cX0_goesOn 5 = .ok (.istore_n 2, 1) := dk_61 (dk_at dksX0_goesOn_0 5 rfl rfl)
theorem dX0_goesOn_6 : decode cX0_goesOn 6 = .ok (.aload_n 1, 1) := dk_43 (dk_at dksX0_goesOn_0 6 rfl rfl)
theorem dX0_goesOn_7 : decode cX0_goesOn 7 = .ok (.dup, 1) := dk_89 (dk_at dksX0_goesOn_0 7 rfl rfl)
theorem dX0_goesOn_8 : decode cX0_goesOn 8 = .ok (.getfield 192, 3) := dk_180 0 192 (dk_at dksX0_goesOn_0 8 rfl rfl)
theorem dX0_goesOn_11 : decode cX0_goesOn 11 = .ok (.iconst 1, 1) := dk_4 (dk_at dksX0_goesOn_0 11 rfl rfl)
theorem dX0_goesOn_12 : decode cX0_goesOn 12 = .ok (.iadd, 1) := dk_96 (dk_at dksX0_goesOn_0 12 rfl rfl)
theorem dX0_goesOn_13 : decode cX0_goesOn 13 = .ok (.putfield 192, 3) := dk_181 0 192 (dk_at dksX0_goesOn_0 13 rfl rfl)
theorem dX0_goesOn_16 : decode cX0_goesOn 16 = .ok (.iload_n 2, 1) := dk_28 (dk_at dksX0_goesOn_0 16 rfl rfl)
theorem dX0_goesOn_17 : decode cX0_goesOn 17 = .ok (.iconst (-1), 1) := dk_2 (dk_at dksX0_goesOn_0 17 rfl rfl)
theorem dX0_goesOn_18 : decode cX0_goesOn 18 = .ok (.if_icmp .ne 10, 3) := dk_160 0 10 (dk_at dksX0_goesOn_0 18 rfl rfl)
theorem dX0_goesOn_21 : decode cX0_goesOn 21 = .ok (.aload_n 1, 1) := dk_43 (dk_at dksX0_goesOn_0 21 rfl rfl)
theorem dX0_goesOn_22 : decode cX0_goesOn 22 = .ok (.iconst 0, 1) := dk_3 (dk_at dksX0_goesOn_0 22 rfl rfl)
theorem dX0_goesOn_23 : decode cX0_goesOn 23 = .ok (.invokevirtual 212, 3) := dk_182 0 212 (dk_at dksX0_goesOn_1 0 rfl rfl)
theorem dX0_goesOn_26 : decode cX0_goesOn 26 = .ok (.iconst (-1), 1) := dk_2 (dk_at dksX0_goesOn_1 3 rfl rfl)
theorem dX0_goesOn_27 : decode cX0_goesOn 27 = .ok (.ireturn, 1) := dk_172 (dk_at dksX0_goesOn_1 4 rfl rfl)
theorem dX0_goesOn_28 : decode cX0_goesOn 28 = .ok (.iload_n 2, 1) := dk_28 (dk_at dksX0_goesOn_1 5 rfl rfl)
theorem dX0_goesOn_29 : decode cX0_goesOn 29 = .ok (.bipush 8, 2) := dk_16 8 (dk_at dksX0_goesOn_1 6 rfl rfl)
theorem dX0_goesOn_31 : decode cX0_goesOn 31 = .ok (.idiv, 1) := dk_108 (dk_at dksX0_goesOn_1 8 rfl rfl)
theorem dX0_goesOn_32 : decode cX0_goesOn 32 = .ok (.istore_n 3, 1) := dk_62 (dk_at dksX0_goesOn_1 9 rfl rfl)
theorem dX0_goesOn_33 : decode cX0_goesOn 33 = .ok (.iload_n 2, 1) := dk_28 (dk_at dksX0_goesOn_1 10 rfl rfl)
theorem dX0_goesOn_34 : decode cX0_goesOn 34 = .ok (.bipush 8, 2) := dk_16 8 (dk_at dksX0_goesOn_1 11 rfl rfl)
theorem dX0_goesOn_36 : decode cX0_goesOn 36 = .ok (.irem, 1) := dk_112 (dk_at dksX0_goesOn_1 13 rfl rfl)
theorem dX0_goesOn_37 : decode cX0_goesOn 37 = .ok (.istore 4, 2) := dk_54 4 (dk_at dksX0_goesOn_1 14 rfl rfl)
theorem dX0_goesOn_39 : decode cX0_goesOn 39 = .ok (.aload_n 1, 1) := dk_43 (dk_at dksX0_goesOn_1 16 rfl rfl)
theorem dX0_goesOn_40 : decode cX0_goesOn 40 = .ok (.iload_n 3, 1) := dk_29 (dk_at dksX0_goesOn_1 17 rfl rfl)
theorem dX0_goesOn_41 : decode cX0_goesOn 41 = .ok (.iload 4, 2) := dk_21 4 (dk_at dksX0_goesOn_1 18 rfl rfl)
theorem dX0_goesOn_43 : decode cX0_goesOn 43 = .ok (.aload_n 0, 1) := dk_42 (dk_at dksX0_goesOn_1 20 rfl rfl)
theorem dX0_goesOn_44 : decode cX0_goesOn 44 = .ok (.getfield 10, 3) := dk_180 0 10 (dk_at dksX0_goesOn_1 21 rfl rfl)
theorem dX0_goesOn_47 : decode cX0_goesOn 47 = .ok (.getfield 112, 3) := dk_180 0 112 (dk_at dksX0_goesOn_2 0 rfl rfl)
theorem dX0_goesOn_50 : decode cX0_goesOn 50 = .ok (.invokevirtual 215, 3) := dk_182 0 215 (dk_at dksX0_goesOn_2 3 rfl rfl)
theorem dX0_goesOn_53 : decode cX0_goesOn 53 = .ok (.pop, 1) := dk_87 (dk_at dksX0_goesOn_2 6 rfl rfl)
theorem dX0_goesOn_54 : decode cX0_goesOn 54 = .ok (.aload_n 1, 1) := dk_43 (dk_at dksX0_goesOn_2 7 rfl rfl)
theorem dX0_goesOn_55 : decode cX0_goesOn 55 = .ok (.iconst 1, 1) := dk_4 (dk_at dksX0_goesOn_2 8 rfl rfl)
theorem dX0_goesOn_56 : decode cX0_goesOn 56 = .ok (.iload_n 3, 1) := dk_29 (dk_at dksX0_goesOn_2 9 rfl rfl)
theorem dX0_goesOn_57 : decode cX0_goesOn 57 = .ok (.ishl, 1) := dk_120 (dk_at dksX0_goesOn_2 10 rfl rfl)
theorem dX0_goesOn_58 : decode cX0_goesOn 58 = .ok (.iconst 1, 1) := dk_4 (dk_at dksX0_goesOn_2 11 rfl rfl)
theorem dX0_goesOn_59 : decode cX0_goesOn 59 = .ok (.iload 4, 2) := dk_21 4 (dk_at dksX0_goesOn_2 12 rfl rfl)
theorem dX0_goesOn_61 : decode cX0_goesOn 61 = .ok (.ishl, 1) := dk_120 (dk_at dksX0_goesOn_2 14 rfl rfl)
theorem dX0_goesOn_62 : decode cX0_goesOn 62 = .ok (.ior, 1) := dk_128 (dk_at dksX0_goesOn_2 15 rfl rfl)
theorem dX0_goesOn_63 : decode cX0_goesOn 63 = .ok (.invokevirtual 212, 3) := dk_182 0 212 (dk_at dksX0_goesOn_2 16 rfl rfl)
theorem dX0_goesOn_66 : decode cX0_goesOn 66 = .ok (.iload_n 3, 1) := dk_29 (dk_at dksX0_goesOn_2 19 rfl rfl)
theorem dX0_goesOn_67 : decode cX0_goesOn 67 = .ok (.ireturn, 1) := dk_172 (dk_at dksX0_goesOn_2 20 rfl rfl)
abbrev cX0_choiceOf : ByteArray := prog_1_method_17_code
def yX0_choiceOf : MethodName := ⟨RX0, "choiceOf", "(LConkerYard$State;)I"⟩
def dkwX0_choiceOf_4 : List UInt8 := [21, 5, 61, 22, 8, 66, 132, 5, 1, 167, 255, 159, 28, 172]
abbrev dktX0_choiceOf_4 : List UInt8 := dkwX0_choiceOf_4 ++ []
def dkwX0_choiceOf_3 : List UInt8 := [167, 0, 12, 42, 43, 21, 6, 21, 7, 182, 0, 205, 55, 8, 22, 8, 33, 148, 157, 0, 6, 167, 0, 9]
abbrev dktX0_choiceOf_3 : List UInt8 := dkwX0_choiceOf_3 ++ dktX0_choiceOf_4
def dkwX0_choiceOf_2 : List UInt8 := [43, 180, 0, 127, 21, 7, 184, 0, 130, 154, 0, 6, 167, 0, 42, 42, 180, 0, 35, 2, 160, 0, 7, 10]
abbrev dktX0_choiceOf_2 : List UInt8 := dkwX0_choiceOf_2 ++ dktX0_choiceOf_3
def dkwX0_choiceOf_1 : List UInt8 := [16, 8, 112, 54, 7, 21, 6, 21, 7, 159, 0, 69, 43, 180, 0, 127, 21, 6, 184, 0, 130, 153, 0, 57]
abbrev dktX0_choiceOf_1 : List UInt8 := dkwX0_choiceOf_1 ++ dktX0_choiceOf_2
def dkwX0_choiceOf_0 : List UInt8 := [2, 61, 9, 66, 3, 54, 5, 21, 5, 16, 64, 162, 0, 96, 21, 5, 16, 8, 108, 54, 6, 21, 5]
abbrev dktX0_choiceOf_0 : List UInt8 := dkwX0_choiceOf_0 ++ dktX0_choiceOf_1
theorem dksX0_choiceOf_0 : cX0_choiceOf.data.toList.drop 0 = dktX0_choiceOf_0 := by decide +kernel
theorem dksX0_choiceOf_1 : cX0_choiceOf.data.toList.drop 23 = dktX0_choiceOf_1 := dk_seg dksX0_choiceOf_0 23 rfl rfl
theorem dksX0_choiceOf_2 : cX0_choiceOf.data.toList.drop 47 = dktX0_choiceOf_2 := dk_seg dksX0_choiceOf_1 24 rfl rfl
theorem dksX0_choiceOf_3 : cX0_choiceOf.data.toList.drop 71 = dktX0_choiceOf_3 := dk_seg dksX0_choiceOf_2 24 rfl rfl
theorem dksX0_choiceOf_4 : cX0_choiceOf.data.toList.drop 95 = dktX0_choiceOf_4 := dk_seg dksX0_choiceOf_3 24 rfl rfl
theorem dX0_choiceOf_0 : decode cX0_choiceOf 0 = .ok (.iconst (-1), 1) := dk_2 (dk_at dksX0_choiceOf_0 0 rfl rfl)
theorem dX0_choiceOf_1 : decode cX0_choiceOf 1 = .ok (.istore_n 2, 1) := dk_61 (dk_at dksX0_choiceOf_0 1 rfl rfl)
theorem dX0_choiceOf_2 : decode cX0_choiceOf 2 = .ok (.lconst 0, 1) := dk_9 (dk_at dksX0_choiceOf_0 2 rfl rfl)
theorem dX0_choiceOf_3 : decode cX0_choiceOf 3 = .ok (.lstore_n 3, 1) := dk_66 (dk_at dksX0_choiceOf_0 3 rfl rfl)
theorem dX0_choiceOf_4 : decode cX0_choiceOf 4 = .ok (.iconst 0, 1) := dk_3 (dk_at dksX0_choiceOf_0 4 rfl rfl)
theorem dX0_choiceOf_5 : decode cX0_choiceOf 5 = .ok (.istore 5, 2) := dk_54 5 (dk_at dksX0_choiceOf_0 5 rfl rfl)
theorem dX0_choiceOf_7 : decode cX0_choiceOf 7 = .ok (.iload 5, 2) := dk_21 5 (dk_at dksX0_choiceOf_0 7 rfl rfl)
theorem dX0_choiceOf_9 : decode cX0_choiceOf 9 = .ok (.bipush 64, 2) := dk_16 64 (dk_at dksX0_choiceOf_0 9 rfl rfl)
theorem dX0_choiceOf_11 : decode cX0_choiceOf 11 = .ok (.if_icmp .ge 96, 3) := dk_162 0 96 (dk_at dksX0_choiceOf_0 11 rfl rfl)
theorem dX0_choiceOf_14 : decode cX0_choiceOf 14 = .ok (.iload 5, 2) := dk_21 5 (dk_at dksX0_choiceOf_0 14 rfl rfl)
theorem dX0_choiceOf_16 : decode cX0_choiceOf 16 = .ok (.bipush 8, 2) := dk_16 8 (dk_at dksX0_choiceOf_0 16 rfl rfl)
theorem dX0_choiceOf_18 : decode cX0_choiceOf 18 = .ok (.idiv, 1) := dk_108 (dk_at dksX0_choiceOf_0 18 rfl rfl)
theorem dX0_choiceOf_19 : decode cX0_choiceOf 19 = .ok (.istore 6, 2) := dk_54 6 (dk_at dksX0_choiceOf_0 19 rfl rfl)
theorem dX0_choiceOf_21 : decode cX0_choiceOf 21 = .ok (.iload 5, 2) := dk_21 5 (dk_at dksX0_choiceOf_0 21 rfl rfl)
theorem dX0_choiceOf_23 : decode cX0_choiceOf 23 = .ok (.bipush 8, 2) := dk_16 8 (dk_at dksX0_choiceOf_1 0 rfl rfl)
theorem dX0_choiceOf_25 : decode cX0_choiceOf 25 = .ok (.irem, 1) := dk_112 (dk_at dksX0_choiceOf_1 2 rfl rfl)
theorem dX0_choiceOf_26 : decode cX0_choiceOf 26 = .ok (.istore 7, 2) := dk_54 7 (dk_at dksX0_choiceOf_1 3 rfl rfl)
theorem dX0_choiceOf_28 : decode cX0_choiceOf 28 = .ok (.iload 6, 2) := dk_21 6 (dk_at dksX0_choiceOf_1 5 rfl rfl)
theorem dX0_choiceOf_30 : decode cX0_choiceOf 30 = .ok (.iload 7, 2) := dk_21 7 (dk_at dksX0_choiceOf_1 7 rfl rfl)
theorem dX0_choiceOf_32 : decode cX0_choiceOf 32 = .ok (.if_icmp .eq 69, 3) := dk_159 0 69 (dk_at dksX0_choiceOf_1 9 rfl rfl)
theorem dX0_choiceOf_35 : decode cX0_choiceOf 35 = .ok (.aload_n 1, 1) := dk_43 (dk_at dksX0_choiceOf_1 12 rfl rfl)
theorem dX0_choiceOf_36 : decode cX0_choiceOf 36 = .ok (.getfield 127, 3) := dk_180 0 127 (dk_at dksX0_choiceOf_1 13 rfl rfl)
theorem dX0_choiceOf_39 : decode cX0_choiceOf 39 = .ok (.iload 6, 2) := dk_21 6 (dk_at dksX0_choiceOf_1 16 rfl rfl)
theorem dX0_choiceOf_41 : decode cX0_choiceOf 41 = .ok (.invokestatic 130, 3) := dk_184 0 130 (dk_at dksX0_choiceOf_1 18 rfl rfl)
theorem dX0_choiceOf_44 : decode cX0_choiceOf 44 = .ok (.ifCond .eq 57, 3) := dk_153 0 57 (dk_at dksX0_choiceOf_1 21 rfl rfl)
theorem dX0_choiceOf_47 : decode cX0_choiceOf 47 = .ok (.aload_n 1, 1) := dk_43 (dk_at dksX0_choiceOf_2 0 rfl rfl)
theorem dX0_choiceOf_48 : decode cX0_choiceOf 48 = .ok (.getfield 127, 3) := dk_180 0 127 (dk_at dksX0_choiceOf_2 1 rfl rfl)
theorem dX0_choiceOf_51 : decode cX0_choiceOf 51 = .ok (.iload 7, 2) := dk_21 7 (dk_at dksX0_choiceOf_2 4 rfl rfl)
theorem dX0_choiceOf_53 : decode cX0_choiceOf 53 = .ok (.invokestatic 130, 3) := dk_184 0 130 (dk_at dksX0_choiceOf_2 6 rfl rfl)
theorem dX0_choiceOf_56 : decode cX0_choiceOf 56 = .ok (.ifCond .ne 6, 3) := dk_154 0 6 (dk_at dksX0_choiceOf_2 9 rfl rfl)
theorem dX0_choiceOf_59 : decode cX0_choiceOf 59 = .ok (.goto 42, 3) := dk_167 0 42 (dk_at dksX0_choiceOf_2 12 rfl rfl)
theorem dX0_choiceOf_62 : decode cX0_choiceOf 62 = .ok (.aload_n 0, 1) := dk_42 (dk_at dksX0_choiceOf_2 15 rfl rfl)
theorem dX0_choiceOf_63 : decode cX0_choiceOf 63 = .ok (.getfield 35, 3) := dk_180 0 35 (dk_at dksX0_choiceOf_2 16 rfl rfl)
theorem dX0_choiceOf_66 : decode cX0_choiceOf 66 = .ok (.iconst (-1), 1) := dk_2 (dk_at dksX0_choiceOf_2 19 rfl rfl)
theorem dX0_choiceOf_67 : decode cX0_choiceOf 67 = .ok (.if_icmp .ne 7, 3) := dk_160 0 7 (dk_at dksX0_choiceOf_2 20 rfl rfl)
theorem dX0_choiceOf_70 : decode cX0_choiceOf 70 = .ok (.lconst 1, 1) := dk_10 (dk_at dksX0_choiceOf_2 23 rfl rfl)
theorem dX0_choiceOf_71 : decode cX0_choiceOf 71 = .ok (.goto 12, 3) := dk_167 0 12 (dk_at dksX0_choiceOf_3 0 rfl rfl)
theorem dX0_choiceOf_74 : decode cX0_choiceOf 74 = .ok (.aload_n 0, 1) := dk_42 (dk_at dksX0_choiceOf_3 3 rfl rfl)
theorem dX0_choiceOf_75 : decode cX0_choiceOf 75 = .ok (.aload_n 1, 1) := dk_43 (dk_at dksX0_choiceOf_3 4 rfl rfl)
theorem dX0_choiceOf_76 : decode cX0_choiceOf 76 = .ok (.iload 6, 2) := dk_21 6 (dk_at dksX0_choiceOf_3 5 rfl rfl)
theorem dX0_choiceOf_78 : decode cX0_choiceOf 78 = .ok (.iload 7, 2) := dk_21 7 (dk_at dksX0_choiceOf_3 7 rfl rfl)
theorem dX0_choiceOf_80 : decode cX0_choiceOf 80 = .ok (.invokevirtual 205, 3) := dk_182 0 205 (dk_at dksX0_choiceOf_3 9 rfl rfl)
theorem dX0_choiceOf_83 : decode cX0_choiceOf 83 = .ok (.lstore 8, 2) := dk_55 8 (dk_at dksX0_choiceOf_3 12 rfl rfl)
theorem dX0_choiceOf_85 : decode cX0_choiceOf 85 = .ok (.lload 8, 2) := dk_22 8 (dk_at dksX0_choiceOf_3 14 rfl rfl)
theorem dX0_choiceOf_87 : decode cX0_choiceOf 87 = .ok (.lload_n 3, 1) := dk_33 (dk_at dksX0_choiceOf_3 16 rfl rfl)
theorem dX0_choiceOf_88 : decode cX0_choiceOf 88 = .ok (.lcmp, 1) := dk_148 (dk_at dksX0_choiceOf_3 17 rfl rfl)
theorem dX0_choiceOf_89 : decode cX0_choiceOf 89 = .ok (.ifCond .gt 6, 3) := dk_157 0 6 (dk_at dksX0_choiceOf_3 18 rfl rfl)
theorem dX0_choiceOf_92 : decode cX0_choiceOf 92 = .ok (.goto 9, 3) := dk_167 0 9 (dk_at dksX0_choiceOf_3 21 rfl rfl)
theorem dX0_choiceOf_95 : decode cX0_choiceOf 95 = .ok (.iload 5, 2) := dk_21 5 (dk_at dksX0_choiceOf_4 0 rfl rfl)
theorem dX0_choiceOf_97 : decode cX0_choiceOf 97 = .ok (.istore_n 2, 1) := dk_61 (dk_at dksX0_choiceOf_4 2 rfl rfl)
theorem dX0_choiceOf_98 : decode cX0_choiceOf 98 = .ok (.lload 8, 2) := dk_22 8 (dk_at dksX0_choiceOf_4 3 rfl rfl)
theorem dX0_choiceOf_100 : decode cX0_choiceOf 100 = .ok (.lstore_n 3, 1) := dk_66 (dk_at dksX0_choiceOf_4 5 rfl rfl)
theorem dX0_choiceOf_101 : decode cX0_choiceOf 101 = .ok (.iinc 5 1, 3) := dk_132 5 1 (dk_at dksX0_choiceOf_4 6 rfl rfl)
theorem dX0_choiceOf_104 : decode cX0_choiceOf 104 = .ok (.goto (-97), 3) := dk_167 255 159 (dk_at dksX0_choiceOf_4 9 rfl rfl)
theorem dX0_choiceOf_107 : decode cX0_choiceOf 107 = .ok (.iload_n 2, 1) := dk_28 (dk_at dksX0_choiceOf_4 12 rfl rfl)
theorem dX0_choiceOf_108 : decode cX0_choiceOf 108 = .ok (.ireturn, 1) := dk_172 (dk_at dksX0_choiceOf_4 13 rfl rfl)
abbrev cX0_wants : ByteArray := prog_1_method_16_code
def yX0_wants : MethodName := ⟨RX0, "wants", "(LConkerYard$State;II)J"⟩
def dkwX0_wants_7 : List UInt8 := [133, 80, 42, 180, 0, 31, 42, 180, 0, 35, 182, 0, 195, 192, 0, 199, 42, 180, 0, 64, 182, 0, 201, 173]
abbrev dktX0_wants_7 : List UInt8 := dkwX0_wants_7 ++ []
def dkwX0_wants_6 : List UInt8 := [180, 0, 64, 16, 11, 42, 180, 0, 10, 180, 0, 112, 133, 80, 42, 180, 0, 64, 16, 12, 43, 180, 0, 192]
abbrev dktX0_wants_6 : List UInt8 := dkwX0_wants_6 ++ dktX0_wants_7
def dkwX0_wants_5 : List UInt8 := [180, 0, 179, 29, 46, 133, 80, 42, 180, 0, 64, 16, 10, 43, 180, 0, 127, 184, 0, 186, 133, 80, 42]
abbrev dktX0_wants_5 : List UInt8 := dkwX0_wants_5 ++ dktX0_wants_6
def dkwX0_wants_4 : List UInt8 := [46, 133, 80, 42, 180, 0, 64, 16, 8, 43, 180, 0, 176, 29, 46, 133, 80, 42, 180, 0, 64, 16, 9, 43]
abbrev dktX0_wants_4 : List UInt8 := dkwX0_wants_4 ++ dktX0_wants_5
def dkwX0_wants_3 : List UInt8 := [180, 0, 64, 16, 6, 43, 180, 0, 170, 29, 46, 133, 80, 42, 180, 0, 64, 16, 7, 43, 180, 0, 173, 29]
abbrev dktX0_wants_3 : List UInt8 := dkwX0_wants_3 ++ dktX0_wants_4
def dkwX0_wants_2 : List UInt8 := [7, 43, 180, 0, 176, 28, 46, 133, 80, 42, 180, 0, 64, 8, 43, 180, 0, 179, 28, 46, 133, 80, 42]
abbrev dktX0_wants_2 : List UInt8 := dkwX0_wants_2 ++ dktX0_wants_3
def dkwX0_wants_1 : List UInt8 := [180, 0, 170, 28, 46, 133, 80, 42, 180, 0, 64, 6, 43, 180, 0, 173, 28, 46, 133, 80, 42, 180, 0, 64]
abbrev dktX0_wants_1 : List UInt8 := dkwX0_wants_1 ++ dktX0_wants_2
def dkwX0_wants_0 : List UInt8 := [42, 180, 0, 64, 3, 28, 133, 80, 42, 180, 0, 64, 4, 29, 133, 80, 42, 180, 0, 64, 5, 43]
abbrev dktX0_wants_0 : List UInt8 := dkwX0_wants_0 ++ dktX0_wants_1
theorem dksX0_wants_0 : cX0_wants.data.toList.drop 0 = dktX0_wants_0 := by decide +kernel
theorem dksX0_wants_1 : cX0_wants.data.toList.drop 22 = dktX0_wants_1 := dk_seg dksX0_wants_0 22 rfl rfl
theorem dksX0_wants_2 : cX0_wants.data.toList.drop 46 = dktX0_wants_2 := dk_seg dksX0_wants_1 24 rfl rfl
theorem dksX0_wants_3 : cX0_wants.data.toList.drop 69 = dktX0_wants_3 := dk_seg dksX0_wants_2 23 rfl rfl
theorem dksX0_wants_4 : cX0_wants.data.toList.drop 93 = dktX0_wants_4 := dk_seg dksX0_wants_3 24 rfl rfl
theorem dksX0_wants_5 : cX0_wants.data.toList.drop 117 = dktX0_wants_5 := dk_seg dksX0_wants_4 24 rfl rfl
theorem dksX0_wants_6 : cX0_wants.data.toList.drop 140 = dktX0_wants_6 := dk_seg dksX0_wants_5 23 rfl rfl
theorem dksX0_wants_7 : cX0_wants.data.toList.drop 164 = dktX0_wants_7 := dk_seg dksX0_wants_6 24 rfl rfl
theorem dX0_wants_0 : decode cX0_wants 0 = .ok (.aload_n 0, 1) := dk_42 (dk_at dksX0_wants_0 0 rfl rfl)
theorem dX0_wants_1 : decode cX0_wants 1 = .ok (.getfield 64, 3) := dk_180 0 64 (dk_at dksX0_wants_0 1 rfl rfl)
theorem dX0_wants_4 : decode cX0_wants 4 = .ok (.iconst 0, 1) := dk_3 (dk_at dksX0_wants_0 4 rfl rfl)
theorem dX0_wants_5 : decode cX0_wants 5 = .ok (.iload_n 2, 1) := dk_28 (dk_at dksX0_wants_0 5 rfl rfl)
theorem dX0_wants_6 : decode cX0_wants 6 = .ok (.i2l, 1) := dk_133 (dk_at dksX0_wants_0 6 rfl rfl)
theorem dX0_wants_7 : decode cX0_wants 7 = .ok (.lastore, 1) := dk_80 (dk_at dksX0_wants_0 7 rfl rfl)
theorem dX0_wants_8 : decode cX0_wants 8 = .ok (.aload_n 0, 1) := dk_42 (dk_at dksX0_wants_0 8 rfl rfl)
theorem dX0_wants_9 : decode cX0_wants 9 = .ok (.getfield 64, 3) := dk_180 0 64 (dk_at dksX0_wants_0 9 rfl rfl)
theorem dX0_wants_12 : decode cX0_wants 12 = .ok (.iconst 1, 1) := dk_4 (dk_at dksX0_wants_0 12 rfl rfl)
theorem dX0_wants_13 : decode cX0_wants 13 = .ok (.iload_n 3, 1) := dk_29 (dk_at dksX0_wants_0 13 rfl rfl)
theorem dX0_wants_14 : decode cX0_wants 14 = .ok (.i2l, 1) := dk_133 (dk_at dksX0_wants_0 14 rfl rfl)
theorem dX0_wants_15 : decode cX0_wants 15 = .ok (.lastore, 1) := dk_80 (dk_at dksX0_wants_0 15 rfl rfl)
theorem dX0_wants_16 : decode cX0_wants 16 = .ok (.aload_n 0, 1) := dk_42 (dk_at dksX0_wants_0 16 rfl rfl)
theorem dX0_wants_17 : decode cX0_wants 17 = .ok (.getfield 64, 3) := dk_180 0 64 (dk_at dksX0_wants_0 17 rfl rfl)
theorem dX0_wants_20 : decode cX0_wants 20 = .ok (.iconst 2, 1) := dk_5 (dk_at dksX0_wants_0 20 rfl rfl)
theorem dX0_wants_21 : decode cX0_wants 21 = .ok (.aload_n 1, 1) := dk_43 (dk_at dksX0_wants_0 21 rfl rfl)
theorem dX0_wants_22 : decode cX0_wants 22 = .ok (.getfield 170, 3) := dk_180 0 170 (dk_at dksX0_wants_1 0 rfl rfl)
theorem dX0_wants_25 : decode cX0_wants 25 = .ok (.iload_n 2, 1) := dk_28 (dk_at dksX0_wants_1 3 rfl rfl)
theorem dX0_wants_26 : decode cX0_wants 26 = .ok (.iaload, 1) := dk_46 (dk_at dksX0_wants_1 4 rfl rfl)
theorem dX0_wants_27 : decode cX0_wants 27 = .ok (.i2l, 1) := dk_133 (dk_at dksX0_wants_1 5 rfl rfl)
theorem dX0_wants_28 : decode cX0_wants 28 = .ok (.lastore, 1) := dk_80 (dk_at dksX0_wants_1 6 rfl rfl)
theorem dX0_wants_29 : decode cX0_wants 29 = .ok (.aload_n 0, 1) := dk_42 (dk_at dksX0_wants_1 7 rfl rfl)
theorem dX0_wants_30 : decode cX0_wants 30 = .ok (.getfield 64, 3) := dk_180 0 64 (dk_at dksX0_wants_1 8 rfl rfl)
theorem dX0_wants_33 : decode cX0_wants 33 = .ok (.iconst 3, 1) := dk_6 (dk_at dksX0_wants_1 11 rfl rfl)
theorem dX0_wants_34 : decode cX0_wants 34 = .ok (.aload_n 1, 1) := dk_43 (dk_at dksX0_wants_1 12 rfl rfl)
theorem dX0_wants_35 : decode cX0_wants 35 = .ok (.getfield 173, 3) := dk_180 0 173 (dk_at dksX0_wants_1 13 rfl rfl)
theorem dX0_wants_38 : decode cX0_wants 38 = .ok (.iload_n 2, 1) := dk_28 (dk_at dksX0_wants_1 16 rfl rfl)
theorem dX0_wants_39 : decode cX0_wants 39 = .ok (.iaload, 1) := dk_46 (dk_at dksX0_wants_1 17 rfl rfl)
theorem dX0_wants_40 : decode cX0_wants 40 = .ok (.i2l, 1) := dk_133 (dk_at dksX0_wants_1 18 rfl rfl)
theorem dX0_wants_41 : decode cX0_wants 41 = .ok (.lastore, 1) := dk_80 (dk_at dksX0_wants_1 19 rfl rfl)
theorem dX0_wants_42 : decode cX0_wants 42 = .ok (.aload_n 0, 1) := dk_42 (dk_at dksX0_wants_1 20 rfl rfl)
theorem dX0_wants_43 : decode cX0_wants 43 = .ok (.getfield 64, 3) := dk_180 0 64 (dk_at dksX0_wants_1 21 rfl rfl)
theorem dX0_wants_46 : decode cX0_wants 46 = .ok (.iconst 4, 1) := dk_7 (dk_at dksX0_wants_2 0 rfl rfl)
theorem dX0_wants_47 : decode cX0_wants 47 = .ok (.aload_n 1, 1) := dk_43 (dk_at dksX0_wants_2 1 rfl rfl)
theorem dX0_wants_48 : decode cX0_wants 48 = .ok (.getfield 176, 3) := dk_180 0 176 (dk_at dksX0_wants_2 2 rfl rfl)
theorem dX0_wants_51 : decode cX0_wants 51 = .ok (.iload_n 2, 1) := dk_28 (dk_at dksX0_wants_2 5 rfl rfl)
theorem dX0_wants_52 : decode cX0_wants 52 = .ok (.iaload, 1) := dk_46 (dk_at dksX0_wants_2 6 rfl rfl)
theorem dX0_wants_53 : decode cX0_wants 53 = .ok (.i2l, 1) := dk_133 (dk_at dksX0_wants_2 7 rfl rfl)
theorem dX0_wants_54 : decode cX0_wants 54 = .ok (.lastore, 1) := dk_80 (dk_at dksX0_wants_2 8 rfl rfl)
theorem dX0_wants_55 : decode cX0_wants 55 = .ok (.aload_n 0, 1) := dk_42 (dk_at dksX0_wants_2 9 rfl rfl)
theorem dX0_wants_56 : decode cX0_wants 56 = .ok (.getfield 64, 3) := dk_180 0 64 (dk_at dksX0_wants_2 10 rfl rfl)
theorem dX0_wants_59 : decode cX0_wants 59 = .ok (.iconst 5, 1) := dk_8 (dk_at dksX0_wants_2 13 rfl rfl)
theorem dX0_wants_60 : decode cX0_wants 60 = .ok (.aload_n 1, 1) := dk_43 (dk_at dksX0_wants_2 14 rfl rfl)
theorem dX0_wants_61 : decode cX0_wants 61 = .ok (.getfield 179, 3) := dk_180 0 179 (dk_at dksX0_wants_2 15 rfl rfl)
theorem dX0_wants_64 : decode cX0_wants 64 = .ok (.iload_n 2, 1) := dk_28 (dk_at dksX0_wants_2 18 rfl rfl)
theorem dX0_wants_65 : decode cX0_wants 65 = .ok (.iaload, 1) := dk_46 (dk_at dksX0_wants_2 19 rfl rfl)
theorem dX0_wants_66 : decode cX0_wants 66 = .ok (.i2l, 1) := dk_133 (dk_at dksX0_wants_2 20 rfl rfl)
theorem dX0_wants_67 : decode cX0_wants 67 = .ok (.lastore, 1) := dk_80 (dk_at dksX0_wants_2 21 rfl rfl)
theorem dX0_wants_68 : decode cX0_wants 68 = .ok (.aload_n 0, 1) := dk_42 (dk_at dksX0_wants_2 22 rfl rfl)
theorem dX0_wants_69 : decode cX0_wants 69 = .ok (.getfield 64, 3) := dk_180 0 64 (dk_at dksX0_wants_3 0 rfl rfl)
theorem dX0_wants_72 : decode cX0_wants 72 = .ok (.bipush 6, 2) := dk_16 6 (dk_at dksX0_wants_3 3 rfl rfl)
theorem dX0_wants_74 : decode cX0_wants 74 = .ok (.aload_n 1, 1) := dk_43 (dk_at dksX0_wants_3 5 rfl rfl)
theorem dX0_wants_75 : decode cX0_wants 75 = .ok (.getfield 170, 3) := dk_180 0 170 (dk_at dksX0_wants_3 6 rfl rfl)
theorem dX0_wants_78 : decode cX0_wants 78 = .ok (.iload_n 3, 1) := dk_29 (dk_at dksX0_wants_3 9 rfl rfl)
theorem dX0_wants_79 : decode cX0_wants 79 = .ok (.iaload, 1) := dk_46 (dk_at dksX0_wants_3 10 rfl rfl)
theorem dX0_wants_80 : decode cX0_wants 80 = .ok (.i2l, 1) := dk_133 (dk_at dksX0_wants_3 11 rfl rfl)
theorem dX0_wants_81 : decode cX0_wants 81 = .ok (.lastore, 1) := dk_80 (dk_at dksX0_wants_3 12 rfl rfl)
theorem dX0_wants_82 : decode cX0_wants 82 = .ok (.aload_n 0, 1) := dk_42 (dk_at dksX0_wants_3 13 rfl rfl)
theorem dX0_wants_83 : decode cX0_wants 83 = .ok (.getfield 64, 3) := dk_180 0 64 (dk_at dksX0_wants_3 14 rfl rfl)
theorem dX0_wants_86 : decode cX0_wants 86 = .ok (.bipush 7, 2) := dk_16 7 (dk_at dksX0_wants_3 17 rfl rfl)
theorem dX0_wants_88 : decode cX0_wants 88 = .ok (.aload_n 1, 1) := dk_43 (dk_at dksX0_wants_3 19 rfl rfl)
theorem dX0_wants_89 : decode cX0_wants 89 = .ok (.getfield 173, 3) := dk_180 0 173 (dk_at dksX0_wants_3 20 rfl rfl)
theorem dX0_wants_92 : decode cX0_wants 92 = .ok (.iload_n 3, 1) := dk_29 (dk_at dksX0_wants_3 23 rfl rfl)
theorem dX0_wants_93 : decode cX0_wants 93 = .ok (.iaload, 1) := dk_46 (dk_at dksX0_wants_4 0 rfl rfl)
theorem dX0_wants_94 : decode cX0_wants 94 = .ok (.i2l, 1) := dk_133 (dk_at dksX0_wants_4 1 rfl rfl)
theorem dX0_wants_95 : decode cX0_wants 95 = .ok (.lastore, 1) := dk_80 (dk_at dksX0_wants_4 2 rfl rfl)
theorem dX0_wants_96 : decode cX0_wants 96 = .ok (.aload_n 0, 1) := dk_42 (dk_at dksX0_wants_4 3 rfl rfl)
theorem dX0_wants_97 : decode cX0_wants 97 = .ok (.getfield 64, 3) := dk_180 0 64 (dk_at dksX0_wants_4 4 rfl rfl)
theorem dX0_wants_100 : decode cX0_wants 100 = .ok (.bipush 8, 2) := dk_16 8 (dk_at dksX0_wants_4 7 rfl rfl)
theorem dX0_wants_102 : decode cX0_wants 102 = .ok (.aload_n 1, 1) := dk_43 (dk_at dksX0_wants_4 9 rfl rfl)
theorem dX0_wants_103 : decode cX0_wants 103 = .ok (.getfield 176, 3) := dk_180 0 176 (dk_at dksX0_wants_4 10 rfl rfl)
theorem dX0_wants_106 : decode cX0_wants 106 = .ok (.iload_n 3, 1) := dk_29 (dk_at dksX0_wants_4 13 rfl rfl)
theorem dX0_wants_107 : decode cX0_wants 107 = .ok (.iaload, 1) := dk_46 (dk_at dksX0_wants_4 14 rfl rfl)
theorem dX0_wants_108 : decode cX0_wants 108 = .ok (.i2l, 1) := dk_133 (dk_at dksX0_wants_4 15 rfl rfl)
theorem dX0_wants_109 : decode cX0_wants 109 = .ok (.lastore, 1) := dk_80 (dk_at dksX0_wants_4 16 rfl rfl)
theorem dX0_wants_110 : decode cX0_wants 110 = .ok (.aload_n 0, 1) := dk_42 (dk_at dksX0_wants_4 17 rfl rfl)
theorem dX0_wants_111 : decode cX0_wants 111 = .ok (.getfield 64, 3) := dk_180 0 64 (dk_at dksX0_wants_4 18 rfl rfl)
theorem dX0_wants_114 : decode cX0_wants 114 = .ok (.bipush 9, 2) := dk_16 9 (dk_at dksX0_wants_4 21 rfl rfl)
theorem dX0_wants_116 : decode cX0_wants 116 = .ok (.aload_n 1, 1) := dk_43 (dk_at dksX0_wants_4 23 rfl rfl)
theorem dX0_wants_117 : decode cX0_wants 117 = .ok (.getfield 179, 3) := dk_180 0 179 (dk_at dksX0_wants_5 0 rfl rfl)
theorem dX0_wants_120 : decode cX0_wants 120 = .ok (.iload_n 3, 1) := dk_29 (dk_at dksX0_wants_5 3 rfl rfl)
theorem dX0_wants_121 : decode cX0_wants 121 = .ok (.iaload, 1) := dk_46 (dk_at dksX0_wants_5 4 rfl rfl)
theorem dX0_wants_122 : decode cX0_wants 122 = .ok (.i2l, 1) := dk_133 (dk_at dksX0_wants_5 5 rfl rfl)
theorem dX0_wants_123 : decode cX0_wants 123 = .ok (.lastore, 1) := dk_80 (dk_at dksX0_wants_5 6 rfl rfl)
theorem dX0_wants_124 : decode cX0_wants 124 = .ok (.aload_n 0, 1) := dk_42 (dk_at dksX0_wants_5 7 rfl rfl)
theorem dX0_wants_125 : decode cX0_wants 125 = .ok (.getfield 64, 3) := dk_180 0 64 (dk_at dksX0_wants_5 8 rfl rfl)
theorem dX0_wants_128 : decode cX0_wants 128 = .ok (.bipush 10, 2) := dk_16 10 (dk_at dksX0_wants_5 11 rfl rfl)
theorem dX0_wants_130 : decode cX0_wants 130 = .ok (.aload_n 1, 1) := dk_43 (dk_at dksX0_wants_5 13 rfl rfl)
theorem dX0_wants_131 : decode cX0_wants 131 = .ok (.getfield 127, 3) := dk_180 0 127 (dk_at dksX0_wants_5 14 rfl rfl)
theorem dX0_wants_134 : decode cX0_wants 134 = .ok (.invokestatic 186, 3) := dk_184 0 186 (dk_at dksX0_wants_5 17 rfl rfl)
theorem dX0_wants_137 : decode cX0_wants 137 = .ok (.i2l, 1) := dk_133 (dk_at dksX0_wants_5 20 rfl rfl)
theorem dX0_wants_138 : decode cX0_wants 138 = .ok (.lastore, 1) := dk_80 (dk_at dksX0_wants_5 21 rfl rfl)
theorem dX0_wants_139 : decode cX0_wants 139 = .ok (.aload_n 0, 1) := dk_42 (dk_at dksX0_wants_5 22 rfl rfl)
theorem dX0_wants_140 : decode cX0_wants 140 = .ok (.getfield 64, 3) := dk_180 0 64 (dk_at dksX0_wants_6 0 rfl rfl)
theorem dX0_wants_143 : decode cX0_wants 143 = .ok (.bipush 11, 2) := dk_16 11 (dk_at dksX0_wants_6 3 rfl rfl)
theorem dX0_wants_145 : decode cX0_wants 145 = .ok (.aload_n 0, 1) := dk_42 (dk_at dksX0_wants_6 5 rfl rfl)
theorem dX0_wants_146 : decode cX0_wants 146 = .ok (.getfield 10, 3) := dk_180 0 10 (dk_at dksX0_wants_6 6 rfl rfl)
theorem dX0_wants_149 : decode cX0_wants 149 = .ok (.getfield 112, 3) := dk_180 0 112 (dk_at dksX0_wants_6 9 rfl rfl)
theorem dX0_wants_152 : decode cX0_wants 152 = .ok (.i2l, 1) := dk_133 (dk_at dksX0_wants_6 12 rfl rfl)
theorem dX0_wants_153 : decode cX0_wants 153 = .ok (.lastore, 1) := dk_80 (dk_at dksX0_wants_6 13 rfl rfl)
theorem dX0_wants_154 : decode cX0_wants 154 = .ok (.aload_n 0, 1) := dk_42 (dk_at dksX0_wants_6 14 rfl rfl)
theorem dX0_wants_155 : decode cX0_wants 155 = .ok (.getfield 64, 3) := dk_180 0 64 (dk_at dksX0_wants_6 15 rfl rfl)
theorem dX0_wants_158 : decode cX0_wants 158 = .ok (.bipush 12, 2) := dk_16 12 (dk_at dksX0_wants_6 18 rfl rfl)
theorem dX0_wants_160 : decode cX0_wants 160 = .ok (.aload_n 1, 1) := dk_43 (dk_at dksX0_wants_6 20 rfl rfl)
theorem dX0_wants_161 : decode cX0_wants 161 = .ok (.getfield 192, 3) := dk_180 0 192 (dk_at dksX0_wants_6 21 rfl rfl)
theorem dX0_wants_164 : decode cX0_wants 164 = .ok (.i2l, 1) := dk_133 (dk_at dksX0_wants_7 0 rfl rfl)
theorem dX0_wants_165 : decode cX0_wants 165 = .ok (.lastore, 1) := dk_80 (dk_at dksX0_wants_7 1 rfl rfl)
theorem dX0_wants_166 : decode cX0_wants 166 = .ok (.aload_n 0, 1) := dk_42 (dk_at dksX0_wants_7 2 rfl rfl)
theorem dX0_wants_167 : decode cX0_wants 167 = .ok (.getfield 31, 3) := dk_180 0 31 (dk_at dksX0_wants_7 3 rfl rfl)
theorem dX0_wants_170 : decode cX0_wants 170 = .ok (.aload_n 0, 1) := dk_42 (dk_at dksX0_wants_7 6 rfl rfl)
theorem dX0_wants_171 : decode cX0_wants 171 = .ok (.getfield 35, 3) := dk_180 0 35 (dk_at dksX0_wants_7 7 rfl rfl)
theorem dX0_wants_174 : decode cX0_wants 174 = .ok (.invokevirtual 195, 3) := dk_182 0 195 (dk_at dksX0_wants_7 10 rfl rfl)
theorem dX0_wants_177 : decode cX0_wants 177 = .ok (.checkcast 199, 3) := dk_192 0 199 (dk_at dksX0_wants_7 13 rfl rfl)
theorem dX0_wants_180 : decode cX0_wants 180 = .ok (.aload_n 0, 1) := dk_42 (dk_at dksX0_wants_7 16 rfl rfl)
theorem dX0_wants_181 : decode cX0_wants 181 = .ok (.getfield 64, 3) := dk_180 0 64 (dk_at dksX0_wants_7 17 rfl rfl)
theorem dX0_wants_184 : decode cX0_wants 184 = .ok (.invokevirtual 201, 3) := dk_182 0 201 (dk_at dksX0_wants_7 20 rfl rfl)
theorem dX0_wants_187 : decode cX0_wants 187 = .ok (.lreturn, 1) := dk_173 (dk_at dksX0_wants_7 23 rfl rfl)
abbrev cX0_bout : ByteArray := prog_1_method_24_code
def yX0_bout : MethodName := ⟨RX0, "bout", "(II)I"⟩
def dkwX0_bout_2 : List UInt8 := [160, 0, 8, 16, 254, 167, 0, 4, 29, 172]
abbrev dktX0_bout_2 : List UInt8 := dkwX0_bout_2 ++ []
def dkwX0_bout_1 : List UInt8 := [182, 0, 239, 42, 180, 0, 19, 27, 28, 42, 180, 0, 10, 180, 0, 112, 182, 0, 215, 62, 29, 2]
abbrev dktX0_bout_1 : List UInt8 := dkwX0_bout_1 ++ dktX0_bout_2
def dkwX0_bout_0 : List UInt8 := [42, 27, 182, 0, 242, 153, 0, 16, 42, 28, 182, 0, 242, 153, 0, 8, 27, 28, 160, 0, 5, 2, 172, 42]
abbrev dktX0_bout_0 : List UInt8 := dkwX0_bout_0 ++ dktX0_bout_1
theorem dksX0_bout_0 : cX0_bout.data.toList.drop 0 = dktX0_bout_0 := by decide +kernel
theorem dksX0_bout_1 : cX0_bout.data.toList.drop 24 = dktX0_bout_1 := dk_seg dksX0_bout_0 24 rfl rfl
theorem dksX0_bout_2 : cX0_bout.data.toList.drop 46 = dktX0_bout_2 := dk_seg dksX0_bout_1 22 rfl rfl
theorem dX0_bout_0 : decode cX0_bout 0 = .ok (.aload_n 0, 1) := dk_42 (dk_at dksX0_bout_0 0 rfl rfl)
theorem dX0_bout_1 : decode cX0_bout 1 = .ok (.iload_n 1, 1) := dk_27 (dk_at dksX0_bout_0 1 rfl rfl)
theorem dX0_bout_2 : decode cX0_bout 2 = .ok (.invokevirtual 242, 3) := dk_182 0 242 (dk_at dksX0_bout_0 2 rfl rfl)
theorem dX0_bout_5 : decode cX0_bout 5 = .ok (.ifCond .eq 16, 3) := dk_153 0 16 (dk_at dksX0_bout_0 5 rfl rfl)
theorem dX0_bout_8 : decode cX0_bout 8 = .ok (.aload_n 0, 1) := dk_42 (dk_at dksX0_bout_0 8 rfl rfl)
theorem dX0_bout_9 : decode cX0_bout 9 = .ok (.iload_n 2, 1) := dk_28 (dk_at dksX0_bout_0 9 rfl rfl)
theorem dX0_bout_10 : decode cX0_bout 10 = .ok (.invokevirtual 242, 3) := dk_182 0 242 (dk_at dksX0_bout_0 10 rfl rfl)
theorem dX0_bout_13 : decode cX0_bout 13 = .ok (.ifCond .eq 8, 3) := dk_153 0 8 (dk_at dksX0_bout_0 13 rfl rfl)
theorem dX0_bout_16 : decode cX0_bout 16 = .ok (.iload_n 1, 1) := dk_27 (dk_at dksX0_bout_0 16 rfl rfl)
theorem dX0_bout_17 : decode cX0_bout 17 = .ok (.iload_n 2, 1) := dk_28 (dk_at dksX0_bout_0 17 rfl rfl)
theorem dX0_bout_18 : decode cX0_bout 18 = .ok (.if_icmp .ne 5, 3) := dk_160 0 5 (dk_at dksX0_bout_0 18 rfl rfl)
theorem dX0_bout_21 : decode cX0_bout 21 = .ok (.iconst (-1), 1) := dk_2 (dk_at dksX0_bout_0 21 rfl rfl)
theorem dX0_bout_22 : decode cX0_bout 22 = .ok (.ireturn, 1) := dk_172 (dk_at dksX0_bout_0 22 rfl rfl)
theorem dX0_bout_23 : decode cX0_bout 23 = .ok (.aload_n 0, 1) := dk_42 (dk_at dksX0_bout_0 23 rfl rfl)
theorem dX0_bout_24 : decode cX0_bout 24 = .ok (.invokevirtual 239, 3) := dk_182 0 239 (dk_at dksX0_bout_1 0 rfl rfl)
theorem dX0_bout_27 : decode cX0_bout 27 = .ok (.aload_n 0, 1) := dk_42 (dk_at dksX0_bout_1 3 rfl rfl)
theorem dX0_bout_28 : decode cX0_bout 28 = .ok (.getfield 19, 3) := dk_180 0 19 (dk_at dksX0_bout_1 4 rfl rfl)
theorem dX0_bout_31 : decode cX0_bout 31 = .ok (.iload_n 1, 1) := dk_27 (dk_at dksX0_bout_1 7 rfl rfl)
theorem dX0_bout_32 : decode cX0_bout 32 = .ok (.iload_n 2, 1) := dk_28 (dk_at dksX0_bout_1 8 rfl rfl)
theorem dX0_bout_33 : decode cX0_bout 33 = .ok (.aload_n 0, 1) := dk_42 (dk_at dksX0_bout_1 9 rfl rfl)
theorem dX0_bout_34 : decode cX0_bout 34 = .ok (.getfield 10, 3) := dk_180 0 10 (dk_at dksX0_bout_1 10 rfl rfl)
theorem dX0_bout_37 : decode cX0_bout 37 = .ok (.getfield 112, 3) := dk_180 0 112 (dk_at dksX0_bout_1 13 rfl rfl)
theorem dX0_bout_40 : decode cX0_bout 40 = .ok (.invokevirtual 215, 3) := dk_182 0 215 (dk_at dksX0_bout_1 16 rfl rfl)
theorem dX0_bout_43 : decode cX0_bout 43 = .ok (.istore_n 3, 1) := dk_62 (dk_at dksX0_bout_1 19 rfl rfl)
theorem dX0_bout_44 : decode cX0_bout 44 = .ok (.iload_n 3, 1) := dk_29 (dk_at dksX0_bout_1 20 rfl rfl)
theorem dX0_bout_45 : decode cX0_bout 45 = .ok (.iconst (-1), 1) := dk_2 (dk_at dksX0_bout_1 21 rfl rfl)
theorem dX0_bout_46 : decode cX0_bout 46 = .ok (.if_icmp .ne 8, 3) := dk_160 0 8 (dk_at dksX0_bout_2 0 rfl rfl)
theorem dX0_bout_49 : decode cX0_bout 49 = .ok (.bipush (-2), 2) := dk_16 254 (dk_at dksX0_bout_2 3 rfl rfl)
theorem dX0_bout_51 : decode cX0_bout 51 = .ok (.goto 4, 3) := dk_167 0 4 (dk_at dksX0_bout_2 5 rfl rfl)
theorem dX0_bout_54 : decode cX0_bout 54 = .ok (.iload_n 3, 1) := dk_29 (dk_at dksX0_bout_2 8 rfl rfl)
theorem dX0_bout_55 : decode cX0_bout 55 = .ok (.ireturn, 1) := dk_172 (dk_at dksX0_bout_2 9 rfl rfl)
abbrev cX0_isWhole : ByteArray := prog_1_method_7_code
def yX0_isWhole : MethodName := ⟨RX0, "isWhole", "(I)Z"⟩
def dkwX0_isWhole_1 : List UInt8 := [167, 0, 4, 3, 172]
abbrev dktX0_isWhole_1 : List UInt8 := dkwX0_isWhole_1 ++ []
def dkwX0_isWhole_0 : List UInt8 := [42, 27, 182, 0, 123, 153, 0, 21, 42, 180, 0, 19, 180, 0, 127, 27, 184, 0, 130, 153, 0, 7, 4]
abbrev dktX0_isWhole_0 : List UInt8 := dkwX0_isWhole_0 ++ dktX0_isWhole_1
theorem dksX0_isWhole_0 : cX0_isWhole.data.toList.drop 0 = dktX0_isWhole_0 := by decide +kernel
theorem dksX0_isWhole_1 : cX0_isWhole.data.toList.drop 23 = dktX0_isWhole_1 := dk_seg dksX0_isWhole_0 23 rfl rfl
theorem dX0_isWhole_0 : decode cX0_isWhole 0 = .ok (.aload_n 0, 1) := dk_42 (dk_at dksX0_isWhole_0 0 rfl rfl)
theorem dX0_isWhole_1 : decode cX0_isWhole 1 = .ok (.iload_n 1, 1) := dk_27 (dk_at dksX0_isWhole_0 1 rfl rfl)
theorem dX0_isWhole_2 : decode cX0_isWhole 2 = .ok (.invokevirtual 123, 3) := dk_182 0 123 (dk_at dksX0_isWhole_0 2 rfl rfl)
theorem dX0_isWhole_5 : decode cX0_isWhole 5 = .ok (.ifCond .eq 21, 3) := dk_153 0 21 (dk_at dksX0_isWhole_0 5 rfl rfl)
theorem dX0_isWhole_8 : decode cX0_isWhole 8 = .ok (.aload_n 0, 1) := dk_42 (dk_at dksX0_isWhole_0 8 rfl rfl)
theorem dX0_isWhole_9 : decode cX0_isWhole 9 = .ok (.getfield 19, 3) := dk_180 0 19 (dk_at dksX0_isWhole_0 9 rfl rfl)
theorem dX0_isWhole_12 : decode cX0_isWhole 12 = .ok (.getfield 127, 3) := dk_180 0 127 (dk_at dksX0_isWhole_0 12 rfl rfl)
theorem dX0_isWhole_15 : decode cX0_isWhole 15 = .ok (.iload_n 1, 1) := dk_27 (dk_at dksX0_isWhole_0 15 rfl rfl)
theorem dX0_isWhole_16 : decode cX0_isWhole 16 = .ok (.invokestatic 130, 3) := dk_184 0 130 (dk_at dksX0_isWhole_0 16 rfl rfl)
theorem dX0_isWhole_19 : decode cX0_isWhole 19 = .ok (.ifCond .eq 7, 3) := dk_153 0 7 (dk_at dksX0_isWhole_0 19 rfl rfl)
theorem dX0_isWhole_22 : decode cX0_isWhole 22 = .ok (.iconst 1, 1) := dk_4 (dk_at dksX0_isWhole_0 22 rfl rfl)
theorem dX0_isWhole_23 : decode cX0_isWhole 23 = .ok (.goto 4, 3) := dk_167 0 4 (dk_at dksX0_isWhole_1 0 rfl rfl)
theorem dX0_isWhole_26 : decode cX0_isWhole 26 = .ok (.iconst 0, 1) := dk_3 (dk_at dksX0_isWhole_1 3 rfl rfl)
theorem dX0_isWhole_27 : decode cX0_isWhole 27 = .ok (.ireturn, 1) := dk_172 (dk_at dksX0_isWhole_1 4 rfl rfl)
abbrev cX0_pickle : ByteArray := prog_1_method_25_code
def yX0_pickle : MethodName := ⟨RX0, "pickle", "(II)I"⟩
def dkwX0_pickle_1 : List UInt8 := [182, 0, 239, 42, 180, 0, 19, 27, 28, 182, 0, 247, 42, 180, 0, 19, 180, 0, 170, 27, 46, 172]
abbrev dktX0_pickle_1 : List UInt8 := dkwX0_pickle_1 ++ []
def dkwX0_pickle_0 : List UInt8 := [42, 27, 182, 0, 242, 153, 0, 15, 28, 133, 10, 20, 0, 245, 184, 0, 119, 154, 0, 5, 2, 172, 42]
abbrev dktX0_pickle_0 : List UInt8 := dkwX0_pickle_0 ++ dktX0_pickle_1
theorem dksX0_pickle_0 : cX0_pickle.data.toList.drop 0 = dktX0_pickle_0 := by decide +kernel
theorem dksX0_pickle_1 : cX0_pickle.data.toList.drop 23 = dktX0_pickle_1 := dk_seg dksX0_pickle_0 23 rfl rfl
theorem dX0_pickle_0 : decode cX0_pickle 0 = .ok (.aload_n 0, 1) := dk_42 (dk_at dksX0_pickle_0 0 rfl rfl)
theorem dX0_pickle_1 : decode cX0_pickle 1 = .ok (.iload_n 1, 1) := dk_27 (dk_at dksX0_pickle_0 1 rfl rfl)
theorem dX0_pickle_2 : decode cX0_pickle 2 = .ok (.invokevirtual 242, 3) := dk_182 0 242 (dk_at dksX0_pickle_0 2 rfl rfl)
theorem dX0_pickle_5 : decode cX0_pickle 5 = .ok (.ifCond .eq 15, 3) := dk_153 0 15 (dk_at dksX0_pickle_0 5 rfl rfl)
theorem dX0_pickle_8 : decode cX0_pickle 8 = .ok (.iload_n 2, 1) := dk_28 (dk_at dksX0_pickle_0 8 rfl rfl)
theorem dX0_pickle_9 : decode cX0_pickle 9 = .ok (.i2l, 1) := dk_133 (dk_at dksX0_pickle_0 9 rfl rfl)
theorem dX0_pickle_10 : decode cX0_pickle 10 = .ok (.lconst 1, 1) := dk_10 (dk_at dksX0_pickle_0 10 rfl rfl)
theorem dX0_pickle_11 : decode cX0_pickle 11 = .ok (.ldc2_w 245, 3) := dk_20 0 245 (dk_at dksX0_pickle_0 11 rfl rfl)
theorem dX0_pickle_14 : decode cX0_pickle 14 = .ok (.invokestatic 119, 3) := dk_184 0 119 (dk_at dksX0_pickle_0 14 rfl rfl)
theorem dX0_pickle_17 : decode cX0_pickle 17 = .ok (.ifCond .ne 5, 3) := dk_154 0 5 (dk_at dksX0_pickle_0 17 rfl rfl)
theorem dX0_pickle_20 : decode cX0_pickle 20 = .ok (.iconst (-1), 1) := dk_2 (dk_at dksX0_pickle_0 20 rfl rfl)
theorem dX0_pickle_21 : decode cX0_pickle 21 = .ok (.ireturn, 1) := dk_172 (dk_at dksX0_pickle_0 21 rfl rfl)
theorem dX0_pickle_22 : decode cX0_pickle 22 = .ok (.aload_n 0, 1) := dk_42 (dk_at dksX0_pickle_0 22 rfl rfl)
theorem dX0_pickle_23 : decode cX0_pickle 23 = .ok (.invokevirtual 239, 3) := dk_182 0 239 (dk_at dksX0_pickle_1 0 rfl rfl)
theorem dX0_pickle_26 : decode cX0_pickle 26 = .ok (.aload_n 0, 1) := dk_42 (dk_at dksX0_pickle_1 3 rfl rfl)
theorem dX0_pickle_27 : decode cX0_pickle 27 = .ok (.getfield 19, 3) := dk_180 0 19 (dk_at dksX0_pickle_1 4 rfl rfl)
theorem dX0_pickle_30 : decode cX0_pickle 30 = .ok (.iload_n 1, 1) := dk_27 (dk_at dksX0_pickle_1 7 rfl rfl)
theorem dX0_pickle_31 : decode cX0_pickle 31 = .ok (.iload_n 2, 1) := dk_28 (dk_at dksX0_pickle_1 8 rfl rfl)
theorem dX0_pickle_32 : decode cX0_pickle 32 = .ok (.invokevirtual 247, 3) := dk_182 0 247 (dk_at dksX0_pickle_1 9 rfl rfl)
theorem dX0_pickle_35 : decode cX0_pickle 35 = .ok (.aload_n 0, 1) := dk_42 (dk_at dksX0_pickle_1 12 rfl rfl)
theorem dX0_pickle_36 : decode cX0_pickle 36 = .ok (.getfield 19, 3) := dk_180 0 19 (dk_at dksX0_pickle_1 13 rfl rfl)
theorem dX0_pickle_39 : decode cX0_pickle 39 = .ok (.getfield 170, 3) := dk_180 0 170 (dk_at dksX0_pickle_1 16 rfl rfl)
theorem dX0_pickle_42 : decode cX0_pickle 42 = .ok (.iload_n 1, 1) := dk_27 (dk_at dksX0_pickle_1 19 rfl rfl)
theorem dX0_pickle_43 : decode cX0_pickle 43 = .ok (.iaload, 1) := dk_46 (dk_at dksX0_pickle_1 20 rfl rfl)
theorem dX0_pickle_44 : decode cX0_pickle 44 = .ok (.ireturn, 1) := dk_172 (dk_at dksX0_pickle_1 21 rfl rfl)
abbrev cX0_mend : ByteArray := prog_1_method_26_code
def yX0_mend : MethodName := ⟨RX0, "mend", "(I)I"⟩
def dkwX0_mend_2 : List UInt8 := [172]
abbrev dktX0_mend_2 : List UInt8 := dkwX0_mend_2 ++ []
def dkwX0_mend_1 : List UInt8 := [182, 0, 239, 42, 180, 0, 19, 180, 0, 176, 27, 46, 61, 42, 180, 0, 19, 180, 0, 176, 27, 3, 79, 28]
abbrev dktX0_mend_1 : List UInt8 := dkwX0_mend_1 ++ dktX0_mend_2
def dkwX0_mend_0 : List UInt8 := [42, 27, 182, 0, 242, 153, 0, 15, 42, 180, 0, 19, 180, 0, 176, 27, 46, 154, 0, 5, 2, 172, 42]
abbrev dktX0_mend_0 : List UInt8 := dkwX0_mend_0 ++ dktX0_mend_1
theorem dksX0_mend_0 : cX0_mend.data.toList.drop 0 = dktX0_mend_0 := by decide +kernel
theorem dksX0_mend_1 : cX0_mend.data.toList.drop 23 = dktX0_mend_1 := dk_seg dksX0_mend_0 23 rfl rfl
theorem dksX0_mend_2 : cX0_mend.data.toList.drop 47 = dktX0_mend_2 := dk_seg dksX0_mend_1 24 rfl rfl
theorem dX0_mend_0 : decode cX0_mend 0 = .ok (.aload_n 0, 1) := dk_42 (dk_at dksX0_mend_0 0 rfl rfl)
theorem dX0_mend_1 : decode cX0_mend 1 = .ok (.iload_n 1, 1) := dk_27 (dk_at dksX0_mend_0 1 rfl rfl)
theorem dX0_mend_2 : decode cX0_mend 2 = .ok (.invokevirtual 242, 3) := dk_182 0 242 (dk_at dksX0_mend_0 2 rfl rfl)
theorem dX0_mend_5 : decode cX0_mend 5 = .ok (.ifCond .eq 15, 3) := dk_153 0 15 (dk_at dksX0_mend_0 5 rfl rfl)
theorem dX0_mend_8 : decode cX0_mend 8 = .ok (.aload_n 0, 1) := dk_42 (dk_at dksX0_mend_0 8 rfl rfl)
theorem dX0_mend_9 : decode cX0_mend 9 = .ok (.getfield 19, 3) := dk_180 0 19 (dk_at dksX0_mend_0 9 rfl rfl)
theorem dX0_mend_12 : decode cX0_mend 12 = .ok (.getfield 176, 3) := dk_180 0 176 (dk_at dksX0_mend_0 12 rfl rfl)
theorem dX0_mend_15 : decode cX0_mend 15 = .ok (.iload_n 1, 1) := dk_27 (dk_at dksX0_mend_0 15 rfl rfl)
theorem dX0_mend_16 : decode cX0_mend 16 = .ok (.iaload, 1) := dk_46 (dk_at dksX0_mend_0 16 rfl rfl)
theorem dX0_mend_17 : decode cX0_mend 17 = .ok (.ifCond .ne 5, 3) := dk_154 0 5 (dk_at dksX0_mend_0 17 rfl rfl)
theorem dX0_mend_20 : decode cX0_mend 20 = .ok (.iconst (-1), 1) := dk_2 (dk_at dksX0_mend_0 20 rfl rfl)
theorem dX0_mend_21 : decode cX0_mend 21 = .ok (.ireturn, 1) := dk_172 (dk_at dksX0_mend_0 21 rfl rfl)
theorem dX0_mend_22 : decode cX0_mend 22 = .ok (.aload_n 0, 1) := dk_42 (dk_at dksX0_mend_0 22 rfl rfl)
theorem dX0_mend_23 : decode cX0_mend 23 = .ok (.invokevirtual 239, 3) := dk_182 0 239 (dk_at dksX0_mend_1 0 rfl rfl)
theorem dX0_mend_26 : decode cX0_mend 26 = .ok (.aload_n 0, 1) := dk_42 (dk_at dksX0_mend_1 3 rfl rfl)
theorem dX0_mend_27 : decode cX0_mend 27 = .ok (.getfield 19, 3) := dk_180 0 19 (dk_at dksX0_mend_1 4 rfl rfl)
theorem dX0_mend_30 : decode cX0_mend 30 = .ok (.getfield 176, 3) := dk_180 0 176 (dk_at dksX0_mend_1 7 rfl rfl)
theorem dX0_mend_33 : decode cX0_mend 33 = .ok (.iload_n 1, 1) := dk_27 (dk_at dksX0_mend_1 10 rfl rfl)
theorem dX0_mend_34 : decode cX0_mend 34 = .ok (.iaload, 1) := dk_46 (dk_at dksX0_mend_1 11 rfl rfl)
theorem dX0_mend_35 : decode cX0_mend 35 = .ok (.istore_n 2, 1) := dk_61 (dk_at dksX0_mend_1 12 rfl rfl)
theorem dX0_mend_36 : decode cX0_mend 36 = .ok (.aload_n 0, 1) := dk_42 (dk_at dksX0_mend_1 13 rfl rfl)
theorem dX0_mend_37 : decode cX0_mend 37 = .ok (.getfield 19, 3) := dk_180 0 19 (dk_at dksX0_mend_1 14 rfl rfl)
theorem dX0_mend_40 : decode cX0_mend 40 = .ok (.getfield 176, 3) := dk_180 0 176 (dk_at dksX0_mend_1 17 rfl rfl)
theorem dX0_mend_43 : decode cX0_mend 43 = .ok (.iload_n 1, 1) := dk_27 (dk_at dksX0_mend_1 20 rfl rfl)
theorem dX0_mend_44 : decode cX0_mend 44 = .ok (.iconst 0, 1) := dk_3 (dk_at dksX0_mend_1 21 rfl rfl)
theorem dX0_mend_45 : decode cX0_mend 45 = .ok (.iastore, 1) := dk_79 (dk_at dksX0_mend_1 22 rfl rfl)
theorem dX0_mend_46 : decode cX0_mend 46 = .ok (.iload_n 2, 1) := dk_28 (dk_at dksX0_mend_1 23 rfl rfl)
theorem dX0_mend_47 : decode cX0_mend 47 = .ok (.ireturn, 1) := dk_172 (dk_at dksX0_mend_2 0 rfl rfl)
abbrev cX0_string : ByteArray := prog_1_method_27_code
def yX0_string : MethodName := ⟨RX0, "string", "(II)I"⟩
def dkwX0_string_2 : List UInt8 := [62, 42, 180, 0, 19, 180, 0, 173, 27, 28, 79, 29, 172]
abbrev dktX0_string_2 : List UInt8 := dkwX0_string_2 ++ []
def dkwX0_string_1 : List UInt8 := [180, 0, 173, 27, 46, 28, 160, 0, 5, 2, 172, 42, 182, 0, 239, 42, 180, 0, 19, 180, 0, 173, 27, 46]
abbrev dktX0_string_1 : List UInt8 := dkwX0_string_1 ++ dktX0_string_2
def dkwX0_string_0 : List UInt8 := [42, 27, 182, 0, 242, 153, 0, 28, 28, 133, 10, 20, 0, 251, 184, 0, 119, 153, 0, 16, 42, 180, 0, 19]
abbrev dktX0_string_0 : List UInt8 := dkwX0_string_0 ++ dktX0_string_1
theorem dksX0_string_0 : cX0_string.data.toList.drop 0 = dktX0_string_0 := by decide +kernel
theorem dksX0_string_1 : cX0_string.data.toList.drop 24 = dktX0_string_1 := dk_seg dksX0_string_0 24 rfl rfl
theorem dksX0_string_2 : cX0_string.data.toList.drop 48 = dktX0_string_2 := dk_seg dksX0_string_1 24 rfl rfl
theorem dX0_string_0 : decode cX0_string 0 = .ok (.aload_n 0, 1) := dk_42 (dk_at dksX0_string_0 0 rfl rfl)
theorem dX0_string_1 : decode cX0_string 1 = .ok (.iload_n 1, 1) := dk_27 (dk_at dksX0_string_0 1 rfl rfl)
theorem dX0_string_2 : decode cX0_string 2 = .ok (.invokevirtual 242, 3) := dk_182 0 242 (dk_at dksX0_string_0 2 rfl rfl)
theorem dX0_string_5 : decode cX0_string 5 = .ok (.ifCond .eq 28, 3) := dk_153 0 28 (dk_at dksX0_string_0 5 rfl rfl)
theorem dX0_string_8 : decode cX0_string 8 = .ok (.iload_n 2, 1) := dk_28 (dk_at dksX0_string_0 8 rfl rfl)
theorem dX0_string_9 : decode cX0_string 9 = .ok (.i2l, 1) := dk_133 (dk_at dksX0_string_0 9 rfl rfl)
theorem dX0_string_10 : decode cX0_string 10 = .ok (.lconst 1, 1) := dk_10 (dk_at dksX0_string_0 10 rfl rfl)
theorem dX0_string_11 : decode cX0_string 11 = .ok (.ldc2_w 251, 3) := dk_20 0 251 (dk_at dksX0_string_0 11 rfl rfl)
theorem dX0_string_14 : decode cX0_string 14 = .ok (.invokestatic 119, 3) := dk_184 0 119 (dk_at dksX0_string_0 14 rfl rfl)
theorem dX0_string_17 : decode cX0_string 17 = .ok (.ifCond .eq 16, 3) := dk_153 0 16 (dk_at dksX0_string_0 17 rfl rfl)
theorem dX0_string_20 : decode cX0_string 20 = .ok (.aload_n 0, 1) := dk_42 (dk_at dksX0_string_0 20 rfl rfl)
theorem dX0_string_21 : decode cX0_string 21 = .ok (.getfield 19, 3) := dk_180 0 19 (dk_at dksX0_string_0 21 rfl rfl)
theorem dX0_string_24 : decode cX0_string 24 = .ok (.getfield 173, 3) := dk_180 0 173 (dk_at dksX0_string_1 0 rfl rfl)
theorem dX0_string_27 : decode cX0_string 27 = .ok (.iload_n 1, 1) := dk_27 (dk_at dksX0_string_1 3 rfl rfl)
theorem dX0_string_28 : decode cX0_string 28 = .ok (.iaload, 1) := dk_46 (dk_at dksX0_string_1 4 rfl rfl)
theorem dX0_string_29 : decode cX0_string 29 = .ok (.iload_n 2, 1) := dk_28 (dk_at dksX0_string_1 5 rfl rfl)
theorem dX0_string_30 : decode cX0_string 30 = .ok (.if_icmp .ne 5, 3) := dk_160 0 5 (dk_at dksX0_string_1 6 rfl rfl)
theorem dX0_string_33 : decode cX0_string 33 = .ok (.iconst (-1), 1) := dk_2 (dk_at dksX0_string_1 9 rfl rfl)
theorem dX0_string_34 : decode cX0_string 34 = .ok (.ireturn, 1) := dk_172 (dk_at dksX0_string_1 10 rfl rfl)
theorem dX0_string_35 : decode cX0_string 35 = .ok (.aload_n 0, 1) := dk_42 (dk_at dksX0_string_1 11 rfl rfl)
theorem dX0_string_36 : decode cX0_string 36 = .ok (.invokevirtual 239, 3) := dk_182 0 239 (dk_at dksX0_string_1 12 rfl rfl)
theorem dX0_string_39 : decode cX0_string 39 = .ok (.aload_n 0, 1) := dk_42 (dk_at dksX0_string_1 15 rfl rfl)
theorem dX0_string_40 : decode cX0_string 40 = .ok (.getfield 19, 3) := dk_180 0 19 (dk_at dksX0_string_1 16 rfl rfl)
theorem dX0_string_43 : decode cX0_string 43 = .ok (.getfield 173, 3) := dk_180 0 173 (dk_at dksX0_string_1 19 rfl rfl)
theorem dX0_string_46 : decode cX0_string 46 = .ok (.iload_n 1, 1) := dk_27 (dk_at dksX0_string_1 22 rfl rfl)
theorem dX0_string_47 : decode cX0_string 47 = .ok (.iaload, 1) := dk_46 (dk_at dksX0_string_1 23 rfl rfl)
theorem dX0_string_48 : decode cX0_string 48 = .ok (.istore_n 3, 1) := dk_62 (dk_at dksX0_string_2 0 rfl rfl)
theorem dX0_string_49 : decode cX0_string 49 = .ok (.aload_n 0, 1) := dk_42 (dk_at dksX0_string_2 1 rfl rfl)
theorem dX0_string_50 : decode cX0_string 50 = .ok (.getfield 19, 3) := dk_180 0 19 (dk_at dksX0_string_2 2 rfl rfl)
theorem dX0_string_53 : decode cX0_string 53 = .ok (.getfield 173, 3) := dk_180 0 173 (dk_at dksX0_string_2 5 rfl rfl)
theorem dX0_string_56 : decode cX0_string 56 = .ok (.iload_n 1, 1) := dk_27 (dk_at dksX0_string_2 8 rfl rfl)
theorem dX0_string_57 : decode cX0_string 57 = .ok (.iload_n 2, 1) := dk_28 (dk_at dksX0_string_2 9 rfl rfl)
theorem dX0_string_58 : decode cX0_string 58 = .ok (.iastore, 1) := dk_79 (dk_at dksX0_string_2 10 rfl rfl)
theorem dX0_string_59 : decode cX0_string 59 = .ok (.iload_n 3, 1) := dk_29 (dk_at dksX0_string_2 11 rfl rfl)
theorem dX0_string_60 : decode cX0_string 60 = .ok (.ireturn, 1) := dk_172 (dk_at dksX0_string_2 12 rfl rfl)
abbrev cX0_would : ByteArray := prog_1_method_28_code
def yX0_would : MethodName := ⟨RX0, "would", "(III)I"⟩
def dkwX0_would_4 : List UInt8 := [42, 180, 0, 10, 180, 0, 112, 182, 1, 0, 172]
abbrev dktX0_would_4 : List UInt8 := dkwX0_would_4 ++ []
def dkwX0_would_3 : List UInt8 := [104, 167, 0, 5, 21, 4, 172, 21, 4, 2, 160, 0, 8, 16, 254, 167, 0, 19, 42, 180, 0, 19, 27, 28]
abbrev dktX0_would_3 : List UInt8 := dkwX0_would_3 ++ dktX0_would_4
def dkwX0_would_2 : List UInt8 := [182, 0, 253, 54, 4, 29, 4, 160, 0, 24, 21, 4, 2, 160, 0, 15, 5, 42, 180, 0, 10, 180, 0, 112]
abbrev dktX0_would_2 : List UInt8 := dkwX0_would_2 ++ dktX0_would_3
def dkwX0_would_1 : List UInt8 := [10, 184, 0, 119, 154, 0, 5, 2, 172, 42, 180, 0, 19, 27, 28, 42, 180, 0, 10, 180, 0, 112]
abbrev dktX0_would_1 : List UInt8 := dkwX0_would_1 ++ dktX0_would_2
def dkwX0_would_0 : List UInt8 := [42, 27, 182, 0, 242, 153, 0, 26, 42, 28, 182, 0, 242, 153, 0, 18, 27, 28, 159, 0, 13, 29, 133, 9]
abbrev dktX0_would_0 : List UInt8 := dkwX0_would_0 ++ dktX0_would_1
theorem dksX0_would_0 : cX0_would.data.toList.drop 0 = dktX0_would_0 := by decide +kernel
theorem dksX0_would_1 : cX0_would.data.toList.drop 24 = dktX0_would_1 := dk_seg dksX0_would_0 24 rfl rfl
theorem dksX0_would_2 : cX0_would.data.toList.drop 46 = dktX0_would_2 := dk_seg dksX0_would_1 22 rfl rfl
theorem dksX0_would_3 : cX0_would.data.toList.drop 70 = dktX0_would_3 := dk_seg dksX0_would_2 24 rfl rfl
theorem dksX0_would_4 : cX0_would.data.toList.drop 94 = dktX0_would_4 := dk_seg dksX0_would_3 24 rfl rfl
theorem dX0_would_0 : decode cX0_would 0 = .ok (.aload_n 0, 1) := dk_42 (dk_at dksX0_would_0 0 rfl rfl)
theorem dX0_would_1 : decode cX0_would 1 = .ok (.iload_n 1, 1) := dk_27 (dk_at dksX0_would_0 1 rfl rfl)
theorem dX0_would_2 : decode cX0_would 2 = .ok (.invokevirtual 242, 3) := dk_182 0 242 (dk_at dksX0_would_0 2 rfl rfl)
theorem dX0_would_5 : decode cX0_would 5 = .ok (.ifCond .eq 26, 3) := dk_153 0 26 (dk_at dksX0_would_0 5 rfl rfl)
theorem dX0_would_8 : decode cX0_would 8 = .ok (.aload_n 0, 1) := dk_42 (dk_at dksX0_would_0 8 rfl rfl)
theorem dX0_would_9 : decode cX0_would 9 = .ok (.iload_n 2, 1) := dk_28 (dk_at dksX0_would_0 9 rfl rfl)
theorem dX0_would_10 : decode cX0_would 10 = .ok (.invokevirtual 242, 3) := dk_182 0 242 (dk_at dksX0_would_0 10 rfl rfl)
theorem dX0_would_13 : decode cX0_would 13 = .ok (.ifCond .eq 18, 3) := dk_153 0 18 (dk_at dksX0_would_0 13 rfl rfl)
theorem dX0_would_16 : decode cX0_would 16 = .ok (.iload_n 1, 1) := dk_27 (dk_at dksX0_would_0 16 rfl rfl)
theorem dX0_would_17 : decode cX0_would 17 = .ok (.iload_n 2, 1) := dk_28 (dk_at dksX0_would_0 17 rfl rfl)
theorem dX0_would_18 : decode cX0_would 18 = .ok (.if_icmp .eq 13, 3) := dk_159 0 13 (dk_at dksX0_would_0 18 rfl rfl)
theorem dX0_would_21 : decode cX0_would 21 = .ok (.iload_n 3, 1) := dk_29 (dk_at dksX0_would_0 21 rfl rfl)
theorem dX0_would_22 : decode cX0_would 22 = .ok (.i2l, 1) := dk_133 (dk_at dksX0_would_0 22 rfl rfl)
theorem dX0_would_23 : decode cX0_would 23 = .ok (.lconst 0, 1) := dk_9 (dk_at dksX0_would_0 23 rfl rfl)
theorem dX0_would_24 : decode cX0_would 24 = .ok (.lconst 1, 1) := dk_10 (dk_at dksX0_would_1 0 rfl rfl)
theorem dX0_would_25 : decode cX0_would 25 = .ok (.invokestatic 119, 3) := dk_184 0 119 (dk_at dksX0_would_1 1 rfl rfl)
theorem dX0_would_28 : decode cX0_would 28 = .ok (.ifCond .ne 5, 3) := dk_154 0 5 (dk_at dksX0_would_1 4 rfl rfl)
theorem dX0_would_31 : decode cX0_would 31 = .ok (.iconst (-1), 1) := dk_2 (dk_at dksX0_would_1 7 rfl rfl)
theorem dX0_would_32 : decode cX0_would 32 = .ok (.ireturn, 1) := dk_172 (dk_at dksX0_would_1 8 rfl rfl)
theorem dX0_would_33 : decode cX0_would 33 = .ok (.aload_n 0, 1) := dk_42 (dk_at dksX0_would_1 9 rfl rfl)
theorem dX0_would_34 : decode cX0_would 34 = .ok (.getfield 19, 3) := dk_180 0 19 (dk_at dksX0_would_1 10 rfl rfl)
theorem dX0_would_37 : decode cX0_would 37 = .ok (.iload_n 1, 1) := dk_27 (dk_at dksX0_would_1 13 rfl rfl)
theorem dX0_would_38 : decode cX0_would 38 = .ok (.iload_n 2, 1) := dk_28 (dk_at dksX0_would_1 14 rfl rfl)
theorem dX0_would_39 : decode cX0_would 39 = .ok (.aload_n 0, 1) := dk_42 (dk_at dksX0_would_1 15 rfl rfl)
theorem dX0_would_40 : decode cX0_would 40 = .ok (.getfield 10, 3) := dk_180 0 10 (dk_at dksX0_would_1 16 rfl rfl)
theorem dX0_would_43 : decode cX0_would 43 = .ok (.getfield 112, 3) := dk_180 0 112 (dk_at dksX0_would_1 19 rfl rfl)
theorem dX0_would_46 : decode cX0_would 46 = .ok (.invokevirtual 253, 3) := dk_182 0 253 (dk_at dksX0_would_2 0 rfl rfl)
theorem dX0_would_49 : decode cX0_would 49 = .ok (.istore 4, 2) := dk_54 4 (dk_at dksX0_would_2 3 rfl rfl)
theorem dX0_would_51 : decode cX0_would 51 = .ok (.iload_n 3, 1) := dk_29 (dk_at dksX0_would_2 5 rfl rfl)
theorem dX0_would_52 : decode cX0_would 52 = .ok (.iconst 1, 1) := dk_4 (dk_at dksX0_would_2 6 rfl rfl)
theorem dX0_would_53 : decode cX0_would 53 = .ok (.if_icmp .ne 24, 3) := dk_160 0 24 (dk_at dksX0_would_2 7 rfl rfl)
theorem dX0_would_56 : decode cX0_would 56 = .ok (.iload 4, 2) := dk_21 4 (dk_at dksX0_would_2 10 rfl rfl)
theorem dX0_would_58 : decode cX0_would 58 = .ok (.iconst (-1), 1) := dk_2 (dk_at dksX0_would_2 12 rfl rfl)
theorem dX0_would_59 : decode cX0_would 59 = .ok (.if_icmp .ne 15, 3) := dk_160 0 15 (dk_at dksX0_would_2 13 rfl rfl)
theorem dX0_would_62 : decode cX0_would 62 = .ok (.iconst 2, 1) := dk_5 (dk_at dksX0_would_2 16 rfl rfl)
theorem dX0_would_63 : decode cX0_would 63 = .ok (.aload_n 0, 1) := dk_42 (dk_at dksX0_would_2 17 rfl rfl)
theorem dX0_would_64 : decode cX0_would 64 = .ok (.getfield 10, 3) := dk_180 0 10 (dk_at dksX0_would_2 18 rfl rfl)
theorem dX0_would_67 : decode cX0_would 67 = .ok (.getfield 112, 3) := dk_180 0 112 (dk_at dksX0_would_2 21 rfl rfl)
theorem dX0_would_70 : decode cX0_would 70 = .ok (.imul, 1) := dk_104 (dk_at dksX0_would_3 0 rfl rfl)
theorem dX0_would_71 : decode cX0_would 71 = .ok (.goto 5, 3) := dk_167 0 5 (dk_at dksX0_would_3 1 rfl rfl)
theorem dX0_would_74 : decode cX0_would 74 = .ok (.iload 4, 2) := dk_21 4 (dk_at dksX0_would_3 4 rfl rfl)
theorem dX0_would_76 : decode cX0_would 76 = .ok (.ireturn, 1) := dk_172 (dk_at dksX0_would_3 6 rfl rfl)
theorem dX0_would_77 : decode cX0_would 77 = .ok (.iload 4, 2) := dk_21 4 (dk_at dksX0_would_3 7 rfl rfl)
theorem dX0_would_79 : decode cX0_would 79 = .ok (.iconst (-1), 1) := dk_2 (dk_at dksX0_would_3 9 rfl rfl)
theorem dX0_would_80 : decode cX0_would 80 = .ok (.if_icmp .ne 8, 3) := dk_160 0 8 (dk_at dksX0_would_3 10 rfl rfl)
theorem dX0_would_83 : decode cX0_would 83 = .ok (.bipush (-2), 2) := dk_16 254 (dk_at dksX0_would_3 13 rfl rfl)
theorem dX0_would_85 : decode cX0_would 85 = .ok (.goto 19, 3) := dk_167 0 19 (dk_at dksX0_would_3 15 rfl rfl)
theorem dX0_would_88 : decode cX0_would 88 = .ok (.aload_n 0, 1) := dk_42 (dk_at dksX0_would_3 18 rfl rfl)
theorem dX0_would_89 : decode cX0_would 89 = .ok (.getfield 19, 3) := dk_180 0 19 (dk_at dksX0_would_3 19 rfl rfl)
theorem dX0_would_92 : decode cX0_would 92 = .ok (.iload_n 1, 1) := dk_27 (dk_at dksX0_would_3 22 rfl rfl)
theorem dX0_would_93 : decode cX0_would 93 = .ok (.iload_n 2, 1) := dk_28 (dk_at dksX0_would_3 23 rfl rfl)
theorem dX0_would_94 : decode cX0_would 94 = .ok (.aload_n 0, 1) := dk_42 (dk_at dksX0_would_4 0 rfl rfl)
theorem dX0_would_95 : decode cX0_would 95 = .ok (.getfield 10, 3) := dk_180 0 10 (dk_at dksX0_would_4 1 rfl rfl)
theorem dX0_would_98 : decode cX0_would 98 = .ok (.getfield 112, 3) := dk_180 0 112 (dk_at dksX0_would_4 4 rfl rfl)
theorem dX0_would_101 : decode cX0_would 101 = .ok (.invokevirtual 256, 3) := dk_182 1 0 (dk_at dksX0_would_4 7 rfl rfl)
theorem dX0_would_104 : decode cX0_would 104 = .ok (.ireturn, 1) := dk_172 (dk_at dksX0_would_4 10 rfl rfl)
abbrev cX0_beats : ByteArray := prog_1_method_31_code
def yX0_beats : MethodName := ⟨RX0, "beats", "(I)I"⟩
def dkwX0_beats_0 : List UInt8 := [42, 27, 182, 0, 242, 153, 0, 11, 42, 27, 182, 1, 3, 167, 0, 4, 2, 172]
abbrev dktX0_beats_0 : List UInt8 := dkwX0_beats_0 ++ []
theorem dksX0_beats_0 : cX0_beats.data.toList.drop 0 = dktX0_beats_0 := by decide +kernel
theorem dX0_beats_0 : decode cX0_beats 0 = .ok (.aload_n 0, 1) := dk_42 (dk_at dksX0_beats_0 0 rfl rfl)
theorem dX0_beats_1 : decode cX0_beats 1 = .ok (.iload_n 1, 1) := dk_27 (dk_at dksX0_beats_0 1 rfl rfl)
theorem dX0_beats_2 : decode cX0_beats 2 = .ok (.invokevirtual 242, 3) := dk_182 0 242 (dk_at dksX0_beats_0 2 rfl rfl)
theorem dX0_beats_5 : decode cX0_beats 5 = .ok (.ifCond .eq 11, 3) := dk_153 0 11 (dk_at dksX0_beats_0 5 rfl rfl)
theorem dX0_beats_8 : decode cX0_beats 8 = .ok (.aload_n 0, 1) := dk_42 (dk_at dksX0_beats_0 8 rfl rfl)
theorem dX0_beats_9 : decode cX0_beats 9 = .ok (.iload_n 1, 1) := dk_27 (dk_at dksX0_beats_0 9 rfl rfl)
theorem dX0_beats_10 : decode cX0_beats 10 = .ok (.invokevirtual 259, 3) := dk_182 1 3 (dk_at dksX0_beats_0 10 rfl rfl)
theorem dX0_beats_13 : decode cX0_beats 13 = .ok (.goto 4, 3) := dk_167 0 4 (dk_at dksX0_beats_0 13 rfl rfl)
theorem dX0_beats_16 : decode cX0_beats 16 = .ok (.iconst (-1), 1) := dk_2 (dk_at dksX0_beats_0 16 rfl rfl)
theorem dX0_beats_17 : decode cX0_beats 17 = .ok (.ireturn, 1) := dk_172 (dk_at dksX0_beats_0 17 rfl rfl)
abbrev cX0_beatenBy : ByteArray := prog_1_method_29_code
def yX0_beatenBy : MethodName := ⟨RX0, "beatenBy", "(I)I"⟩
def dkwX0_beatenBy_2 : List UInt8 := [167, 0, 4, 3, 128, 61, 132, 3, 1, 167, 255, 204, 28, 172]
abbrev dktX0_beatenBy_2 : List UInt8 := dkwX0_beatenBy_2 ++ []
def dkwX0_beatenBy_1 : List UInt8 := [42, 180, 0, 19, 27, 29, 42, 180, 0, 10, 180, 0, 112, 182, 1, 0, 27, 160, 0, 9, 4, 29, 120]
abbrev dktX0_beatenBy_1 : List UInt8 := dkwX0_beatenBy_1 ++ dktX0_beatenBy_2
def dkwX0_beatenBy_0 : List UInt8 := [3, 61, 3, 62, 29, 16, 8, 162, 0, 52, 28, 29, 27, 159, 0, 37, 42, 29, 182, 0, 242, 153, 0, 29]
abbrev dktX0_beatenBy_0 : List UInt8 := dkwX0_beatenBy_0 ++ dktX0_beatenBy_1
theorem dksX0_beatenBy_0 : cX0_beatenBy.data.toList.drop 0 = dktX0_beatenBy_0 := by decide +kernel
theorem dksX0_beatenBy_1 : cX0_beatenBy.data.toList.drop 24 = dktX0_beatenBy_1 := dk_seg dksX0_beatenBy_0 24 rfl rfl
theorem dksX0_beatenBy_2 : cX0_beatenBy.data.toList.drop 47 = dktX0_beatenBy_2 := dk_seg dksX0_beatenBy_1 23 rfl rfl
theorem dX0_beatenBy_0 : decode cX0_beatenBy 0 = .ok (.iconst 0, 1) := dk_3 (dk_at dksX0_beatenBy_0 0 rfl rfl)
theorem dX0_beatenBy_1 : decode cX0_beatenBy 1 = .ok (.istore_n 2, 1) := dk_61 (dk_at dksX0_beatenBy_0 1 rfl rfl)
theorem dX0_beatenBy_2 : decode cX0_beatenBy 2 = .ok (.iconst 0, 1) := dk_3 (dk_at dksX0_beatenBy_0 2 rfl rfl)
theorem dX0_beatenBy_3 : decode cX0_beatenBy 3 = .ok (.istore_n 3, 1) := dk_62 (dk_at dksX0_beatenBy_0 3 rfl rfl)
theorem dX0_beatenBy_4 : decode cX0_beatenBy 4 = .ok (.iload_n 3, 1) := dk_29 (dk_at dksX0_beatenBy_0 4 rfl rfl)
theorem dX0_beatenBy_5 : decode cX0_beatenBy 5 = .ok (.bipush 8, 2) := dk_16 8 (dk_at dksX0_beatenBy_0 5 rfl rfl)
theorem dX0_beatenBy_7 : decode cX0_beatenBy 7 = .ok (.if_icmp .ge 52, 3) := dk_162 0 52 (dk_at dksX0_beatenBy_0 7 rfl rfl)
theorem dX0_beatenBy_10 : decode cX0_beatenBy 10 = .ok (.iload_n 2, 1) := dk_28 (dk_at dksX0_beatenBy_0 10 rfl rfl)
theorem dX0_beatenBy_11 : decode cX0_beatenBy 11 = .ok (.iload_n 3, 1) := dk_29 (dk_at dksX0_beatenBy_0 11 rfl rfl)
theorem dX0_beatenBy_12 : decode cX0_beatenBy 12 = .ok (.iload_n 1, 1) := dk_27 (dk_at dksX0_beatenBy_0 12 rfl rfl)
theorem dX0_beatenBy_13 : decode cX0_beatenBy 13 = .ok (.if_icmp .eq 37, 3) := dk_159 0 37 (dk_at dksX0_beatenBy_0 13 rfl rfl)
theorem dX0_beatenBy_16 : decode cX0_beatenBy 16 = .ok (.aload_n 0, 1) := dk_42 (dk_at dksX0_beatenBy_0 16 rfl rfl)
theorem dX0_beatenBy_17 : decode cX0_beatenBy 17 = .ok (.iload_n 3, 1) := dk_29 (dk_at dksX0_beatenBy_0 17 rfl rfl)
theorem dX0_beatenBy_18 : decode cX0_beatenBy 18 = .ok (.invokevirtual 242, 3) := dk_182 0 242 (dk_at dksX0_beatenBy_0 18 rfl rfl)
theorem dX0_beatenBy_21 : decode cX0_beatenBy 21 = .ok (.ifCond .eq 29, 3) := dk_153 0 29 (dk_at dksX0_beatenBy_0 21 rfl rfl)
theorem dX0_beatenBy_24 : decode cX0_beatenBy 24 = .ok (.aload_n 0, 1) := dk_42 (dk_at dksX0_beatenBy_1 0 rfl rfl)
theorem dX0_beatenBy_25 : decode cX0_beatenBy 25 = .ok (.getfield 19, 3) := dk_180 0 19 (dk_at dksX0_beatenBy_1 1 rfl rfl)
theorem dX0_beatenBy_28 : decode cX0_beatenBy 28 = .ok (.iload_n 1, 1) := dk_27 (dk_at dksX0_beatenBy_1 4 rfl rfl)
theorem dX0_beatenBy_29 : decode cX0_beatenBy 29 = .ok (.iload_n 3, 1) := dk_29 (dk_at dksX0_beatenBy_1 5 rfl rfl)
theorem dX0_beatenBy_30 : decode cX0_beatenBy 30 = .ok (.aload_n 0, 1) := dk_42 (dk_at dksX0_beatenBy_1 6 rfl rfl)
theorem dX0_beatenBy_31 : decode cX0_beatenBy 31 = .ok (.getfield 10, 3) := dk_180 0 10 (dk_at dksX0_beatenBy_1 7 rfl rfl)
theorem dX0_beatenBy_34 : decode cX0_beatenBy 34 = .ok (.getfield 112, 3) := dk_180 0 112 (dk_at dksX0_beatenBy_1 10 rfl rfl)
theorem dX0_beatenBy_37 : decode cX0_beatenBy 37 = .ok (.invokevirtual 256, 3) := dk_182 1 0 (dk_at dksX0_beatenBy_1 13 rfl rfl)
theorem dX0_beatenBy_40 : decode cX0_beatenBy 40 = .ok (.iload_n 1, 1) := dk_27 (dk_at dksX0_beatenBy_1 16 rfl rfl)
theorem dX0_beatenBy_41 : decode cX0_beatenBy 41 = .ok (.if_icmp .ne 9, 3) := dk_160 0 9 (dk_at dksX0_beatenBy_1 17 rfl rfl)
theorem dX0_beatenBy_44 : decode cX0_beatenBy 44 = .ok (.iconst 1, 1) := dk_4 (dk_at dksX0_beatenBy_1 20 rfl rfl)
theorem dX0_beatenBy_45 : decode cX0_beatenBy 45 = .ok (.iload_n 3, 1) := dk_29 (dk_at dksX0_beatenBy_1 21 rfl rfl)
theorem dX0_beatenBy_46 : decode cX0_beatenBy 46 = .ok (.ishl, 1) := dk_120 (dk_at dksX0_beatenBy_1 22 rfl rfl)
theorem dX0_beatenBy_47 : decode cX0_beatenBy 47 = .ok (.goto 4, 3) := dk_167 0 4 (dk_at dksX0_beatenBy_2 0 rfl rfl)
theorem dX0_beatenBy_50 : decode cX0_beatenBy 50 = .ok (.iconst 0, 1) := dk_3 (dk_at dksX0_beatenBy_2 3 rfl rfl)
theorem dX0_beatenBy_51 : decode cX0_beatenBy 51 = .ok (.ior, 1) := dk_128 (dk_at dksX0_beatenBy_2 4 rfl rfl)
theorem dX0_beatenBy_52 : decode cX0_beatenBy 52 = .ok (.istore_n 2, 1) := dk_61 (dk_at dksX0_beatenBy_2 5 rfl rfl)
theorem dX0_beatenBy_53 : decode cX0_beatenBy 53 = .ok (.iinc 3 1, 3) := dk_132 3 1 (dk_at dksX0_beatenBy_2 6 rfl rfl)
theorem dX0_beatenBy_56 : decode cX0_beatenBy 56 = .ok (.goto (-52), 3) := dk_167 255 204 (dk_at dksX0_beatenBy_2 9 rfl rfl)
theorem dX0_beatenBy_59 : decode cX0_beatenBy 59 = .ok (.iload_n 2, 1) := dk_28 (dk_at dksX0_beatenBy_2 12 rfl rfl)
theorem dX0_beatenBy_60 : decode cX0_beatenBy 60 = .ok (.ireturn, 1) := dk_172 (dk_at dksX0_beatenBy_2 13 rfl rfl)
abbrev cX0_last : ByteArray := prog_1_method_33_code
def yX0_last : MethodName := ⟨RX0, "last", "(I)I"⟩
def dkwX0_last_2 : List UInt8 := [172]
abbrev dktX0_last_2 : List UInt8 := dkwX0_last_2 ++ []
def dkwX0_last_1 : List UInt8 := [180, 0, 127, 182, 1, 9, 42, 180, 0, 19, 180, 0, 127, 160, 0, 7, 4, 167, 0, 4, 3, 184, 0, 182]
abbrev dktX0_last_1 : List UInt8 := dkwX0_last_1 ++ dktX0_last_2
def dkwX0_last_0 : List UInt8 := [42, 27, 182, 0, 242, 154, 0, 5, 2, 172, 42, 182, 1, 6, 42, 4, 27, 120, 42, 180, 0, 19]
abbrev dktX0_last_0 : List UInt8 := dkwX0_last_0 ++ dktX0_last_1
theorem dksX0_last_0 : cX0_last.data.toList.drop 0 = dktX0_last_0 := by decide +kernel
theorem dksX0_last_1 : cX0_last.data.toList.drop 22 = dktX0_last_1 := dk_seg dksX0_last_0 22 rfl rfl
theorem dksX0_last_2 : cX0_last.data.toList.drop 46 = dktX0_last_2 := dk_seg dksX0_last_1 24 rfl rfl
theorem dX0_last_0 : decode cX0_last 0 = .ok (.aload_n 0, 1) := dk_42 (dk_at dksX0_last_0 0 rfl rfl)
theorem dX0_last_1 : decode cX0_last 1 = .ok (.iload_n 1, 1) := dk_27 (dk_at dksX0_last_0 1 rfl rfl)
theorem dX0_last_2 : decode cX0_last 2 = .ok (.invokevirtual 242, 3) := dk_182 0 242 (dk_at dksX0_last_0 2 rfl rfl)
theorem dX0_last_5 : decode cX0_last 5 = .ok (.ifCond .ne 5, 3) := dk_154 0 5 (dk_at dksX0_last_0 5 rfl rfl)
theorem dX0_last_8 : decode cX0_last 8 = .ok (.iconst (-1), 1) := dk_2 (dk_at dksX0_last_0 8 rfl rfl)
theorem dX0_last_9 : decode cX0_last 9 = .ok (.ireturn, 1) := dk_172 (dk_at dksX0_last_0 9 rfl rfl)
theorem dX0_last_10 : decode cX0_last 10 = .ok (.aload_n 0, 1) := dk_42 (dk_at dksX0_last_0 10 rfl rfl)
theorem dX0_last_11 : decode cX0_last 11 = .ok (.invokevirtual 262, 3) := dk_182 1 6 (dk_at dksX0_last_0 11 rfl rfl)
theorem dX0_last_14 : decode cX0_last 14 = .ok (.aload_n 0, 1) := dk_42 (dk_at dksX0_last_0 14 rfl rfl)
theorem dX0_last_15 : decode cX0_last 15 = .ok (.iconst 1, 1) := dk_4 (dk_at dksX0_last_0 15 rfl rfl)
theorem dX0_last_16 : decode cX0_last 16 = .ok (.iload_n 1, 1) := dk_27 (dk_at dksX0_last_0 16 rfl rfl)
theorem dX0_last_17 : decode cX0_last 17 = .ok (.ishl, 1) := dk_120 (dk_at dksX0_last_0 17 rfl rfl)
theorem dX0_last_18 : decode cX0_last 18 = .ok (.aload_n 0, 1) := dk_42 (dk_at dksX0_last_0 18 rfl rfl)
theorem dX0_last_19 : decode cX0_last 19 = .ok (.getfield 19, 3) := dk_180 0 19 (dk_at dksX0_last_0 19 rfl rfl)
theorem dX0_last_22 : decode cX0_last 22 = .ok (.getfield 127, 3) := dk_180 0 127 (dk_at dksX0_last_1 0 rfl rfl)
theorem dX0_last_25 : decode cX0_last 25 = .ok (.invokevirtual 265, 3) := dk_182 1 9 (dk_at dksX0_last_1 3 rfl rfl)
theorem dX0_last_28 : decode cX0_last 28 = .ok (.aload_n 0, 1) := dk_42 (dk_at dksX0_last_1 6 rfl rfl)
theorem dX0_last_29 : decode cX0_last 29 = .ok (.getfield 19, 3) := dk_180 0 19 (dk_at dksX0_last_1 7 rfl rfl)
theorem dX0_last_32 : decode cX0_last 32 = .ok (.getfield 127, 3) := dk_180 0 127 (dk_at dksX0_last_1 10 rfl rfl)
theorem dX0_last_35 : decode cX0_last 35 = .ok (.if_icmp .ne 7, 3) := dk_160 0 7 (dk_at dksX0_last_1 13 rfl rfl)
theorem dX0_last_38 : decode cX0_last 38 = .ok (.iconst 1, 1) := dk_4 (dk_at dksX0_last_1 16 rfl rfl)
theorem dX0_last_39 : decode cX0_last 39 = .ok (.goto 4, 3) := dk_167 0 4 (dk_at dksX0_last_1 17 rfl rfl)
theorem dX0_last_42 : decode cX0_last 42 = .ok (.iconst 0, 1) := dk_3 (dk_at dksX0_last_1 20 rfl rfl)
theorem dX0_last_43 : decode cX0_last 43 = .ok (.invokestatic 182, 3) := dk_184 0 182 (dk_at dksX0_last_1 21 rfl rfl)
theorem dX0_last_46 : decode cX0_last 46 = .ok (.ireturn, 1) := dk_172 (dk_at dksX0_last_2 0 rfl rfl)
abbrev cX0_laysBeaten : ByteArray := prog_1_method_30_code
def yX0_laysBeaten : MethodName := ⟨RX0, "laysBeaten", "()V"⟩
def dkwX0_laysBeaten_1 : List UInt8 := [182, 1, 3, 167, 0, 4, 3, 79, 132, 1, 1, 167, 255, 224, 177]
abbrev dktX0_laysBeaten_1 : List UInt8 := dkwX0_laysBeaten_1 ++ []
def dkwX0_laysBeaten_0 : List UInt8 := [3, 60, 27, 16, 8, 162, 0, 32, 42, 180, 0, 76, 27, 42, 27, 182, 0, 242, 153, 0, 11, 42, 27]
abbrev dktX0_laysBeaten_0 : List UInt8 := dkwX0_laysBeaten_0 ++ dktX0_laysBeaten_1
theorem dksX0_laysBeaten_0 : cX0_laysBeaten.data.toList.drop 0 = dktX0_laysBeaten_0 := by decide +kernel
theorem dksX0_laysBeaten_1 : cX0_laysBeaten.data.toList.drop 23 = dktX0_laysBeaten_1 := dk_seg dksX0_laysBeaten_0 23 rfl rfl
theorem dX0_laysBeaten_0 : decode cX0_laysBeaten 0 = .ok (.iconst 0, 1) := dk_3 (dk_at dksX0_laysBeaten_0 0 rfl rfl)
theorem dX0_laysBeaten_1 : decode cX0_laysBeaten 1 = .ok (.istore_n 1, 1) := dk_60 (dk_at dksX0_laysBeaten_0 1 rfl rfl)
theorem dX0_laysBeaten_2 : decode cX0_laysBeaten 2 = .ok (.iload_n 1, 1) := dk_27 (dk_at dksX0_laysBeaten_0 2 rfl rfl)
theorem dX0_laysBeaten_3 : decode cX0_laysBeaten 3 = .ok (.bipush 8, 2) := dk_16 8 (dk_at dksX0_laysBeaten_0 3 rfl rfl)
theorem dX0_laysBeaten_5 : decode cX0_laysBeaten 5 = .ok (.if_icmp .ge 32, 3) := dk_162 0 32 (dk_at dksX0_laysBeaten_0 5 rfl rfl)
theorem dX0_laysBeaten_8 : decode cX0_laysBeaten 8 = .ok (.aload_n 0, 1) := dk_42 (dk_at dksX0_laysBeaten_0 8 rfl rfl)
theorem dX0_laysBeaten_9 : decode cX0_laysBeaten 9 = .ok (.getfield 76, 3) := dk_180 0 76 (dk_at dksX0_laysBeaten_0 9 rfl rfl)
theorem dX0_laysBeaten_12 : decode cX0_laysBeaten 12 = .ok (.iload_n 1, 1) := dk_27 (dk_at dksX0_laysBeaten_0 12 rfl rfl)
theorem dX0_laysBeaten_13 : decode cX0_laysBeaten 13 = .ok (.aload_n 0, 1) := dk_42 (dk_at dksX0_laysBeaten_0 13 rfl rfl)
theorem dX0_laysBeaten_14 : decode cX0_laysBeaten 14 = .ok (.iload_n 1, 1) := dk_27 (dk_at dksX0_laysBeaten_0 14 rfl rfl)
theorem dX0_laysBeaten_15 : decode cX0_laysBeaten 15 = .ok (.invokevirtual 242, 3) := dk_182 0 242 (dk_at dksX0_laysBeaten_0 15 rfl rfl)
theorem dX0_laysBeaten_18 : decode cX0_laysBeaten 18 = .ok (.ifCond .eq 11, 3) := dk_153 0 11 (dk_at dksX0_laysBeaten_0 18 rfl rfl)
theorem dX0_laysBeaten_21 : decode cX0_laysBeaten 21 = .ok (.aload_n 0, 1) := dk_42 (dk_at dksX0_laysBeaten_0 21 rfl rfl)
theorem dX0_laysBeaten_22 : decode cX0_laysBeaten 22 = .ok (.iload_n 1, 1) := dk_27 (dk_at dksX0_laysBeaten_0 22 rfl rfl)
theorem dX0_laysBeaten_23 : decode cX0_laysBeaten 23 = .ok (.invokevirtual 259, 3) := dk_182 1 3 (dk_at dksX0_laysBeaten_1 0 rfl rfl)
theorem dX0_laysBeaten_26 : decode cX0_laysBeaten 26 = .ok (.goto 4, 3) := dk_167 0 4 (dk_at dksX0_laysBeaten_1 3 rfl rfl)
theorem dX0_laysBeaten_29 : decode cX0_laysBeaten 29 = .ok (.iconst 0, 1) := dk_3 (dk_at dksX0_laysBeaten_1 6 rfl rfl)
theorem dX0_laysBeaten_30 : decode cX0_laysBeaten 30 = .ok (.iastore, 1) := dk_79 (dk_at dksX0_laysBeaten_1 7 rfl rfl)
theorem dX0_laysBeaten_31 : decode cX0_laysBeaten 31 = .ok (.iinc 1 1, 3) := dk_132 1 1 (dk_at dksX0_laysBeaten_1 8 rfl rfl)
theorem dX0_laysBeaten_34 : decode cX0_laysBeaten 34 = .ok (.goto (-32), 3) := dk_167 255 224 (dk_at dksX0_laysBeaten_1 11 rfl rfl)
theorem dX0_laysBeaten_37 : decode cX0_laysBeaten 37 = .ok (.return_, 1) := dk_177 (dk_at dksX0_laysBeaten_1 14 rfl rfl)
abbrev cX0_reachedFrom : ByteArray := prog_1_method_32_code
def yX0_reachedFrom : MethodName := ⟨RX0, "reachedFrom", "(II)I"⟩
def dkwX0_reachedFrom_3 : List UInt8 := [128, 62, 167, 255, 191, 29, 172]
abbrev dktX0_reachedFrom_3 : List UInt8 := dkwX0_reachedFrom_3 ++ []
def dkwX0_reachedFrom_2 : List UInt8 := [167, 0, 4, 3, 128, 54, 5, 132, 6, 1, 167, 255, 218, 21, 5, 29, 2, 130, 126, 54, 4, 29, 21, 5]
abbrev dktX0_reachedFrom_2 : List UInt8 := dkwX0_reachedFrom_2 ++ dktX0_reachedFrom_3
def dkwX0_reachedFrom_1 : List UInt8 := [162, 0, 37, 21, 5, 21, 4, 21, 6, 184, 0, 130, 153, 0, 15, 42, 180, 0, 76, 21, 6, 46, 28, 126]
abbrev dktX0_reachedFrom_1 : List UInt8 := dkwX0_reachedFrom_1 ++ dktX0_reachedFrom_2
def dkwX0_reachedFrom_0 : List UInt8 := [27, 28, 126, 62, 29, 54, 4, 21, 4, 153, 0, 66, 3, 54, 5, 3, 54, 6, 21, 6, 16, 8]
abbrev dktX0_reachedFrom_0 : List UInt8 := dkwX0_reachedFrom_0 ++ dktX0_reachedFrom_1
theorem dksX0_reachedFrom_0 : cX0_reachedFrom.data.toList.drop 0 = dktX0_reachedFrom_0 := by decide +kernel
theorem dksX0_reachedFrom_1 : cX0_reachedFrom.data.toList.drop 22 = dktX0_reachedFrom_1 := dk_seg dksX0_reachedFrom_0 22 rfl rfl
theorem dksX0_reachedFrom_2 : cX0_reachedFrom.data.toList.drop 46 = dktX0_reachedFrom_2 := dk_seg dksX0_reachedFrom_1 24 rfl rfl
theorem dksX0_reachedFrom_3 : cX0_reachedFrom.data.toList.drop 70 = dktX0_reachedFrom_3 := dk_seg dksX0_reachedFrom_2 24 rfl rfl
theorem dX0_reachedFrom_0 : decode cX0_reachedFrom 0 = .ok (.iload_n 1, 1) := dk_27 (dk_at dksX0_reachedFrom_0 0 rfl rfl)
theorem dX0_reachedFrom_1 : decode cX0_reachedFrom 1 = .ok (.iload_n 2, 1) := dk_28 (dk_at dksX0_reachedFrom_0 1 rfl rfl)
theorem dX0_reachedFrom_2 : decode cX0_reachedFrom 2 = .ok (.iand, 1) := dk_126 (dk_at dksX0_reachedFrom_0 2 rfl rfl)
theorem dX0_reachedFrom_3 : decode cX0_reachedFrom 3 = .ok (.istore_n 3, 1) := dk_62 (dk_at dksX0_reachedFrom_0 3 rfl rfl)
theorem dX0_reachedFrom_4 : decode cX0_reachedFrom 4 = .ok (.iload_n 3, 1) := dk_29 (dk_at dksX0_reachedFrom_0 4 rfl rfl)
theorem dX0_reachedFrom_5 : decode cX0_reachedFrom 5 = .ok (.istore 4, 2) := dk_54 4 (dk_at dksX0_reachedFrom_0 5 rfl rfl)
theorem dX0_reachedFrom_7 : decode cX0_reachedFrom 7 = .ok (.iload 4, 2) := dk_21 4 (dk_at dksX0_reachedFrom_0 7 rfl rfl)
theorem dX0_reachedFrom_9 : decode cX0_reachedFrom 9 = .ok (.ifCond .eq 66, 3) := dk_153 0 66 (dk_at dksX0_reachedFrom_0 9 rfl rfl)
theorem dX0_reachedFrom_12 : decode cX0_reachedFrom 12 = .ok (.iconst 0, 1) := dk_3 (dk_at dksX0_reachedFrom_0 12 rfl rfl)
theorem dX0_reachedFrom_13 : decode cX0_reachedFrom 13 = .ok (.istore 5, 2) := dk_54 5 (dk_at dksX0_reachedFrom_0 13 rfl rfl)
theorem dX0_reachedFrom_15 : decode cX0_reachedFrom 15 = .ok (.iconst 0, 1) := dk_3 (dk_at dksX0_reachedFrom_0 15 rfl rfl)
theorem dX0_reachedFrom_16 : decode cX0_reachedFrom 16 = .ok (.istore 6, 2) := dk_54 6 (dk_at dksX0_reachedFrom_0 16 rfl rfl)
theorem dX0_reachedFrom_18 : decode cX0_reachedFrom 18 = .ok (.iload 6, 2) := dk_21 6 (dk_at dksX0_reachedFrom_0 18 rfl rfl)
theorem dX0_reachedFrom_20 : decode cX0_reachedFrom 20 = .ok (.bipush 8, 2) := dk_16 8 (dk_at dksX0_reachedFrom_0 20 rfl rfl)
theorem dX0_reachedFrom_22 : decode cX0_reachedFrom 22 = .ok (.if_icmp .ge 37, 3) := dk_162 0 37 (dk_at dksX0_reachedFrom_1 0 rfl rfl)
theorem dX0_reachedFrom_25 : decode cX0_reachedFrom 25 = .ok (.iload 5, 2) := dk_21 5 (dk_at dksX0_reachedFrom_1 3 rfl rfl)
theorem dX0_reachedFrom_27 : decode cX0_reachedFrom 27 = .ok (.iload 4, 2) := dk_21 4 (dk_at dksX0_reachedFrom_1 5 rfl rfl)
theorem dX0_reachedFrom_29 : decode cX0_reachedFrom 29 = .ok (.iload 6, 2) := dk_21 6 (dk_at dksX0_reachedFrom_1 7 rfl rfl)
theorem dX0_reachedFrom_31 : decode cX0_reachedFrom 31 = .ok (.invokestatic 130, 3) := dk_184 0 130 (dk_at dksX0_reachedFrom_1 9 rfl rfl)
theorem dX0_reachedFrom_34 : decode cX0_reachedFrom 34 = .ok (.ifCond .eq 15, 3) := dk_153 0 15 (dk_at dksX0_reachedFrom_1 12 rfl rfl)
theorem dX0_reachedFrom_37 : decode cX0_reachedFrom 37 = .ok (.aload_n 0, 1) := dk_42 (dk_at dksX0_reachedFrom_1 15 rfl rfl)
theorem dX0_reachedFrom_38 : decode cX0_reachedFrom 38 = .ok (.getfield 76, 3) := dk_180 0 76 (dk_at dksX0_reachedFrom_1 16 rfl rfl)
theorem dX0_reachedFrom_41 : decode cX0_reachedFrom 41 = .ok (.iload 6, 2) := dk_21 6 (dk_at dksX0_reachedFrom_1 19 rfl rfl)
theorem dX0_reachedFrom_43 : decode cX0_reachedFrom 43 = .ok (.iaload, 1) := dk_46 (dk_at dksX0_reachedFrom_1 21 rfl rfl)
theorem dX0_reachedFrom_44 : decode cX0_reachedFrom 44 = .ok (.iload_n 2, 1) := dk_28 (dk_at dksX0_reachedFrom_1 22 rfl rfl)
theorem dX0_reachedFrom_45 : decode cX0_reachedFrom 45 = .ok (.iand, 1) := dk_126 (dk_at dksX0_reachedFrom_1 23 rfl rfl)
theorem dX0_reachedFrom_46 : decode cX0_reachedFrom 46 = .ok (.goto 4, 3) := dk_167 0 4 (dk_at dksX0_reachedFrom_2 0 rfl rfl)
theorem dX0_reachedFrom_49 : decode cX0_reachedFrom 49 = .ok (.iconst 0, 1) := dk_3 (dk_at dksX0_reachedFrom_2 3 rfl rfl)
theorem dX0_reachedFrom_50 : decode cX0_reachedFrom 50 = .ok (.ior, 1) := dk_128 (dk_at dksX0_reachedFrom_2 4 rfl rfl)
theorem dX0_reachedFrom_51 : decode cX0_reachedFrom 51 = .ok (.istore 5, 2) := dk_54 5 (dk_at dksX0_reachedFrom_2 5 rfl rfl)
theorem dX0_reachedFrom_53 : decode cX0_reachedFrom 53 = .ok (.iinc 6 1, 3) := dk_132 6 1 (dk_at dksX0_reachedFrom_2 7 rfl rfl)
theorem dX0_reachedFrom_56 : decode cX0_reachedFrom 56 = .ok (.goto (-38), 3) := dk_167 255 218 (dk_at dksX0_reachedFrom_2 10 rfl rfl)
theorem dX0_reachedFrom_59 : decode cX0_reachedFrom 59 = .ok (.iload 5, 2) := dk_21 5 (dk_at dksX0_reachedFrom_2 13 rfl rfl)
theorem dX0_reachedFrom_61 : decode cX0_reachedFrom 61 = .ok (.iload_n 3, 1) := dk_29 (dk_at dksX0_reachedFrom_2 15 rfl rfl)
theorem dX0_reachedFrom_62 : decode cX0_reachedFrom 62 = .ok (.iconst (-1), 1) := dk_2 (dk_at dksX0_reachedFrom_2 16 rfl rfl)
theorem dX0_reachedFrom_63 : decode cX0_reachedFrom 63 = .ok (.ixor, 1) := dk_130 (dk_at dksX0_reachedFrom_2 17 rfl rfl)
theorem dX0_reachedFrom_64 : decode cX0_reachedFrom 64 = .ok (.iand, 1) := dk_126 (dk_at dksX0_reachedFrom_2 18 rfl rfl)
theorem dX0_reachedFrom_65 : decode cX0_reachedFrom 65 = .ok (.istore 4, 2) := dk_54 4 (dk_at dksX0_reachedFrom_2 19 rfl rfl)
theorem dX0_reachedFrom_67 : decode cX0_reachedFrom 67 = .ok (.iload_n 3, 1) := dk_29 (dk_at dksX0_reachedFrom_2 21 rfl rfl)
theorem dX0_reachedFrom_68 : decode cX0_reachedFrom 68 = .ok (.iload 5, 2) := dk_21 5 (dk_at dksX0_reachedFrom_2 22 rfl rfl)
theorem dX0_reachedFrom_70 : decode cX0_reachedFrom 70 = .ok (.ior, 1) := dk_128 (dk_at dksX0_reachedFrom_3 0 rfl rfl)
theorem dX0_reachedFrom_71 : decode cX0_reachedFrom 71 = .ok (.istore_n 3, 1) := dk_62 (dk_at dksX0_reachedFrom_3 1 rfl rfl)
theorem dX0_reachedFrom_72 : decode cX0_reachedFrom 72 = .ok (.goto (-65), 3) := dk_167 255 191 (dk_at dksX0_reachedFrom_3 2 rfl rfl)
theorem dX0_reachedFrom_75 : decode cX0_reachedFrom 75 = .ok (.iload_n 3, 1) := dk_29 (dk_at dksX0_reachedFrom_3 5 rfl rfl)
theorem dX0_reachedFrom_76 : decode cX0_reachedFrom 76 = .ok (.ireturn, 1) := dk_172 (dk_at dksX0_reachedFrom_3 6 rfl rfl)
abbrev cX0_own : ByteArray := prog_1_method_36_code
def yX0_own : MethodName := ⟨RX0, "own", "(I)I"⟩
def dkwX0_own_2 : List UInt8 := [42, 180, 0, 19, 180, 0, 127, 46, 172]
abbrev dktX0_own_2 : List UInt8 := dkwX0_own_2 ++ []
def dkwX0_own_1 : List UInt8 := [180, 0, 82, 42, 180, 0, 19, 180, 0, 127, 46, 2, 160, 0, 8, 16, 254, 167, 0, 15, 42, 180, 0, 82]
abbrev dktX0_own_1 : List UInt8 := dkwX0_own_1 ++ dktX0_own_2
def dkwX0_own_0 : List UInt8 := [42, 27, 182, 0, 242, 154, 0, 5, 2, 172, 42, 182, 1, 6, 42, 182, 1, 12, 42, 27, 182, 1, 15, 42]
abbrev dktX0_own_0 : List UInt8 := dkwX0_own_0 ++ dktX0_own_1
theorem dksX0_own_0 : cX0_own.data.toList.drop 0 = dktX0_own_0 := by decide +kernel
theorem dksX0_own_1 : cX0_own.data.toList.drop 24 = dktX0_own_1 := dk_seg dksX0_own_0 24 rfl rfl
theorem dksX0_own_2 : cX0_own.data.toList.drop 48 = dktX0_own_2 := dk_seg dksX0_own_1 24 rfl rfl
theorem dX0_own_0 : decode cX0_own 0 = .ok (.aload_n 0, 1) := dk_42 (dk_at dksX0_own_0 0 rfl rfl)
theorem dX0_own_1 : decode cX0_own 1 = .ok (.iload_n 1, 1) := dk_27 (dk_at dksX0_own_0 1 rfl rfl)
theorem dX0_own_2 : decode cX0_own 2 = .ok (.invokevirtual 242, 3) := dk_182 0 242 (dk_at dksX0_own_0 2 rfl rfl)
theorem dX0_own_5 : decode cX0_own 5 = .ok (.ifCond .ne 5, 3) := dk_154 0 5 (dk_at dksX0_own_0 5 rfl rfl)
theorem dX0_own_8 : decode cX0_own 8 = .ok (.iconst (-1), 1) := dk_2 (dk_at dksX0_own_0 8 rfl rfl)
theorem dX0_own_9 : decode cX0_own 9 = .ok (.ireturn, 1) := dk_172 (dk_at dksX0_own_0 9 rfl rfl)
theorem dX0_own_10 : decode cX0_own 10 = .ok (.aload_n 0, 1) := dk_42 (dk_at dksX0_own_0 10 rfl rfl)
theorem dX0_own_11 : decode cX0_own 11 = .ok (.invokevirtual 262, 3) := dk_182 1 6 (dk_at dksX0_own_0 11 rfl rfl)
theorem dX0_own_14 : decode cX0_own 14 = .ok (.aload_n 0, 1) := dk_42 (dk_at dksX0_own_0 14 rfl rfl)
theorem dX0_own_15 : decode cX0_own 15 = .ok (.invokevirtual 268, 3) := dk_182 1 12 (dk_at dksX0_own_0 15 rfl rfl)
theorem dX0_own_18 : decode cX0_own 18 = .ok (.aload_n 0, 1) := dk_42 (dk_at dksX0_own_0 18 rfl rfl)
theorem dX0_own_19 : decode cX0_own 19 = .ok (.iload_n 1, 1) := dk_27 (dk_at dksX0_own_0 19 rfl rfl)
theorem dX0_own_20 : decode cX0_own 20 = .ok (.invokevirtual 271, 3) := dk_182 1 15 (dk_at dksX0_own_0 20 rfl rfl)
theorem dX0_own_23 : decode cX0_own 23 = .ok (.aload_n 0, 1) := dk_42 (dk_at dksX0_own_0 23 rfl rfl)
theorem dX0_own_24 : decode cX0_own 24 = .ok (.getfield 82, 3) := dk_180 0 82 (dk_at dksX0_own_1 0 rfl rfl)
theorem dX0_own_27 : decode cX0_own 27 = .ok (.aload_n 0, 1) := dk_42 (dk_at dksX0_own_1 3 rfl rfl)
theorem dX0_own_28 : decode cX0_own 28 = .ok (.getfield 19, 3) := dk_180 0 19 (dk_at dksX0_own_1 4 rfl rfl)
theorem dX0_own_31 : decode cX0_own 31 = .ok (.getfield 127, 3) := dk_180 0 127 (dk_at dksX0_own_1 7 rfl rfl)
theorem dX0_own_34 : decode cX0_own 34 = .ok (.iaload, 1) := dk_46 (dk_at dksX0_own_1 10 rfl rfl)
theorem dX0_own_35 : decode cX0_own 35 = .ok (.iconst (-1), 1) := dk_2 (dk_at dksX0_own_1 11 rfl rfl)
theorem dX0_own_36 : decode cX0_own 36 = .ok (.if_icmp .ne 8, 3) := dk_160 0 8 (dk_at dksX0_own_1 12 rfl rfl)
theorem dX0_own_39 : decode cX0_own 39 = .ok (.bipush (-2), 2) := dk_16 254 (dk_at dksX0_own_1 15 rfl rfl)
theorem dX0_own_41 : decode cX0_own 41 = .ok (.goto 15, 3) := dk_167 0 15 (dk_at dksX0_own_1 17 rfl rfl)
theorem dX0_own_44 : decode cX0_own 44 = .ok (.aload_n 0, 1) := dk_42 (dk_at dksX0_own_1 20 rfl rfl)
theorem dX0_own_45 : decode cX0_own 45 = .ok (.getfield 82, 3) := dk_180 0 82 (dk_at dksX0_own_1 21 rfl rfl)
theorem dX0_own_48 : decode cX0_own 48 = .ok (.aload_n 0, 1) := dk_42 (dk_at dksX0_own_2 0 rfl rfl)
theorem dX0_own_49 : decode cX0_own 49 = .ok (.getfield 19, 3) := dk_180 0 19 (dk_at dksX0_own_2 1 rfl rfl)
theorem dX0_own_52 : decode cX0_own 52 = .ok (.getfield 127, 3) := dk_180 0 127 (dk_at dksX0_own_2 4 rfl rfl)
theorem dX0_own_55 : decode cX0_own 55 = .ok (.iaload, 1) := dk_46 (dk_at dksX0_own_2 7 rfl rfl)
theorem dX0_own_56 : decode cX0_own 56 = .ok (.ireturn, 1) := dk_172 (dk_at dksX0_own_2 8 rfl rfl)
abbrev cX0_laysLasts : ByteArray := prog_1_method_34_code
def yX0_laysLasts : MethodName := ⟨RX0, "laysLasts", "()V"⟩
def dkwX0_laysLasts_3 : List UInt8 := [120, 128, 79, 132, 2, 1, 167, 255, 215, 132, 1, 1, 167, 255, 176, 177]
abbrev dktX0_laysLasts_3 : List UInt8 := dkwX0_laysLasts_3 ++ []
def dkwX0_laysLasts_2 : List UInt8 := [153, 0, 27, 42, 4, 28, 120, 27, 182, 1, 9, 27, 160, 0, 15, 42, 180, 0, 79, 27, 92, 46, 4, 28]
abbrev dktX0_laysLasts_2 : List UInt8 := dkwX0_laysLasts_2 ++ dktX0_laysLasts_3
def dkwX0_laysLasts_1 : List UInt8 := [2, 130, 126, 153, 0, 6, 167, 0, 49, 3, 61, 28, 16, 8, 162, 0, 41, 27, 28, 184, 0, 130]
abbrev dktX0_laysLasts_1 : List UInt8 := dkwX0_laysLasts_1 ++ dktX0_laysLasts_2
def dkwX0_laysLasts_0 : List UInt8 := [3, 60, 27, 17, 1, 0, 162, 0, 79, 42, 180, 0, 79, 27, 3, 79, 27, 42, 180, 0, 19, 180, 0, 127]
abbrev dktX0_laysLasts_0 : List UInt8 := dkwX0_laysLasts_0 ++ dktX0_laysLasts_1
theorem dksX0_laysLasts_0 : cX0_laysLasts.data.toList.drop 0 = dktX0_laysLasts_0 := by decide +kernel
theorem dksX0_laysLasts_1 : cX0_laysLasts.data.toList.drop 24 = dktX0_laysLasts_1 := dk_seg dksX0_laysLasts_0 24 rfl rfl
theorem dksX0_laysLasts_2 : cX0_laysLasts.data.toList.drop 46 = dktX0_laysLasts_2 := dk_seg dksX0_laysLasts_1 22 rfl rfl
theorem dksX0_laysLasts_3 : cX0_laysLasts.data.toList.drop 70 = dktX0_laysLasts_3 := dk_seg dksX0_laysLasts_2 24 rfl rfl
theorem dX0_laysLasts_0 : decode cX0_laysLasts 0 = .ok (.iconst 0, 1) := dk_3 (dk_at dksX0_laysLasts_0 0 rfl rfl)
theorem dX0_laysLasts_1 : decode cX0_laysLasts 1 = .ok (.istore_n 1, 1) := dk_60 (dk_at dksX0_laysLasts_0 1 rfl rfl)
theorem dX0_laysLasts_2 : decode cX0_laysLasts 2 = .ok (.iload_n 1, 1) := dk_27 (dk_at dksX0_laysLasts_0 2 rfl rfl)
theorem dX0_laysLasts_3 : decode cX0_laysLasts 3 = .ok (.sipush 256, 3) := dk_17 1 0 (dk_at dksX0_laysLasts_0 3 rfl rfl)
theorem dX0_laysLasts_6 : decode cX0_laysLasts 6 = .ok (.if_icmp .ge 79, 3) := dk_162 0 79 (dk_at dksX0_laysLasts_0 6 rfl rfl)
theorem dX0_laysLasts_9 : decode cX0_laysLasts 9 = .ok (.aload_n 0, 1) := dk_42 (dk_at dksX0_laysLasts_0 9 rfl rfl)
theorem dX0_laysLasts_10 : decode cX0_laysLasts 10 = .ok (.getfield 79, 3) := dk_180 0 79 (dk_at dksX0_laysLasts_0 10 rfl rfl)
theorem dX0_laysLasts_13 : decode cX0_laysLasts 13 = .ok (.iload_n 1, 1) := dk_27 (dk_at dksX0_laysLasts_0 13 rfl rfl)
theorem dX0_laysLasts_14 : decode cX0_laysLasts 14 = .ok (.iconst 0, 1) := dk_3 (dk_at dksX0_laysLasts_0 14 rfl rfl)
theorem dX0_laysLasts_15 : decode cX0_laysLasts 15 = .ok (.iastore, 1) := dk_79 (dk_at dksX0_laysLasts_0 15 rfl rfl)
theorem dX0_laysLasts_16 : decode cX0_laysLasts 16 = .ok (.iload_n 1, 1) := dk_27 (dk_at dksX0_laysLasts_0 16 rfl rfl)
theorem dX0_laysLasts_17 : decode cX0_laysLasts 17 = .ok (.aload_n 0, 1) := dk_42 (dk_at dksX0_laysLasts_0 17 rfl rfl)
theorem dX0_laysLasts_18 : decode cX0_laysLasts 18 = .ok (.getfield 19, 3) := dk_180 0 19 (dk_at dksX0_laysLasts_0 18 rfl rfl)
theorem dX0_laysLasts_21 : decode cX0_laysLasts 21 = .ok (.getfield 127, 3) := dk_180 0 127 (dk_at dksX0_laysLasts_0 21 rfl rfl)
theorem dX0_laysLasts_24 : decode cX0_laysLasts 24 = .ok (.iconst (-1), 1) := dk_2 (dk_at dksX0_laysLasts_1 0 rfl rfl)
theorem dX0_laysLasts_25 : decode cX0_laysLasts 25 = .ok (.ixor, 1) := dk_130 (dk_at dksX0_laysLasts_1 1 rfl rfl)
theorem dX0_laysLasts_26 : decode cX0_laysLasts 26 = .ok (.iand, 1) := dk_126 (dk_at dksX0_laysLasts_1 2 rfl rfl)
theorem dX0_laysLasts_27 : decode cX0_laysLasts 27 = .ok (.ifCond .eq 6, 3) := dk_153 0 6 (dk_at dksX0_laysLasts_1 3 rfl rfl)
theorem dX0_laysLasts_30 : decode cX0_laysLasts 30 = .ok (.goto 49, 3) := dk_167 0 49 (dk_at dksX0_laysLasts_1 6 rfl rfl)
theorem dX0_laysLasts_33 : decode cX0_laysLasts 33 = .ok (.iconst 0, 1) := dk_3 (dk_at dksX0_laysLasts_1 9 rfl rfl)
theorem dX0_laysLasts_34 : decode cX0_laysLasts 34 = .ok (.istore_n 2, 1) := dk_61 (dk_at dksX0_laysLasts_1 10 rfl rfl)
theorem dX0_laysLasts_35 : decode cX0_laysLasts 35 = .ok (.iload_n 2, 1) := dk_28 (dk_at dksX0_laysLasts_1 11 rfl rfl)
theorem dX0_laysLasts_36 : decode cX0_laysLasts 36 = .ok (.bipush 8, 2) := dk_16 8 (dk_at dksX0_laysLasts_1 12 rfl rfl)
theorem dX0_laysLasts_38 : decode cX0_laysLasts 38 = .ok (.if_icmp .ge 41, 3) := dk_162 0 41 (dk_at dksX0_laysLasts_1 14 rfl rfl)
theorem dX0_laysLasts_41 : decode cX0_laysLasts 41 = .ok (.iload_n 1, 1) := dk_27 (dk_at dksX0_laysLasts_1 17 rfl rfl)
theorem dX0_laysLasts_42 : decode cX0_laysLasts 42 = .ok (.iload_n 2, 1) := dk_28 (dk_at dksX0_laysLasts_1 18 rfl rfl)
theorem dX0_laysLasts_43 : decode cX0_laysLasts 43 = .ok (.invokestatic 130, 3) := dk_184 0 130 (dk_at dksX0_laysLasts_1 19 rfl rfl)
theorem dX0_laysLasts_46 : decode cX0_laysLasts 46 = .ok (.ifCond .eq 27, 3) := dk_153 0 27 (dk_at dksX0_laysLasts_2 0 rfl rfl)
theorem dX0_laysLasts_49 : decode cX0_laysLasts 49 = .ok (.aload_n 0, 1) := dk_42 (dk_at dksX0_laysLasts_2 3 rfl rfl)
theorem dX0_laysLasts_50 : decode cX0_laysLasts 50 = .ok (.iconst 1, 1) := dk_4 (dk_at dksX0_laysLasts_2 4 rfl rfl)
theorem dX0_laysLasts_51 : decode cX0_laysLasts 51 = .ok (.iload_n 2, 1) := dk_28 (dk_at dksX0_laysLasts_2 5 rfl rfl)
theorem dX0_laysLasts_52 : decode cX0_laysLasts 52 = .ok (.ishl, 1) := dk_120 (dk_at dksX0_laysLasts_2 6 rfl rfl)
theorem dX0_laysLasts_53 : decode cX0_laysLasts 53 = .ok (.iload_n 1, 1) := dk_27 (dk_at dksX0_laysLasts_2 7 rfl rfl)
theorem dX0_laysLasts_54 : decode cX0_laysLasts 54 = .ok (.invokevirtual 265, 3) := dk_182 1 9 (dk_at dksX0_laysLasts_2 8 rfl rfl)
theorem dX0_laysLasts_57 : decode cX0_laysLasts 57 = .ok (.iload_n 1, 1) := dk_27 (dk_at dksX0_laysLasts_2 11 rfl rfl)
theorem dX0_laysLasts_58 : decode cX0_laysLasts 58 = .ok (.if_icmp .ne 15, 3) := dk_160 0 15 (dk_at dksX0_laysLasts_2 12 rfl rfl)
theorem dX0_laysLasts_61 : decode cX0_laysLasts 61 = .ok (.aload_n 0, 1) := dk_42 (dk_at dksX0_laysLasts_2 15 rfl rfl)
theorem dX0_laysLasts_62 : decode cX0_laysLasts 62 = .ok (.getfield 79, 3) := dk_180 0 79 (dk_at dksX0_laysLasts_2 16 rfl rfl)
theorem dX0_laysLasts_65 : decode cX0_laysLasts 65 = .ok (.iload_n 1, 1) := dk_27 (dk_at dksX0_laysLasts_2 19 rfl rfl)
theorem dX0_laysLasts_66 : decode cX0_laysLasts 66 = .ok (.dup2, 1) := dk_92 (dk_at dksX0_laysLasts_2 20 rfl rfl)
theorem dX0_laysLasts_67 : decode cX0_laysLasts 67 = .ok (.iaload, 1) := dk_46 (dk_at dksX0_laysLasts_2 21 rfl rfl)
theorem dX0_laysLasts_68 : decode cX0_laysLasts 68 = .ok (.iconst 1, 1) := dk_4 (dk_at dksX0_laysLasts_2 22 rfl rfl)
theorem dX0_laysLasts_69 : decode cX0_laysLasts 69 = .ok (.iload_n 2, 1) := dk_28 (dk_at dksX0_laysLasts_2 23 rfl rfl)
theorem dX0_laysLasts_70 : decode cX0_laysLasts 70 = .ok (.ishl, 1) := dk_120 (dk_at dksX0_laysLasts_3 0 rfl rfl)
theorem dX0_laysLasts_71 : decode cX0_laysLasts 71 = .ok (.ior, 1) := dk_128 (dk_at dksX0_laysLasts_3 1 rfl rfl)
theorem dX0_laysLasts_72 : decode cX0_laysLasts 72 = .ok (.iastore, 1) := dk_79 (dk_at dksX0_laysLasts_3 2 rfl rfl)
theorem dX0_laysLasts_73 : decode cX0_laysLasts 73 = .ok (.iinc 2 1, 3) := dk_132 2 1 (dk_at dksX0_laysLasts_3 3 rfl rfl)
theorem dX0_laysLasts_76 : decode cX0_laysLasts 76 = .ok (.goto (-41), 3) := dk_167 255 215 (dk_at dksX0_laysLasts_3 6 rfl rfl)
theorem dX0_laysLasts_79 : decode cX0_laysLasts 79 = .ok (.iinc 1 1, 3) := dk_132 1 1 (dk_at dksX0_laysLasts_3 9 rfl rfl)
theorem dX0_laysLasts_82 : decode cX0_laysLasts 82 = .ok (.goto (-80), 3) := dk_167 255 176 (dk_at dksX0_laysLasts_3 12 rfl rfl)
theorem dX0_laysLasts_85 : decode cX0_laysLasts 85 = .ok (.return_, 1) := dk_177 (dk_at dksX0_laysLasts_3 15 rfl rfl)
abbrev cX0_laysBouts : ByteArray := prog_1_method_35_code
def yX0_laysBouts : MethodName := ⟨RX0, "laysBouts", "(I)V"⟩
def dkwX0_laysBouts_6 : List UInt8 := [100, 29, 126, 54, 4, 167, 255, 171, 132, 2, 1, 167, 255, 104, 177]
abbrev dktX0_laysBouts_6 : List UInt8 := dkwX0_laysBouts_6 ++ []
def dkwX0_laysBouts_5 : List UInt8 := [4, 96, 42, 180, 0, 82, 28, 46, 162, 0, 13, 42, 180, 0, 82, 28, 21, 5, 4, 96, 79, 21, 4, 4]
abbrev dktX0_laysBouts_5 : List UInt8 := dkwX0_laysBouts_5 ++ dktX0_laysBouts_6
def dkwX0_laysBouts_4 : List UInt8 := [153, 0, 45, 21, 5, 2, 160, 0, 6, 167, 0, 36, 42, 180, 0, 82, 28, 46, 2, 159, 0, 16, 21, 5]
abbrev dktX0_laysBouts_4 : List UInt8 := dkwX0_laysBouts_4 ++ dktX0_laysBouts_5
def dkwX0_laysBouts_3 : List UInt8 := [28, 21, 4, 2, 130, 126, 46, 54, 5, 42, 180, 0, 79, 21, 4, 46, 42, 180, 0, 76, 27, 46, 126]
abbrev dktX0_laysBouts_3 : List UInt8 := dkwX0_laysBouts_3 ++ dktX0_laysBouts_4
def dkwX0_laysBouts_2 : List UInt8 := [62, 29, 154, 0, 10, 42, 180, 0, 82, 28, 3, 79, 29, 54, 4, 21, 4, 153, 0, 86, 42, 180, 0, 82]
abbrev dktX0_laysBouts_2 : List UInt8 := dkwX0_laysBouts_2 ++ dktX0_laysBouts_3
def dkwX0_laysBouts_1 : List UInt8 := [28, 42, 180, 0, 19, 180, 0, 127, 2, 130, 126, 153, 0, 6, 167, 0, 113, 28, 4, 27, 120, 2, 130, 126]
abbrev dktX0_laysBouts_1 : List UInt8 := dkwX0_laysBouts_1 ++ dktX0_laysBouts_2
def dkwX0_laysBouts_0 : List UInt8 := [3, 61, 28, 17, 1, 0, 162, 0, 151, 42, 180, 0, 82, 28, 2, 79, 28, 27, 184, 0, 130, 153, 0, 130]
abbrev dktX0_laysBouts_0 : List UInt8 := dkwX0_laysBouts_0 ++ dktX0_laysBouts_1
theorem dksX0_laysBouts_0 : cX0_laysBouts.data.toList.drop 0 = dktX0_laysBouts_0 := by decide +kernel
theorem dksX0_laysBouts_1 : cX0_laysBouts.data.toList.drop 24 = dktX0_laysBouts_1 := dk_seg dksX0_laysBouts_0 24 rfl rfl
theorem dksX0_laysBouts_2 : cX0_laysBouts.data.toList.drop 48 = dktX0_laysBouts_2 := dk_seg dksX0_laysBouts_1 24 rfl rfl
theorem dksX0_laysBouts_3 : cX0_laysBouts.data.toList.drop 72 = dktX0_laysBouts_3 := dk_seg dksX0_laysBouts_2 24 rfl rfl
theorem dksX0_laysBouts_4 : cX0_laysBouts.data.toList.drop 95 = dktX0_laysBouts_4 := dk_seg dksX0_laysBouts_3 23 rfl rfl
theorem dksX0_laysBouts_5 : cX0_laysBouts.data.toList.drop 119 = dktX0_laysBouts_5 := dk_seg dksX0_laysBouts_4 24 rfl rfl
theorem dksX0_laysBouts_6 : cX0_laysBouts.data.toList.drop 143 = dktX0_laysBouts_6 := dk_seg dksX0_laysBouts_5 24 rfl rfl
theorem dX0_laysBouts_0 : decode cX0_laysBouts 0 = .ok (.iconst 0, 1) := dk_3 (dk_at dksX0_laysBouts_0 0 rfl rfl)
theorem dX0_laysBouts_1 : decode cX0_laysBouts 1 = .ok (.istore_n 2, 1) := dk_61 (dk_at dksX0_laysBouts_0 1 rfl rfl)
theorem dX0_laysBouts_2 : decode cX0_laysBouts 2 = .ok (.iload_n 2, 1) := dk_28 (dk_at dksX0_laysBouts_0 2 rfl rfl)
theorem dX0_laysBouts_3 : decode cX0_laysBouts 3 = .ok (.sipush 256, 3) := dk_17 1 0 (dk_at dksX0_laysBouts_0 3 rfl rfl)
theorem dX0_laysBouts_6 : decode cX0_laysBouts 6 = .ok (.if_icmp .ge 151, 3) := dk_162 0 151 (dk_at dksX0_laysBouts_0 6 rfl rfl)
theorem dX0_laysBouts_9 : decode cX0_laysBouts 9 = .ok (.aload_n 0, 1) := dk_42 (dk_at dksX0_laysBouts_0 9 rfl rfl)
theorem dX0_laysBouts_10 : decode cX0_laysBouts 10 = .ok (.getfield 82, 3) := dk_180 0 82 (dk_at dksX0_laysBouts_0 10 rfl rfl)
theorem dX0_laysBouts_13 : decode cX0_laysBouts 13 = .ok (.iload_n 2, 1) := dk_28 (dk_at dksX0_laysBouts_0 13 rfl rfl)
theorem dX0_laysBouts_14 : decode cX0_laysBouts 14 = .ok (.iconst (-1), 1) := dk_2 (dk_at dksX0_laysBouts_0 14 rfl rfl)
theorem dX0_laysBouts_15 : decode cX0_laysBouts 15 = .ok (.iastore, 1) := dk_79 (dk_at dksX0_laysBouts_0 15 rfl rfl)
theorem dX0_laysBouts_16 : decode cX0_laysBouts 16 = .ok (.iload_n 2, 1) := dk_28 (dk_at dksX0_laysBouts_0 16 rfl rfl)
theorem dX0_laysBouts_17 : decode cX0_laysBouts 17 = .ok (.iload_n 1, 1) := dk_27 (dk_at dksX0_laysBouts_0 17 rfl rfl)
theorem dX0_laysBouts_18 : decode cX0_laysBouts 18 = .ok (.invokestatic 130, 3) := dk_184 0 130 (dk_at dksX0_laysBouts_0 18 rfl rfl)
theorem dX0_laysBouts_21 : decode cX0_laysBouts 21 = .ok (.ifCond .eq 130, 3) := dk_153 0 130 (dk_at dksX0_laysBouts_0 21 rfl rfl)
theorem dX0_laysBouts_24 : decode cX0_laysBouts 24 = .ok (.iload_n 2, 1) := dk_28 (dk_at dksX0_laysBouts_1 0 rfl rfl)
theorem dX0_laysBouts_25 : decode cX0_laysBouts 25 = .ok (.aload_n 0, 1) := dk_42 (dk_at dksX0_laysBouts_1 1 rfl rfl)
theorem dX0_laysBouts_26 : decode cX0_laysBouts 26 = .ok (.getfield 19, 3) := dk_180 0 19 (dk_at dksX0_laysBouts_1 2 rfl rfl)
theorem dX0_laysBouts_29 : decode cX0_laysBouts 29 = .ok (.getfield 127, 3) := dk_180 0 127 (dk_at dksX0_laysBouts_1 5 rfl rfl)
theorem dX0_laysBouts_32 : decode cX0_laysBouts 32 = .ok (.iconst (-1), 1) := dk_2 (dk_at dksX0_laysBouts_1 8 rfl rfl)
theorem dX0_laysBouts_33 : decode cX0_laysBouts 33 = .ok (.ixor, 1) := dk_130 (dk_at dksX0_laysBouts_1 9 rfl rfl)
theorem dX0_laysBouts_34 : decode cX0_laysBouts 34 = .ok (.iand, 1) := dk_126 (dk_at dksX0_laysBouts_1 10 rfl rfl)
theorem dX0_laysBouts_35 : decode cX0_laysBouts 35 = .ok (.ifCond .eq 6, 3) := dk_153 0 6 (dk_at dksX0_laysBouts_1 11 rfl rfl)
theorem dX0_laysBouts_38 : decode cX0_laysBouts 38 = .ok (.goto 113, 3) := dk_167 0 113 (dk_at dksX0_laysBouts_1 14 rfl rfl)
theorem dX0_laysBouts_41 : decode cX0_laysBouts 41 = .ok (.iload_n 2, 1) := dk_28 (dk_at dksX0_laysBouts_1 17 rfl rfl)
theorem dX0_laysBouts_42 : decode cX0_laysBouts 42 = .ok (.iconst 1, 1) := dk_4 (dk_at dksX0_laysBouts_1 18 rfl rfl)
theorem dX0_laysBouts_43 : decode cX0_laysBouts 43 = .ok (.iload_n 1, 1) := dk_27 (dk_at dksX0_laysBouts_1 19 rfl rfl)
theorem dX0_laysBouts_44 : decode cX0_laysBouts 44 = .ok (.ishl, 1) := dk_120 (dk_at dksX0_laysBouts_1 20 rfl rfl)
theorem dX0_laysBouts_45 : decode cX0_laysBouts 45 = .ok (.iconst (-1), 1) := dk_2 (dk_at dksX0_laysBouts_1 21 rfl rfl)
theorem dX0_laysBouts_46 : decode cX0_laysBouts 46 = .ok (.ixor, 1) := dk_130 (dk_at dksX0_laysBouts_1 22 rfl rfl)
theorem dX0_laysBouts_47 : decode cX0_laysBouts 47 = .ok (.iand, 1) := dk_126 (dk_at dksX0_laysBouts_1 23 rfl rfl)
theorem dX0_laysBouts_48 : decode cX0_laysBouts 48 = .ok (.istore_n 3, 1) := dk_62 (dk_at dksX0_laysBouts_2 0 rfl rfl)
theorem dX0_laysBouts_49 : decode cX0_laysBouts 49 = .ok (.iload_n 3, 1) := dk_29 (dk_at dksX0_laysBouts_2 1 rfl rfl)
theorem dX0_laysBouts_50 : decode cX0_laysBouts 50 = .ok (.ifCond .ne 10, 3) := dk_154 0 10 (dk_at dksX0_laysBouts_2 2 rfl rfl)
theorem dX0_laysBouts_53 : decode cX0_laysBouts 53 = .ok (.aload_n 0, 1) := dk_42 (dk_at dksX0_laysBouts_2 5 rfl rfl)
theorem dX0_laysBouts_54 : decode cX0_laysBouts 54 = .ok (.getfield 82, 3) := dk_180 0 82 (dk_at dksX0_laysBouts_2 6 rfl rfl)
theorem dX0_laysBouts_57 : decode cX0_laysBouts 57 = .ok (.iload_n 2, 1) := dk_28 (dk_at dksX0_laysBouts_2 9 rfl rfl)
theorem dX0_laysBouts_58 : decode cX0_laysBouts 58 = .ok (.iconst 0, 1) := dk_3 (dk_at dksX0_laysBouts_2 10 rfl rfl)
theorem dX0_laysBouts_59 : decode cX0_laysBouts 59 = .ok (.iastore, 1) := dk_79 (dk_at dksX0_laysBouts_2 11 rfl rfl)
theorem dX0_laysBouts_60 : decode cX0_laysBouts 60 = .ok (.iload_n 3, 1) := dk_29 (dk_at dksX0_laysBouts_2 12 rfl rfl)
theorem dX0_laysBouts_61 : decode cX0_laysBouts 61 = .ok (.istore 4, 2) := dk_54 4 (dk_at dksX0_laysBouts_2 13 rfl rfl)
theorem dX0_laysBouts_63 : decode cX0_laysBouts 63 = .ok (.iload 4, 2) := dk_21 4 (dk_at dksX0_laysBouts_2 15 rfl rfl)
theorem dX0_laysBouts_65 : decode cX0_laysBouts 65 = .ok (.ifCond .eq 86, 3) := dk_153 0 86 (dk_at dksX0_laysBouts_2 17 rfl rfl)
theorem dX0_laysBouts_68 : decode cX0_laysBouts 68 = .ok (.aload_n 0, 1) := dk_42 (dk_at dksX0_laysBouts_2 20 rfl rfl)
theorem dX0_laysBouts_69 : decode cX0_laysBouts 69 = .ok (.getfield 82, 3) := dk_180 0 82 (dk_at dksX0_laysBouts_2 21 rfl rfl)
theorem dX0_laysBouts_72 : decode cX0_laysBouts 72 = .ok (.iload_n 2, 1) := dk_28 (dk_at dksX0_laysBouts_3 0 rfl rfl)
theorem dX0_laysBouts_73 : decode cX0_laysBouts 73 = .ok (.iload 4, 2) := dk_21 4 (dk_at dksX0_laysBouts_3 1 rfl rfl)
theorem dX0_laysBouts_75 : decode cX0_laysBouts 75 = .ok (.iconst (-1), 1) := dk_2 (dk_at dksX0_laysBouts_3 3 rfl rfl)
theorem dX0_laysBouts_76 : decode cX0_laysBouts 76 = .ok (.ixor, 1) := dk_130 (dk_at dksX0_laysBouts_3 4 rfl rfl)
theorem dX0_laysBouts_77 : decode cX0_laysBouts 77 = .ok (.iand, 1) := dk_126 (dk_at dksX0_laysBouts_3 5 rfl rfl)
theorem dX0_laysBouts_78 : decode cX0_laysBouts 78 = .ok (.iaload, 1) := dk_46 (dk_at dksX0_laysBouts_3 6 rfl rfl)
theorem dX0_laysBouts_79 : decode cX0_laysBouts 79 = .ok (.istore 5, 2) := dk_54 5 (dk_at dksX0_laysBouts_3 7 rfl rfl)
theorem dX0_laysBouts_81 : decode cX0_laysBouts 81 = .ok (.aload_n 0, 1) := dk_42 (dk_at dksX0_laysBouts_3 9 rfl rfl)
theorem dX0_laysBouts_82 : decode cX0_laysBouts 82 = .ok (.getfield 79, 3) := dk_180 0 79 (dk_at dksX0_laysBouts_3 10 rfl rfl)
theorem dX0_laysBouts_85 : decode cX0_laysBouts 85 = .ok (.iload 4, 2) := dk_21 4 (dk_at dksX0_laysBouts_3 13 rfl rfl)
theorem dX0_laysBouts_87 : decode cX0_laysBouts 87 = .ok (.iaload, 1) := dk_46 (dk_at dksX0_laysBouts_3 15 rfl rfl)
theorem dX0_laysBouts_88 : decode cX0_laysBouts 88 = .ok (.aload_n 0, 1) := dk_42 (dk_at dksX0_laysBouts_3 16 rfl rfl)
theorem dX0_laysBouts_89 : decode cX0_laysBouts 89 = .ok (.getfield 76, 3) := dk_180 0 76 (dk_at dksX0_laysBouts_3 17 rfl rfl)
theorem dX0_laysBouts_92 : decode cX0_laysBouts 92 = .ok (.iload_n 1, 1) := dk_27 (dk_at dksX0_laysBouts_3 20 rfl rfl)
theorem dX0_laysBouts_93 : decode cX0_laysBouts 93 = .ok (.iaload, 1) := dk_46 (dk_at dksX0_laysBouts_3 21 rfl rfl)
theorem dX0_laysBouts_94 : decode cX0_laysBouts 94 = .ok (.iand, 1) := dk_126 (dk_at dksX0_laysBouts_3 22 rfl rfl)
theorem dX0_laysBouts_95 : decode cX0_laysBouts 95 = .ok (.ifCond .eq 45, 3) := dk_153 0 45 (dk_at dksX0_laysBouts_4 0 rfl rfl)
theorem dX0_laysBouts_98 : decode cX0_laysBouts 98 = .ok (.iload 5, 2) := dk_21 5 (dk_at dksX0_laysBouts_4 3 rfl rfl)
theorem dX0_laysBouts_100 : decode cX0_laysBouts 100 = .ok (.iconst (-1), 1) := dk_2 (dk_at dksX0_laysBouts_4 5 rfl rfl)
theorem dX0_laysBouts_101 : decode cX0_laysBouts 101 = .ok (.if_icmp .ne 6, 3) := dk_160 0 6 (dk_at dksX0_laysBouts_4 6 rfl rfl)
theorem dX0_laysBouts_104 : decode cX0_laysBouts 104 = .ok (.goto 36, 3) := dk_167 0 36 (dk_at dksX0_laysBouts_4 9 rfl rfl)
theorem dX0_laysBouts_107 : decode cX0_laysBouts 107 = .ok (.aload_n 0, 1) := dk_42 (dk_at dksX0_laysBouts_4 12 rfl rfl)
theorem dX0_laysBouts_108 : decode cX0_laysBouts 108 = .ok (.getfield 82, 3) := dk_180 0 82 (dk_at dksX0_laysBouts_4 13 rfl rfl)
theorem dX0_laysBouts_111 : decode cX0_laysBouts 111 = .ok (.iload_n 2, 1) := dk_28 (dk_at dksX0_laysBouts_4 16 rfl rfl)
theorem dX0_laysBouts_112 : decode cX0_laysBouts 112 = .ok (.iaload, 1) := dk_46 (dk_at dksX0_laysBouts_4 17 rfl rfl)
theorem dX0_laysBouts_113 : decode cX0_laysBouts 113 = .ok (.iconst (-1), 1) := dk_2 (dk_at dksX0_laysBouts_4 18 rfl rfl)
theorem dX0_laysBouts_114 : decode cX0_laysBouts 114 = .ok (.if_icmp .eq 16, 3) := dk_159 0 16 (dk_at dksX0_laysBouts_4 19 rfl rfl)
theorem dX0_laysBouts_117 : decode cX0_laysBouts 117 = .ok (.iload 5, 2) := dk_21 5 (dk_at dksX0_laysBouts_4 22 rfl rfl)
theorem dX0_laysBouts_119 : decode cX0_laysBouts 119 = .ok (.iconst 1, 1) := dk_4 (dk_at dksX0_laysBouts_5 0 rfl rfl)
theorem dX0_laysBouts_120 : decode cX0_laysBouts 120 = .ok (.iadd, 1) := dk_96 (dk_at dksX0_laysBouts_5 1 rfl rfl)
theorem dX0_laysBouts_121 : decode cX0_laysBouts 121 = .ok (.aload_n 0, 1) := dk_42 (dk_at dksX0_laysBouts_5 2 rfl rfl)
theorem dX0_laysBouts_122 : decode cX0_laysBouts 122 = .ok (.getfield 82, 3) := dk_180 0 82 (dk_at dksX0_laysBouts_5 3 rfl rfl)
theorem dX0_laysBouts_125 : decode cX0_laysBouts 125 = .ok (.iload_n 2, 1) := dk_28 (dk_at dksX0_laysBouts_5 6 rfl rfl)
theorem dX0_laysBouts_126 : decode cX0_laysBouts 126 = .ok (.iaload, 1) := dk_46 (dk_at dksX0_laysBouts_5 7 rfl rfl)
theorem dX0_laysBouts_127 : decode cX0_laysBouts 127 = .ok (.if_icmp .ge 13, 3) := dk_162 0 13 (dk_at dksX0_laysBouts_5 8 rfl rfl)
theorem dX0_laysBouts_130 : decode cX0_laysBouts 130 = .ok (.aload_n 0, 1) := dk_42 (dk_at dksX0_laysBouts_5 11 rfl rfl)
theorem dX0_laysBouts_131 : decode cX0_laysBouts 131 = .ok (.getfield 82, 3) := dk_180 0 82 (dk_at dksX0_laysBouts_5 12 rfl rfl)
theorem dX0_laysBouts_134 : decode cX0_laysBouts 134 = .ok (.iload_n 2, 1) := dk_28 (dk_at dksX0_laysBouts_5 15 rfl rfl)
theorem dX0_laysBouts_135 : decode cX0_laysBouts 135 = .ok (.iload 5, 2) := dk_21 5 (dk_at dksX0_laysBouts_5 16 rfl rfl)
theorem dX0_laysBouts_137 : decode cX0_laysBouts 137 = .ok (.iconst 1, 1) := dk_4 (dk_at dksX0_laysBouts_5 18 rfl rfl)
theorem dX0_laysBouts_138 : decode cX0_laysBouts 138 = .ok (.iadd, 1) := dk_96 (dk_at dksX0_laysBouts_5 19 rfl rfl)
theorem dX0_laysBouts_139 : decode cX0_laysBouts 139 = .ok (.iastore, 1) := dk_79 (dk_at dksX0_laysBouts_5 20 rfl rfl)
theorem dX0_laysBouts_140 : decode cX0_laysBouts 140 = .ok (.iload 4, 2) := dk_21 4 (dk_at dksX0_laysBouts_5 21 rfl rfl)
theorem dX0_laysBouts_142 : decode cX0_laysBouts 142 = .ok (.iconst 1, 1) := dk_4 (dk_at dksX0_laysBouts_5 23 rfl rfl)
theorem dX0_laysBouts_143 : decode cX0_laysBouts 143 = .ok (.isub, 1) := dk_100 (dk_at dksX0_laysBouts_6 0 rfl rfl)
theorem dX0_laysBouts_144 : decode cX0_laysBouts 144 = .ok (.iload_n 3, 1) := dk_29 (dk_at dksX0_laysBouts_6 1 rfl rfl)
theorem dX0_laysBouts_145 : decode cX0_laysBouts 145 = .ok (.iand, 1) := dk_126 (dk_at dksX0_laysBouts_6 2 rfl rfl)
theorem dX0_laysBouts_146 : decode cX0_laysBouts 146 = .ok (.istore 4, 2) := dk_54 4 (dk_at dksX0_laysBouts_6 3 rfl rfl)
theorem dX0_laysBouts_148 : decode cX0_laysBouts 148 = .ok (.goto (-85), 3) := dk_167 255 171 (dk_at dksX0_laysBouts_6 5 rfl rfl)
theorem dX0_laysBouts_151 : decode cX0_laysBouts 151 = .ok (.iinc 2 1, 3) := dk_132 2 1 (dk_at dksX0_laysBouts_6 8 rfl rfl)
theorem dX0_laysBouts_154 : decode cX0_laysBouts 154 = .ok (.goto (-152), 3) := dk_167 255 104 (dk_at dksX0_laysBouts_6 11 rfl rfl)
theorem dX0_laysBouts_157 : decode cX0_laysBouts 157 = .ok (.return_, 1) := dk_177 (dk_at dksX0_laysBouts_6 14 rfl rfl)
abbrev cX0_cups : ByteArray := prog_1_method_40_code
def yX0_cups : MethodName := ⟨RX0, "cups", "(I)I"⟩
def dkwX0_cups_5 : List UInt8 := [180, 0, 127, 104, 21, 4, 96, 46, 96, 62, 132, 4, 1, 167, 255, 225, 29, 172]
abbrev dktX0_cups_5 : List UInt8 := dkwX0_cups_5 ++ []
def dkwX0_cups_4 : List UInt8 := [62, 3, 54, 4, 21, 4, 16, 8, 162, 0, 30, 29, 42, 180, 0, 85, 16, 8, 42, 180, 0, 19]
abbrev dktX0_cups_4 : List UInt8 := dkwX0_cups_4 ++ dktX0_cups_5
def dkwX0_cups_3 : List UInt8 := [27, 2, 159, 0, 21, 42, 180, 0, 85, 16, 8, 42, 180, 0, 19, 180, 0, 127, 104, 27, 96, 46, 172, 3]
abbrev dktX0_cups_3 : List UInt8 := dkwX0_cups_3 ++ dktX0_cups_4
def dkwX0_cups_2 : List UInt8 := [159, 0, 6, 16, 253, 172, 27, 42, 180, 0, 10, 182, 0, 115, 161, 0, 6, 16, 254, 172, 42, 182, 1, 29]
abbrev dktX0_cups_2 : List UInt8 := dkwX0_cups_2 ++ dktX0_cups_3
def dkwX0_cups_1 : List UInt8 := [20, 1, 27, 184, 0, 119, 153, 0, 19, 28, 5, 159, 0, 17, 28, 7, 159, 0, 12, 28, 16, 8]
abbrev dktX0_cups_1 : List UInt8 := dkwX0_cups_1 ++ dktX0_cups_2
def dkwX0_cups_0 : List UInt8 := [42, 180, 0, 19, 180, 0, 127, 184, 0, 186, 61, 42, 182, 0, 235, 153, 0, 33, 27, 133, 20, 0, 168]
abbrev dktX0_cups_0 : List UInt8 := dkwX0_cups_0 ++ dktX0_cups_1
theorem dksX0_cups_0 : cX0_cups.data.toList.drop 0 = dktX0_cups_0 := by decide +kernel
theorem dksX0_cups_1 : cX0_cups.data.toList.drop 23 = dktX0_cups_1 := dk_seg dksX0_cups_0 23 rfl rfl
theorem dksX0_cups_2 : cX0_cups.data.toList.drop 45 = dktX0_cups_2 := dk_seg dksX0_cups_1 22 rfl rfl
theorem dksX0_cups_3 : cX0_cups.data.toList.drop 69 = dktX0_cups_3 := dk_seg dksX0_cups_2 24 rfl rfl
theorem dksX0_cups_4 : cX0_cups.data.toList.drop 93 = dktX0_cups_4 := dk_seg dksX0_cups_3 24 rfl rfl
theorem dksX0_cups_5 : cX0_cups.data.toList.drop 115 = dktX0_cups_5 := dk_seg dksX0_cups_4 22 rfl rfl
theorem dX0_cups_0 : decode cX0_cups 0 = .ok (.aload_n 0, 1) := dk_42 (dk_at dksX0_cups_0 0 rfl rfl)
theorem dX0_cups_1 : decode cX0_cups 1 = .ok (.getfield 19, 3) := dk_180 0 19 (dk_at dksX0_cups_0 1 rfl rfl)
theorem dX0_cups_4 : decode cX0_cups 4 = .ok (.getfield 127, 3) := dk_180 0 127 (dk_at dksX0_cups_0 4 rfl rfl)
theorem dX0_cups_7 : decode cX0_cups 7 = .ok (.invokestatic 186, 3) := dk_184 0 186 (dk_at dksX0_cups_0 7 rfl rfl)
theorem dX0_cups_10 : decode cX0_cups 10 = .ok (.istore_n 2, 1) := dk_61 (dk_at dksX0_cups_0 10 rfl rfl)
theorem dX0_cups_11 : decode cX0_cups 11 = .ok (.aload_n 0, 1) := dk_42 (dk_at dksX0_cups_0 11 rfl rfl)
theorem dX0_cups_12 : decode cX0_cups 12 = .ok (.invokevirtual 235, 3) := dk_182 0 235 (dk_at dksX0_cups_0 12 rfl rfl)
theorem dX0_cups_15 : decode cX0_cups 15 = .ok (.ifCond .eq 33, 3) := dk_153 0 33 (dk_at dksX0_cups_0 15 rfl rfl)
theorem dX0_cups_18 : decode cX0_cups 18 = .ok (.iload_n 1, 1) := dk_27 (dk_at dksX0_cups_0 18 rfl rfl)
theorem dX0_cups_19 : decode cX0_cups 19 = .ok (.i2l, 1) := dk_133 (dk_at dksX0_cups_0 19 rfl rfl)
theorem dX0_cups_20 : decode cX0_cups 20 = .ok (.ldc2_w 168, 3) := dk_20 0 168 (dk_at dksX0_cups_0 20 rfl rfl)
theorem dX0_cups_23 : decode cX0_cups 23 = .ok (.ldc2_w 283, 3) := dk_20 1 27 (dk_at dksX0_cups_1 0 rfl rfl)
theorem dX0_cups_26 : decode cX0_cups 26 = .ok (.invokestatic 119, 3) := dk_184 0 119 (dk_at dksX0_cups_1 3 rfl rfl)
theorem dX0_cups_29 : decode cX0_cups 29 = .ok (.ifCond .eq 19, 3) := dk_153 0 19 (dk_at dksX0_cups_1 6 rfl rfl)
theorem dX0_cups_32 : decode cX0_cups 32 = .ok (.iload_n 2, 1) := dk_28 (dk_at dksX0_cups_1 9 rfl rfl)
theorem dX0_cups_33 : decode cX0_cups 33 = .ok (.iconst 2, 1) := dk_5 (dk_at dksX0_cups_1 10 rfl rfl)
theorem dX0_cups_34 : decode cX0_cups 34 = .ok (.if_icmp .eq 17, 3) := dk_159 0 17 (dk_at dksX0_cups_1 11 rfl rfl)
theorem dX0_cups_37 : decode cX0_cups 37 = .ok (.iload_n 2, 1) := dk_28 (dk_at dksX0_cups_1 14 rfl rfl)
theorem dX0_cups_38 : decode cX0_cups 38 = .ok (.iconst 4, 1) := dk_7 (dk_at dksX0_cups_1 15 rfl rfl)
theorem dX0_cups_39 : decode cX0_cups 39 = .ok (.if_icmp .eq 12, 3) := dk_159 0 12 (dk_at dksX0_cups_1 16 rfl rfl)
theorem dX0_cups_42 : decode cX0_cups 42 = .ok (.iload_n 2, 1) := dk_28 (dk_at dksX0_cups_1 19 rfl rfl)
theorem dX0_cups_43 : decode cX0_cups 43 = .ok (.bipush 8, 2) := dk_16 8 (dk_at dksX0_cups_1 20 rfl rfl)
theorem dX0_cups_45 : decode cX0_cups 45 = .ok (.if_icmp .eq 6, 3) := dk_159 0 6 (dk_at dksX0_cups_2 0 rfl rfl)
theorem dX0_cups_48 : decode cX0_cups 48 = .ok (.bipush (-3), 2) := dk_16 253 (dk_at dksX0_cups_2 3 rfl rfl)
theorem dX0_cups_50 : decode cX0_cups 50 = .ok (.ireturn, 1) := dk_172 (dk_at dksX0_cups_2 5 rfl rfl)
theorem dX0_cups_51 : decode cX0_cups 51 = .ok (.iload_n 1, 1) := dk_27 (dk_at dksX0_cups_2 6 rfl rfl)
theorem dX0_cups_52 : decode cX0_cups 52 = .ok (.aload_n 0, 1) := dk_42 (dk_at dksX0_cups_2 7 rfl rfl)
theorem dX0_cups_53 : decode cX0_cups 53 = .ok (.getfield 10, 3) := dk_180 0 10 (dk_at dksX0_cups_2 8 rfl rfl)
theorem dX0_cups_56 : decode cX0_cups 56 = .ok (.invokevirtual 115, 3) := dk_182 0 115 (dk_at dksX0_cups_2 11 rfl rfl)
theorem dX0_cups_59 : decode cX0_cups 59 = .ok (.if_icmp .lt 6, 3) := dk_161 0 6 (dk_at dksX0_cups_2 14 rfl rfl)
theorem dX0_cups_62 : decode cX0_cups 62 = .ok (.bipush (-2), 2) := dk_16 254 (dk_at dksX0_cups_2 17 rfl rfl)
theorem dX0_cups_64 : decode cX0_cups 64 = .ok (.ireturn, 1) := dk_172 (dk_at dksX0_cups_2 19 rfl rfl)
theorem dX0_cups_65 : decode cX0_cups 65 = .ok (.aload_n 0, 1) := dk_42 (dk_at dksX0_cups_2 20 rfl rfl)
theorem dX0_cups_66 : decode cX0_cups 66 = .ok (.invokevirtual 285, 3) := dk_182 1 29 (dk_at dksX0_cups_2 21 rfl rfl)
theorem dX0_cups_69 : decode cX0_cups 69 = .ok (.iload_n 1, 1) := dk_27 (dk_at dksX0_cups_3 0 rfl rfl)
theorem dX0_cups_70 : decode cX0_cups 70 = .ok (.iconst (-1), 1) := dk_2 (dk_at dksX0_cups_3 1 rfl rfl)
theorem dX0_cups_71 : decode cX0_cups 71 = .ok (.if_icmp .eq 21, 3) := dk_159 0 21 (dk_at dksX0_cups_3 2 rfl rfl)
theorem dX0_cups_74 : decode cX0_cups 74 = .ok (.aload_n 0, 1) := dk_42 (dk_at dksX0_cups_3 5 rfl rfl)
theorem dX0_cups_75 : decode cX0_cups 75 = .ok (.getfield 85, 3) := dk_180 0 85 (dk_at dksX0_cups_3 6 rfl rfl)
theorem dX0_cups_78 : decode cX0_cups 78 = .ok (.bipush 8, 2) := dk_16 8 (dk_at dksX0_cups_3 9 rfl rfl)
theorem dX0_cups_80 : decode cX0_cups 80 = .ok (.aload_n 0, 1) := dk_42 (dk_at dksX0_cups_3 11 rfl rfl)
theorem dX0_cups_81 : decode cX0_cups 81 = .ok (.getfield 19, 3) := dk_180 0 19 (dk_at dksX0_cups_3 12 rfl rfl)
theorem dX0_cups_84 : decode cX0_cups 84 = .ok (.getfield 127, 3) := dk_180 0 127 (dk_at dksX0_cups_3 15 rfl rfl)
theorem dX0_cups_87 : decode cX0_cups 87 = .ok (.imul, 1) := dk_104 (dk_at dksX0_cups_3 18 rfl rfl)
theorem dX0_cups_88 : decode cX0_cups 88 = .ok (.iload_n 1, 1) := dk_27 (dk_at dksX0_cups_3 19 rfl rfl)
theorem dX0_cups_89 : decode cX0_cups 89 = .ok (.iadd, 1) := dk_96 (dk_at dksX0_cups_3 20 rfl rfl)
theorem dX0_cups_90 : decode cX0_cups 90 = .ok (.iaload, 1) := dk_46 (dk_at dksX0_cups_3 21 rfl rfl)
theorem dX0_cups_91 : decode cX0_cups 91 = .ok (.ireturn, 1) := dk_172 (dk_at dksX0_cups_3 22 rfl rfl)
theorem dX0_cups_92 : decode cX0_cups 92 = .ok (.iconst 0, 1) := dk_3 (dk_at dksX0_cups_3 23 rfl rfl)
theorem dX0_cups_93 : decode cX0_cups 93 = .ok (.istore_n 3, 1) := dk_62 (dk_at dksX0_cups_4 0 rfl rfl)
theorem dX0_cups_94 : decode cX0_cups 94 = .ok (.iconst 0, 1) := dk_3 (dk_at dksX0_cups_4 1 rfl rfl)
theorem dX0_cups_95 : decode cX0_cups 95 = .ok (.istore 4, 2) := dk_54 4 (dk_at dksX0_cups_4 2 rfl rfl)
theorem dX0_cups_97 : decode cX0_cups 97 = .ok (.iload 4, 2) := dk_21 4 (dk_at dksX0_cups_4 4 rfl rfl)
theorem dX0_cups_99 : decode cX0_cups 99 = .ok (.bipush 8, 2) := dk_16 8 (dk_at dksX0_cups_4 6 rfl rfl)
theorem dX0_cups_101 : decode cX0_cups 101 = .ok (.if_icmp .ge 30, 3) := dk_162 0 30 (dk_at dksX0_cups_4 8 rfl rfl)
theorem dX0_cups_104 : decode cX0_cups 104 = .ok (.iload_n 3, 1) := dk_29 (dk_at dksX0_cups_4 11 rfl rfl)
theorem dX0_cups_105 : decode cX0_cups 105 = .ok (.aload_n 0, 1) := dk_42 (dk_at dksX0_cups_4 12 rfl rfl)
theorem dX0_cups_106 : decode cX0_cups 106 = .ok (.getfield 85, 3) := dk_180 0 85 (dk_at dksX0_cups_4 13 rfl rfl)
theorem dX0_cups_109 : decode cX0_cups 109 = .ok (.bipush 8, 2) := dk_16 8 (dk_at dksX0_cups_4 16 rfl rfl)
theorem dX0_cups_111 : decode cX0_cups 111 = .ok (.aload_n 0, 1) := dk_42 (dk_at dksX0_cups_4 18 rfl rfl)
theorem dX0_cups_112 : decode cX0_cups 112 = .ok (.getfield 19, 3) := dk_180 0 19 (dk_at dksX0_cups_4 19 rfl rfl)
theorem dX0_cups_115 : decode cX0_cups 115 = .ok (.getfield 127, 3) := dk_180 0 127 (dk_at dksX0_cups_5 0 rfl rfl)
theorem dX0_cups_118 : decode cX0_cups 118 = .ok (.imul, 1) := dk_104 (dk_at dksX0_cups_5 3 rfl rfl)
theorem dX0_cups_119 : decode cX0_cups 119 = .ok (.iload 4, 2) := dk_21 4 (dk_at dksX0_cups_5 4 rfl rfl)
theorem dX0_cups_121 : decode cX0_cups 121 = .ok (.iadd, 1) := dk_96 (dk_at dksX0_cups_5 6 rfl rfl)
theorem dX0_cups_122 : decode cX0_cups 122 = .ok (.iaload, 1) := dk_46 (dk_at dksX0_cups_5 7 rfl rfl)
theorem dX0_cups_123 : decode cX0_cups 123 = .ok (.iadd, 1) := dk_96 (dk_at dksX0_cups_5 8 rfl rfl)
theorem dX0_cups_124 : decode cX0_cups 124 = .ok (.istore_n 3, 1) := dk_62 (dk_at dksX0_cups_5 9 rfl rfl)
theorem dX0_cups_125 : decode cX0_cups 125 = .ok (.iinc 4 1, 3) := dk_132 4 1 (dk_at dksX0_cups_5 10 rfl rfl)
theorem dX0_cups_128 : decode cX0_cups 128 = .ok (.goto (-31), 3) := dk_167 255 225 (dk_at dksX0_cups_5 13 rfl rfl)
theorem dX0_cups_131 : decode cX0_cups 131 = .ok (.iload_n 3, 1) := dk_29 (dk_at dksX0_cups_5 16 rfl rfl)
theorem dX0_cups_132 : decode cX0_cups 132 = .ok (.ireturn, 1) := dk_172 (dk_at dksX0_cups_5 17 rfl rfl)
abbrev cX0_laysCups : ByteArray := prog_1_method_39_code
def yX0_laysCups : MethodName := ⟨RX0, "laysCups", "()V"⟩
def dkwX0_laysCups_6 : List UInt8 := [4, 100, 27, 126, 54, 4, 167, 255, 213, 132, 1, 1, 167, 255, 103, 177]
abbrev dktX0_laysCups_6 : List UInt8 := dkwX0_laysCups_6 ++ []
def dkwX0_laysCups_5 : List UInt8 := [21, 4, 184, 0, 186, 104, 28, 160, 0, 15, 42, 21, 4, 27, 21, 4, 2, 130, 126, 182, 1, 24, 21, 4]
abbrev dktX0_laysCups_5 : List UInt8 := dkwX0_laysCups_5 ++ dktX0_laysCups_6
def dkwX0_laysCups_4 : List UInt8 := [4, 79, 27, 27, 116, 126, 62, 27, 54, 4, 21, 4, 153, 0, 44, 21, 4, 29, 126, 153, 0, 26, 5]
abbrev dktX0_laysCups_4 : List UInt8 := dkwX0_laysCups_4 ++ dktX0_laysCups_5
def dkwX0_laysCups_3 : List UInt8 := [159, 0, 6, 167, 0, 77, 28, 4, 160, 0, 18, 42, 180, 0, 85, 16, 8, 27, 104, 27, 184, 1, 21, 96]
abbrev dktX0_laysCups_3 : List UInt8 := dkwX0_laysCups_3 ++ dktX0_laysCups_4
def dkwX0_laysCups_2 : List UInt8 := [2, 130, 126, 154, 0, 101, 28, 4, 159, 0, 22, 28, 5, 159, 0, 17, 28, 7, 159, 0, 12, 28, 16, 8]
abbrev dktX0_laysCups_2 : List UInt8 := dkwX0_laysCups_2 ++ dktX0_laysCups_3
def dkwX0_laysCups_1 : List UInt8 := [104, 28, 96, 3, 79, 132, 2, 1, 167, 255, 235, 27, 184, 0, 186, 61, 27, 42, 180, 0, 19, 180, 0, 127]
abbrev dktX0_laysCups_1 : List UInt8 := dkwX0_laysCups_1 ++ dktX0_laysCups_2
def dkwX0_laysCups_0 : List UInt8 := [3, 60, 27, 17, 1, 0, 162, 0, 152, 3, 61, 28, 16, 8, 162, 0, 21, 42, 180, 0, 85, 16, 8, 27]
abbrev dktX0_laysCups_0 : List UInt8 := dkwX0_laysCups_0 ++ dktX0_laysCups_1
theorem dksX0_laysCups_0 : cX0_laysCups.data.toList.drop 0 = dktX0_laysCups_0 := by decide +kernel
theorem dksX0_laysCups_1 : cX0_laysCups.data.toList.drop 24 = dktX0_laysCups_1 := dk_seg dksX0_laysCups_0 24 rfl rfl
theorem dksX0_laysCups_2 : cX0_laysCups.data.toList.drop 48 = dktX0_laysCups_2 := dk_seg dksX0_laysCups_1 24 rfl rfl
theorem dksX0_laysCups_3 : cX0_laysCups.data.toList.drop 72 = dktX0_laysCups_3 := dk_seg dksX0_laysCups_2 24 rfl rfl
theorem dksX0_laysCups_4 : cX0_laysCups.data.toList.drop 96 = dktX0_laysCups_4 := dk_seg dksX0_laysCups_3 24 rfl rfl
theorem dksX0_laysCups_5 : cX0_laysCups.data.toList.drop 119 = dktX0_laysCups_5 := dk_seg dksX0_laysCups_4 23 rfl rfl
theorem dksX0_laysCups_6 : cX0_laysCups.data.toList.drop 143 = dktX0_laysCups_6 := dk_seg dksX0_laysCups_5 24 rfl rfl
theorem dX0_laysCups_0 : decode cX0_laysCups 0 = .ok (.iconst 0, 1) := dk_3 (dk_at dksX0_laysCups_0 0 rfl rfl)
theorem dX0_laysCups_1 : decode cX0_laysCups 1 = .ok (.istore_n 1, 1) := dk_60 (dk_at dksX0_laysCups_0 1 rfl rfl)
theorem dX0_laysCups_2 : decode cX0_laysCups 2 = .ok (.iload_n 1, 1) := dk_27 (dk_at dksX0_laysCups_0 2 rfl rfl)
theorem dX0_laysCups_3 : decode cX0_laysCups 3 = .ok (.sipush 256, 3) := dk_17 1 0 (dk_at dksX0_laysCups_0 3 rfl rfl)
theorem dX0_laysCups_6 : decode cX0_laysCups 6 = .ok (.if_icmp .ge 152, 3) := dk_162 0 152 (dk_at dksX0_laysCups_0 6 rfl rfl)
theorem dX0_laysCups_9 : decode cX0_laysCups 9 = .ok (.iconst 0, 1) := dk_3 (dk_at dksX0_laysCups_0 9 rfl rfl)
theorem dX0_laysCups_10 : decode cX0_laysCups 10 = .ok (.istore_n 2, 1) := dk_61 (dk_at dksX0_laysCups_0 10 rfl rfl)
theorem dX0_laysCups_11 : decode cX0_laysCups 11 = .ok (.iload_n 2, 1) := dk_28 (dk_at dksX0_laysCups_0 11 rfl rfl)
theorem dX0_laysCups_12 : decode cX0_laysCups 12 = .ok (.bipush 8, 2) := dk_16 8 (dk_at dksX0_laysCups_0 12 rfl rfl)
theorem dX0_laysCups_14 : decode cX0_laysCups 14 = .ok (.if_icmp .ge 21, 3) := dk_162 0 21 (dk_at dksX0_laysCups_0 14 rfl rfl)
theorem dX0_laysCups_17 : decode cX0_laysCups 17 = .ok (.aload_n 0, 1) := dk_42 (dk_at dksX0_laysCups_0 17 rfl rfl)
theorem dX0_laysCups_18 : decode cX0_laysCups 18 = .ok (.getfield 85, 3) := dk_180 0 85 (dk_at dksX0_laysCups_0 18 rfl rfl)
theorem dX0_laysCups_21 : decode cX0_laysCups 21 = .ok (.bipush 8, 2) := dk_16 8 (dk_at dksX0_laysCups_0 21 rfl rfl)
theorem dX0_laysCups_23 : decode cX0_laysCups 23 = .ok (.iload_n 1, 1) := dk_27 (dk_at dksX0_laysCups_0 23 rfl rfl)
theorem dX0_laysCups_24 : decode cX0_laysCups 24 = .ok (.imul, 1) := dk_104 (dk_at dksX0_laysCups_1 0 rfl rfl)
theorem dX0_laysCups_25 : decode cX0_laysCups 25 = .ok (.iload_n 2, 1) := dk_28 (dk_at dksX0_laysCups_1 1 rfl rfl)
theorem dX0_laysCups_26 : decode cX0_laysCups 26 = .ok (.iadd, 1) := dk_96 (dk_at dksX0_laysCups_1 2 rfl rfl)
theorem dX0_laysCups_27 : decode cX0_laysCups 27 = .ok (.iconst 0, 1) := dk_3 (dk_at dksX0_laysCups_1 3 rfl rfl)
theorem dX0_laysCups_28 : decode cX0_laysCups 28 = .ok (.iastore, 1) := dk_79 (dk_at dksX0_laysCups_1 4 rfl rfl)
theorem dX0_laysCups_29 : decode cX0_laysCups 29 = .ok (.iinc 2 1, 3) := dk_132 2 1 (dk_at dksX0_laysCups_1 5 rfl rfl)
theorem dX0_laysCups_32 : decode cX0_laysCups 32 = .ok (.goto (-21), 3) := dk_167 255 235 (dk_at dksX0_laysCups_1 8 rfl rfl)
theorem dX0_laysCups_35 : decode cX0_laysCups 35 = .ok (.iload_n 1, 1) := dk_27 (dk_at dksX0_laysCups_1 11 rfl rfl)
theorem dX0_laysCups_36 : decode cX0_laysCups 36 = .ok (.invokestatic 186, 3) := dk_184 0 186 (dk_at dksX0_laysCups_1 12 rfl rfl)
theorem dX0_laysCups_39 : decode cX0_laysCups 39 = .ok (.istore_n 2, 1) := dk_61 (dk_at dksX0_laysCups_1 15 rfl rfl)
theorem dX0_laysCups_40 : decode cX0_laysCups 40 = .ok (.iload_n 1, 1) := dk_27 (dk_at dksX0_laysCups_1 16 rfl rfl)
theorem dX0_laysCups_41 : decode cX0_laysCups 41 = .ok (.aload_n 0, 1) := dk_42 (dk_at dksX0_laysCups_1 17 rfl rfl)
theorem dX0_laysCups_42 : decode cX0_laysCups 42 = .ok (.getfield 19, 3) := dk_180 0 19 (dk_at dksX0_laysCups_1 18 rfl rfl)
theorem dX0_laysCups_45 : decode cX0_laysCups 45 = .ok (.getfield 127, 3) := dk_180 0 127 (dk_at dksX0_laysCups_1 21 rfl rfl)
theorem dX0_laysCups_48 : decode cX0_laysCups 48 = .ok (.iconst (-1), 1) := dk_2 (dk_at dksX0_laysCups_2 0 rfl rfl)
theorem dX0_laysCups_49 : decode cX0_laysCups 49 = .ok (.ixor, 1) := dk_130 (dk_at dksX0_laysCups_2 1 rfl rfl)
theorem dX0_laysCups_50 : decode cX0_laysCups 50 = .ok (.iand, 1) := dk_126 (dk_at dksX0_laysCups_2 2 rfl rfl)
theorem dX0_laysCups_51 : decode cX0_laysCups 51 = .ok (.ifCond .ne 101, 3) := dk_154 0 101 (dk_at dksX0_laysCups_2 3 rfl rfl)
theorem dX0_laysCups_54 : decode cX0_laysCups 54 = .ok (.iload_n 2, 1) := dk_28 (dk_at dksX0_laysCups_2 6 rfl rfl)
theorem dX0_laysCups_55 : decode cX0_laysCups 55 = .ok (.iconst 1, 1) := dk_4 (dk_at dksX0_laysCups_2 7 rfl rfl)
theorem dX0_laysCups_56 : decode cX0_laysCups 56 = .ok (.if_icmp .eq 22, 3) := dk_159 0 22 (dk_at dksX0_laysCups_2 8 rfl rfl)
theorem dX0_laysCups_59 : decode cX0_laysCups 59 = .ok (.iload_n 2, 1) := dk_28 (dk_at dksX0_laysCups_2 11 rfl rfl)
theorem dX0_laysCups_60 : decode cX0_laysCups 60 = .ok (.iconst 2, 1) := dk_5 (dk_at dksX0_laysCups_2 12 rfl rfl)
theorem dX0_laysCups_61 : decode cX0_laysCups 61 = .ok (.if_icmp .eq 17, 3) := dk_159 0 17 (dk_at dksX0_laysCups_2 13 rfl rfl)
theorem dX0_laysCups_64 : decode cX0_laysCups 64 = .ok (.iload_n 2, 1) := dk_28 (dk_at dksX0_laysCups_2 16 rfl rfl)
theorem dX0_laysCups_65 : decode cX0_laysCups 65 = .ok (.iconst 4, 1) := dk_7 (dk_at dksX0_laysCups_2 17 rfl rfl)
theorem dX0_laysCups_66 : decode cX0_laysCups 66 = .ok (.if_icmp .eq 12, 3) := dk_159 0 12 (dk_at dksX0_laysCups_2 18 rfl rfl)
theorem dX0_laysCups_69 : decode cX0_laysCups 69 = .ok (.iload_n 2, 1) := dk_28 (dk_at dksX0_laysCups_2 21 rfl rfl)
theorem dX0_laysCups_70 : decode cX0_laysCups 70 = .ok (.bipush 8, 2) := dk_16 8 (dk_at dksX0_laysCups_2 22 rfl rfl)
theorem dX0_laysCups_72 : decode cX0_laysCups 72 = .ok (.if_icmp .eq 6, 3) := dk_159 0 6 (dk_at dksX0_laysCups_3 0 rfl rfl)
theorem dX0_laysCups_75 : decode cX0_laysCups 75 = .ok (.goto 77, 3) := dk_167 0 77 (dk_at dksX0_laysCups_3 3 rfl rfl)
theorem dX0_laysCups_78 : decode cX0_laysCups 78 = .ok (.iload_n 2, 1) := dk_28 (dk_at dksX0_laysCups_3 6 rfl rfl)
theorem dX0_laysCups_79 : decode cX0_laysCups 79 = .ok (.iconst 1, 1) := dk_4 (dk_at dksX0_laysCups_3 7 rfl rfl)
theorem dX0_laysCups_80 : decode cX0_laysCups 80 = .ok (.if_icmp .ne 18, 3) := dk_160 0 18 (dk_at dksX0_laysCups_3 8 rfl rfl)
theorem dX0_laysCups_83 : decode cX0_laysCups 83 = .ok (.aload_n 0, 1) := dk_42 (dk_at dksX0_laysCups_3 11 rfl rfl)
theorem dX0_laysCups_84 : decode cX0_laysCups 84 = .ok (.getfield 85, 3) := dk_180 0 85 (dk_at dksX0_laysCups_3 12 rfl rfl)
theorem dX0_laysCups_87 : decode cX0_laysCups 87 = .ok (.bipush 8, 2) := dk_16 8 (dk_at dksX0_laysCups_3 15 rfl rfl)
theorem dX0_laysCups_89 : decode cX0_laysCups 89 = .ok (.iload_n 1, 1) := dk_27 (dk_at dksX0_laysCups_3 17 rfl rfl)
theorem dX0_laysCups_90 : decode cX0_laysCups 90 = .ok (.imul, 1) := dk_104 (dk_at dksX0_laysCups_3 18 rfl rfl)
theorem dX0_laysCups_91 : decode cX0_laysCups 91 = .ok (.iload_n 1, 1) := dk_27 (dk_at dksX0_laysCups_3 19 rfl rfl)
theorem dX0_laysCups_92 : decode cX0_laysCups 92 = .ok (.invokestatic 277, 3) := dk_184 1 21 (dk_at dksX0_laysCups_3 20 rfl rfl)
theorem dX0_laysCups_95 : decode cX0_laysCups 95 = .ok (.iadd, 1) := dk_96 (dk_at dksX0_laysCups_3 23 rfl rfl)
theorem dX0_laysCups_96 : decode cX0_laysCups 96 = .ok (.iconst 1, 1) := dk_4 (dk_at dksX0_laysCups_4 0 rfl rfl)
theorem dX0_laysCups_97 : decode cX0_laysCups 97 = .ok (.iastore, 1) := dk_79 (dk_at dksX0_laysCups_4 1 rfl rfl)
theorem dX0_laysCups_98 : decode cX0_laysCups 98 = .ok (.iload_n 1, 1) := dk_27 (dk_at dksX0_laysCups_4 2 rfl rfl)
theorem dX0_laysCups_99 : decode cX0_laysCups 99 = .ok (.iload_n 1, 1) := dk_27 (dk_at dksX0_laysCups_4 3 rfl rfl)
theorem dX0_laysCups_100 : decode cX0_laysCups 100 = .ok (.ineg, 1) := dk_116 (dk_at dksX0_laysCups_4 4 rfl rfl)
theorem dX0_laysCups_101 : decode cX0_laysCups 101 = .ok (.iand, 1) := dk_126 (dk_at dksX0_laysCups_4 5 rfl rfl)
theorem dX0_laysCups_102 : decode cX0_laysCups 102 = .ok (.istore_n 3, 1) := dk_62 (dk_at dksX0_laysCups_4 6 rfl rfl)
theorem dX0_laysCups_103 : decode cX0_laysCups 103 = .ok (.iload_n 1, 1) := dk_27 (dk_at dksX0_laysCups_4 7 rfl rfl)
theorem dX0_laysCups_104 : decode cX0_laysCups 104 = .ok (.istore 4, 2) := dk_54 4 (dk_at dksX0_laysCups_4 8 rfl rfl)
theorem dX0_laysCups_106 : decode cX0_laysCups 106 = .ok (.iload 4, 2) := dk_21 4 (dk_at dksX0_laysCups_4 10 rfl rfl)
theorem dX0_laysCups_108 : decode cX0_laysCups 108 = .ok (.ifCond .eq 44, 3) := dk_153 0 44 (dk_at dksX0_laysCups_4 12 rfl rfl)
theorem dX0_laysCups_111 : decode cX0_laysCups 111 = .ok (.iload 4, 2) := dk_21 4 (dk_at dksX0_laysCups_4 15 rfl rfl)
theorem dX0_laysCups_113 : decode cX0_laysCups 113 = .ok (.iload_n 3, 1) := dk_29 (dk_at dksX0_laysCups_4 17 rfl rfl)
theorem dX0_laysCups_114 : decode cX0_laysCups 114 = .ok (.iand, 1) := dk_126 (dk_at dksX0_laysCups_4 18 rfl rfl)
theorem dX0_laysCups_115 : decode cX0_laysCups 115 = .ok (.ifCond .eq 26, 3) := dk_153 0 26 (dk_at dksX0_laysCups_4 19 rfl rfl)
theorem dX0_laysCups_118 : decode cX0_laysCups 118 = .ok (.iconst 2, 1) := dk_5 (dk_at dksX0_laysCups_4 22 rfl rfl)
theorem dX0_laysCups_119 : decode cX0_laysCups 119 = .ok (.iload 4, 2) := dk_21 4 (dk_at dksX0_laysCups_5 0 rfl rfl)
theorem dX0_laysCups_121 : decode cX0_laysCups 121 = .ok (.invokestatic 186, 3) := dk_184 0 186 (dk_at dksX0_laysCups_5 2 rfl rfl)
theorem dX0_laysCups_124 : decode cX0_laysCups 124 = .ok (.imul, 1) := dk_104 (dk_at dksX0_laysCups_5 5 rfl rfl)
theorem dX0_laysCups_125 : decode cX0_laysCups 125 = .ok (.iload_n 2, 1) := dk_28 (dk_at dksX0_laysCups_5 6 rfl rfl)
theorem dX0_laysCups_126 : decode cX0_laysCups 126 = .ok (.if_icmp .ne 15, 3) := dk_160 0 15 (dk_at dksX0_laysCups_5 7 rfl rfl)
theorem dX0_laysCups_129 : decode cX0_laysCups 129 = .ok (.aload_n 0, 1) := dk_42 (dk_at dksX0_laysCups_5 10 rfl rfl)
theorem dX0_laysCups_130 : decode cX0_laysCups 130 = .ok (.iload 4, 2) := dk_21 4 (dk_at dksX0_laysCups_5 11 rfl rfl)
theorem dX0_laysCups_132 : decode cX0_laysCups 132 = .ok (.iload_n 1, 1) := dk_27 (dk_at dksX0_laysCups_5 13 rfl rfl)
theorem dX0_laysCups_133 : decode cX0_laysCups 133 = .ok (.iload 4, 2) := dk_21 4 (dk_at dksX0_laysCups_5 14 rfl rfl)
theorem dX0_laysCups_135 : decode cX0_laysCups 135 = .ok (.iconst (-1), 1) := dk_2 (dk_at dksX0_laysCups_5 16 rfl rfl)
theorem dX0_laysCups_136 : decode cX0_laysCups 136 = .ok (.ixor, 1) := dk_130 (dk_at dksX0_laysCups_5 17 rfl rfl)
theorem dX0_laysCups_137 : decode cX0_laysCups 137 = .ok (.iand, 1) := dk_126 (dk_at dksX0_laysCups_5 18 rfl rfl)
theorem dX0_laysCups_138 : decode cX0_laysCups 138 = .ok (.invokevirtual 280, 3) := dk_182 1 24 (dk_at dksX0_laysCups_5 19 rfl rfl)
theorem dX0_laysCups_141 : decode cX0_laysCups 141 = .ok (.iload 4, 2) := dk_21 4 (dk_at dksX0_laysCups_5 22 rfl rfl)
theorem dX0_laysCups_143 : decode cX0_laysCups 143 = .ok (.iconst 1, 1) := dk_4 (dk_at dksX0_laysCups_6 0 rfl rfl)
theorem dX0_laysCups_144 : decode cX0_laysCups 144 = .ok (.isub, 1) := dk_100 (dk_at dksX0_laysCups_6 1 rfl rfl)
theorem dX0_laysCups_145 : decode cX0_laysCups 145 = .ok (.iload_n 1, 1) := dk_27 (dk_at dksX0_laysCups_6 2 rfl rfl)
theorem dX0_laysCups_146 : decode cX0_laysCups 146 = .ok (.iand, 1) := dk_126 (dk_at dksX0_laysCups_6 3 rfl rfl)
theorem dX0_laysCups_147 : decode cX0_laysCups 147 = .ok (.istore 4, 2) := dk_54 4 (dk_at dksX0_laysCups_6 4 rfl rfl)
theorem dX0_laysCups_149 : decode cX0_laysCups 149 = .ok (.goto (-43), 3) := dk_167 255 213 (dk_at dksX0_laysCups_6 6 rfl rfl)
theorem dX0_laysCups_152 : decode cX0_laysCups 152 = .ok (.iinc 1 1, 3) := dk_132 1 1 (dk_at dksX0_laysCups_6 9 rfl rfl)
theorem dX0_laysCups_155 : decode cX0_laysCups 155 = .ok (.goto (-153), 3) := dk_167 255 103 (dk_at dksX0_laysCups_6 12 rfl rfl)
theorem dX0_laysCups_158 : decode cX0_laysCups 158 = .ok (.return_, 1) := dk_177 (dk_at dksX0_laysCups_6 15 rfl rfl)
abbrev cX0_cupsFrom : ByteArray := prog_1_method_38_code
def yX0_cupsFrom : MethodName := ⟨RX0, "cupsFrom", "(II)V"⟩
def dkwX0_cupsFrom_4 : List UInt8 := [167, 255, 179, 132, 4, 1, 167, 255, 163, 177]
abbrev dktX0_cupsFrom_4 : List UInt8 := dkwX0_cupsFrom_4 ++ []
def dkwX0_cupsFrom_3 : List UInt8 := [27, 104, 21, 4, 96, 46, 42, 180, 0, 85, 16, 8, 28, 104, 21, 5, 96, 46, 104, 96, 79, 132, 5, 1]
abbrev dktX0_cupsFrom_3 : List UInt8 := dkwX0_cupsFrom_3 ++ dktX0_cupsFrom_4
def dkwX0_cupsFrom_2 : List UInt8 := [180, 0, 85, 16, 8, 29, 104, 42, 21, 4, 21, 5, 182, 1, 18, 96, 92, 46, 42, 180, 0, 85, 16, 8]
abbrev dktX0_cupsFrom_2 : List UInt8 := dkwX0_cupsFrom_2 ++ dktX0_cupsFrom_3
def dkwX0_cupsFrom_1 : List UInt8 := [27, 21, 4, 184, 0, 130, 153, 0, 61, 28, 21, 5, 184, 0, 130, 154, 0, 6, 167, 0, 49, 42]
abbrev dktX0_cupsFrom_1 : List UInt8 := dkwX0_cupsFrom_1 ++ dktX0_cupsFrom_2
def dkwX0_cupsFrom_0 : List UInt8 := [27, 28, 128, 62, 3, 54, 4, 21, 4, 16, 8, 162, 0, 92, 3, 54, 5, 21, 5, 16, 8, 162, 0, 76]
abbrev dktX0_cupsFrom_0 : List UInt8 := dkwX0_cupsFrom_0 ++ dktX0_cupsFrom_1
theorem dksX0_cupsFrom_0 : cX0_cupsFrom.data.toList.drop 0 = dktX0_cupsFrom_0 := by decide +kernel
theorem dksX0_cupsFrom_1 : cX0_cupsFrom.data.toList.drop 24 = dktX0_cupsFrom_1 := dk_seg dksX0_cupsFrom_0 24 rfl rfl
theorem dksX0_cupsFrom_2 : cX0_cupsFrom.data.toList.drop 46 = dktX0_cupsFrom_2 := dk_seg dksX0_cupsFrom_1 22 rfl rfl
theorem dksX0_cupsFrom_3 : cX0_cupsFrom.data.toList.drop 70 = dktX0_cupsFrom_3 := dk_seg dksX0_cupsFrom_2 24 rfl rfl
theorem dksX0_cupsFrom_4 : cX0_cupsFrom.data.toList.drop 94 = dktX0_cupsFrom_4 := dk_seg dksX0_cupsFrom_3 24 rfl rfl
theorem dX0_cupsFrom_0 : decode cX0_cupsFrom 0 = .ok (.iload_n 1, 1) := dk_27 (dk_at dksX0_cupsFrom_0 0 rfl rfl)
theorem dX0_cupsFrom_1 : decode cX0_cupsFrom 1 = .ok (.iload_n 2, 1) := dk_28 (dk_at dksX0_cupsFrom_0 1 rfl rfl)
theorem dX0_cupsFrom_2 : decode cX0_cupsFrom 2 = .ok (.ior, 1) := dk_128 (dk_at dksX0_cupsFrom_0 2 rfl rfl)
theorem dX0_cupsFrom_3 : decode cX0_cupsFrom 3 = .ok (.istore_n 3, 1) := dk_62 (dk_at dksX0_cupsFrom_0 3 rfl rfl)
theorem dX0_cupsFrom_4 : decode cX0_cupsFrom 4 = .ok (.iconst 0, 1) := dk_3 (dk_at dksX0_cupsFrom_0 4 rfl rfl)
theorem dX0_cupsFrom_5 : decode cX0_cupsFrom 5 = .ok (.istore 4, 2) := dk_54 4 (dk_at dksX0_cupsFrom_0 5 rfl rfl)
theorem dX0_cupsFrom_7 : decode cX0_cupsFrom 7 = .ok (.iload 4, 2) := dk_21 4 (dk_at dksX0_cupsFrom_0 7 rfl rfl)
theorem dX0_cupsFrom_9 : decode cX0_cupsFrom 9 = .ok (.bipush 8, 2) := dk_16 8 (dk_at dksX0_cupsFrom_0 9 rfl rfl)
theorem dX0_cupsFrom_11 : decode cX0_cupsFrom 11 = .ok (.if_icmp .ge 92, 3) := dk_162 0 92 (dk_at dksX0_cupsFrom_0 11 rfl rfl)
theorem dX0_cupsFrom_14 : decode cX0_cupsFrom 14 = .ok (.iconst 0, 1) := dk_3 (dk_at dksX0_cupsFrom_0 14 rfl rfl)
theorem dX0_cupsFrom_15 : decode cX0_cupsFrom 15 = .ok (.istore 5, 2) := dk_54 5 (dk_at dksX0_cupsFrom_0 15 rfl rfl)
theorem dX0_cupsFrom_17 : decode cX0_cupsFrom 17 = .ok (.iload 5, 2) := dk_21 5 (dk_at dksX0_cupsFrom_0 17 rfl rfl)
theorem dX0_cupsFrom_19 : decode cX0_cupsFrom 19 = .ok (.bipush 8, 2) := dk_16 8 (dk_at dksX0_cupsFrom_0 19 rfl rfl)
theorem dX0_cupsFrom_21 : decode cX0_cupsFrom 21 = .ok (.if_icmp .ge 76, 3) := dk_162 0 76 (dk_at dksX0_cupsFrom_0 21 rfl rfl)
theorem dX0_cupsFrom_24 : decode cX0_cupsFrom 24 = .ok (.iload_n 1, 1) := dk_27 (dk_at dksX0_cupsFrom_1 0 rfl rfl)
theorem dX0_cupsFrom_25 : decode cX0_cupsFrom 25 = .ok (.iload 4, 2) := dk_21 4 (dk_at dksX0_cupsFrom_1 1 rfl rfl)
theorem dX0_cupsFrom_27 : decode cX0_cupsFrom 27 = .ok (.invokestatic 130, 3) := dk_184 0 130 (dk_at dksX0_cupsFrom_1 3 rfl rfl)
theorem dX0_cupsFrom_30 : decode cX0_cupsFrom 30 = .ok (.ifCond .eq 61, 3) := dk_153 0 61 (dk_at dksX0_cupsFrom_1 6 rfl rfl)
theorem dX0_cupsFrom_33 : decode cX0_cupsFrom 33 = .ok (.iload_n 2, 1) := dk_28 (dk_at dksX0_cupsFrom_1 9 rfl rfl)
theorem dX0_cupsFrom_34 : decode cX0_cupsFrom 34 = .ok (.iload 5, 2) := dk_21 5 (dk_at dksX0_cupsFrom_1 10 rfl rfl)
theorem dX0_cupsFrom_36 : decode cX0_cupsFrom 36 = .ok (.invokestatic 130, 3) := dk_184 0 130 (dk_at dksX0_cupsFrom_1 12 rfl rfl)
theorem dX0_cupsFrom_39 : decode cX0_cupsFrom 39 = .ok (.ifCond .ne 6, 3) := dk_154 0 6 (dk_at dksX0_cupsFrom_1 15 rfl rfl)
theorem dX0_cupsFrom_42 : decode cX0_cupsFrom 42 = .ok (.goto 49, 3) := dk_167 0 49 (dk_at dksX0_cupsFrom_1 18 rfl rfl)
theorem dX0_cupsFrom_45 : decode cX0_cupsFrom 45 = .ok (.aload_n 0, 1) := dk_42 (dk_at dksX0_cupsFrom_1 21 rfl rfl)
theorem dX0_cupsFrom_46 : decode cX0_cupsFrom 46 = .ok (.getfield 85, 3) := dk_180 0 85 (dk_at dksX0_cupsFrom_2 0 rfl rfl)
theorem dX0_cupsFrom_49 : decode cX0_cupsFrom 49 = .ok (.bipush 8, 2) := dk_16 8 (dk_at dksX0_cupsFrom_2 3 rfl rfl)
theorem dX0_cupsFrom_51 : decode cX0_cupsFrom 51 = .ok (.iload_n 3, 1) := dk_29 (dk_at dksX0_cupsFrom_2 5 rfl rfl)
theorem dX0_cupsFrom_52 : decode cX0_cupsFrom 52 = .ok (.imul, 1) := dk_104 (dk_at dksX0_cupsFrom_2 6 rfl rfl)
theorem dX0_cupsFrom_53 : decode cX0_cupsFrom 53 = .ok (.aload_n 0, 1) := dk_42 (dk_at dksX0_cupsFrom_2 7 rfl rfl)
theorem dX0_cupsFrom_54 : decode cX0_cupsFrom 54 = .ok (.iload 4, 2) := dk_21 4 (dk_at dksX0_cupsFrom_2 8 rfl rfl)
theorem dX0_cupsFrom_56 : decode cX0_cupsFrom 56 = .ok (.iload 5, 2) := dk_21 5 (dk_at dksX0_cupsFrom_2 10 rfl rfl)
theorem dX0_cupsFrom_58 : decode cX0_cupsFrom 58 = .ok (.invokevirtual 274, 3) := dk_182 1 18 (dk_at dksX0_cupsFrom_2 12 rfl rfl)
theorem dX0_cupsFrom_61 : decode cX0_cupsFrom 61 = .ok (.iadd, 1) := dk_96 (dk_at dksX0_cupsFrom_2 15 rfl rfl)
theorem dX0_cupsFrom_62 : decode cX0_cupsFrom 62 = .ok (.dup2, 1) := dk_92 (dk_at dksX0_cupsFrom_2 16 rfl rfl)
theorem dX0_cupsFrom_63 : decode cX0_cupsFrom 63 = .ok (.iaload, 1) := dk_46 (dk_at dksX0_cupsFrom_2 17 rfl rfl)
theorem dX0_cupsFrom_64 : decode cX0_cupsFrom 64 = .ok (.aload_n 0, 1) := dk_42 (dk_at dksX0_cupsFrom_2 18 rfl rfl)
theorem dX0_cupsFrom_65 : decode cX0_cupsFrom 65 = .ok (.getfield 85, 3) := dk_180 0 85 (dk_at dksX0_cupsFrom_2 19 rfl rfl)
theorem dX0_cupsFrom_68 : decode cX0_cupsFrom 68 = .ok (.bipush 8, 2) := dk_16 8 (dk_at dksX0_cupsFrom_2 22 rfl rfl)
theorem dX0_cupsFrom_70 : decode cX0_cupsFrom 70 = .ok (.iload_n 1, 1) := dk_27 (dk_at dksX0_cupsFrom_3 0 rfl rfl)
theorem dX0_cupsFrom_71 : decode cX0_cupsFrom 71 = .ok (.imul, 1) := dk_104 (dk_at dksX0_cupsFrom_3 1 rfl rfl)
theorem dX0_cupsFrom_72 : decode cX0_cupsFrom 72 = .ok (.iload 4, 2) := dk_21 4 (dk_at dksX0_cupsFrom_3 2 rfl rfl)
theorem dX0_cupsFrom_74 : decode cX0_cupsFrom 74 = .ok (.iadd, 1) := dk_96 (dk_at dksX0_cupsFrom_3 4 rfl rfl)
theorem dX0_cupsFrom_75 : decode cX0_cupsFrom 75 = .ok (.iaload, 1) := dk_46 (dk_at dksX0_cupsFrom_3 5 rfl rfl)
theorem dX0_cupsFrom_76 : decode cX0_cupsFrom 76 = .ok (.aload_n 0, 1) := dk_42 (dk_at dksX0_cupsFrom_3 6 rfl rfl)
theorem dX0_cupsFrom_77 : decode cX0_cupsFrom 77 = .ok (.getfield 85, 3) := dk_180 0 85 (dk_at dksX0_cupsFrom_3 7 rfl rfl)
theorem dX0_cupsFrom_80 : decode cX0_cupsFrom 80 = .ok (.bipush 8, 2) := dk_16 8 (dk_at dksX0_cupsFrom_3 10 rfl rfl)
theorem dX0_cupsFrom_82 : decode cX0_cupsFrom 82 = .ok (.iload_n 2, 1) := dk_28 (dk_at dksX0_cupsFrom_3 12 rfl rfl)
theorem dX0_cupsFrom_83 : decode cX0_cupsFrom 83 = .ok (.imul, 1) := dk_104 (dk_at dksX0_cupsFrom_3 13 rfl rfl)
theorem dX0_cupsFrom_84 : decode cX0_cupsFrom 84 = .ok (.iload 5, 2) := dk_21 5 (dk_at dksX0_cupsFrom_3 14 rfl rfl)
theorem dX0_cupsFrom_86 : decode cX0_cupsFrom 86 = .ok (.iadd, 1) := dk_96 (dk_at dksX0_cupsFrom_3 16 rfl rfl)
theorem dX0_cupsFrom_87 : decode cX0_cupsFrom 87 = .ok (.iaload, 1) := dk_46 (dk_at dksX0_cupsFrom_3 17 rfl rfl)
theorem dX0_cupsFrom_88 : decode cX0_cupsFrom 88 = .ok (.imul, 1) := dk_104 (dk_at dksX0_cupsFrom_3 18 rfl rfl)
theorem dX0_cupsFrom_89 : decode cX0_cupsFrom 89 = .ok (.iadd, 1) := dk_96 (dk_at dksX0_cupsFrom_3 19 rfl rfl)
theorem dX0_cupsFrom_90 : decode cX0_cupsFrom 90 = .ok (.iastore, 1) := dk_79 (dk_at dksX0_cupsFrom_3 20 rfl rfl)
theorem dX0_cupsFrom_91 : decode cX0_cupsFrom 91 = .ok (.iinc 5 1, 3) := dk_132 5 1 (dk_at dksX0_cupsFrom_3 21 rfl rfl)
theorem dX0_cupsFrom_94 : decode cX0_cupsFrom 94 = .ok (.goto (-77), 3) := dk_167 255 179 (dk_at dksX0_cupsFrom_4 0 rfl rfl)
theorem dX0_cupsFrom_97 : decode cX0_cupsFrom 97 = .ok (.iinc 4 1, 3) := dk_132 4 1 (dk_at dksX0_cupsFrom_4 3 rfl rfl)
theorem dX0_cupsFrom_100 : decode cX0_cupsFrom 100 = .ok (.goto (-93), 3) := dk_167 255 163 (dk_at dksX0_cupsFrom_4 6 rfl rfl)
theorem dX0_cupsFrom_103 : decode cX0_cupsFrom 103 = .ok (.return_, 1) := dk_177 (dk_at dksX0_cupsFrom_4 9 rfl rfl)
abbrev cX0_goesOnOf : ByteArray := prog_1_method_37_code
def yX0_goesOnOf : MethodName := ⟨RX0, "goesOnOf", "(II)I"⟩
def dkwX0_goesOnOf_1 : List UInt8 := [182, 1, 0, 54, 4, 21, 4, 2, 160, 0, 7, 29, 167, 0, 5, 21, 4, 172]
abbrev dktX0_goesOnOf_1 : List UInt8 := dkwX0_goesOnOf_1 ++ []
def dkwX0_goesOnOf_0 : List UInt8 := [27, 28, 184, 0, 229, 62, 42, 180, 0, 19, 29, 27, 28, 96, 29, 100, 42, 180, 0, 10, 180, 0, 112]
abbrev dktX0_goesOnOf_0 : List UInt8 := dkwX0_goesOnOf_0 ++ dktX0_goesOnOf_1
theorem dksX0_goesOnOf_0 : cX0_goesOnOf.data.toList.drop 0 = dktX0_goesOnOf_0 := by decide +kernel
theorem dksX0_goesOnOf_1 : cX0_goesOnOf.data.toList.drop 23 = dktX0_goesOnOf_1 := dk_seg dksX0_goesOnOf_0 23 rfl rfl
theorem dX0_goesOnOf_0 : decode cX0_goesOnOf 0 = .ok (.iload_n 1, 1) := dk_27 (dk_at dksX0_goesOnOf_0 0 rfl rfl)
theorem dX0_goesOnOf_1 : decode cX0_goesOnOf 1 = .ok (.iload_n 2, 1) := dk_28 (dk_at dksX0_goesOnOf_0 1 rfl rfl)
theorem dX0_goesOnOf_2 : decode cX0_goesOnOf 2 = .ok (.invokestatic 229, 3) := dk_184 0 229 (dk_at dksX0_goesOnOf_0 2 rfl rfl)
theorem dX0_goesOnOf_5 : decode cX0_goesOnOf 5 = .ok (.istore_n 3, 1) := dk_62 (dk_at dksX0_goesOnOf_0 5 rfl rfl)
theorem dX0_goesOnOf_6 : decode cX0_goesOnOf 6 = .ok (.aload_n 0, 1) := dk_42 (dk_at dksX0_goesOnOf_0 6 rfl rfl)
theorem dX0_goesOnOf_7 : decode cX0_goesOnOf 7 = .ok (.getfield 19, 3) := dk_180 0 19 (dk_at dksX0_goesOnOf_0 7 rfl rfl)
theorem dX0_goesOnOf_10 : decode cX0_goesOnOf 10 = .ok (.iload_n 3, 1) := dk_29 (dk_at dksX0_goesOnOf_0 10 rfl rfl)
theorem dX0_goesOnOf_11 : decode cX0_goesOnOf 11 = .ok (.iload_n 1, 1) := dk_27 (dk_at dksX0_goesOnOf_0 11 rfl rfl)
theorem dX0_goesOnOf_12 : decode cX0_goesOnOf 12 = .ok (.iload_n 2, 1) := dk_28 (dk_at dksX0_goesOnOf_0 12 rfl rfl)
theorem dX0_goesOnOf_13 : decode cX0_goesOnOf 13 = .ok (.iadd, 1) := dk_96 (dk_at dksX0_goesOnOf_0 13 rfl rfl)
theorem dX0_goesOnOf_14 : decode cX0_goesOnOf 14 = .ok (.iload_n 3, 1) := dk_29 (dk_at dksX0_goesOnOf_0 14 rfl rfl)
theorem dX0_goesOnOf_15 : decode cX0_goesOnOf 15 = .ok (.isub, 1) := dk_100 (dk_at dksX0_goesOnOf_0 15 rfl rfl)
theorem dX0_goesOnOf_16 : decode cX0_goesOnOf 16 = .ok (.aload_n 0, 1) := dk_42 (dk_at dksX0_goesOnOf_0 16 rfl rfl)
theorem dX0_goesOnOf_17 : decode cX0_goesOnOf 17 = .ok (.getfield 10, 3) := dk_180 0 10 (dk_at dksX0_goesOnOf_0 17 rfl rfl)
theorem dX0_goesOnOf_20 : decode cX0_goesOnOf 20 = .ok (.getfield 112, 3) := dk_180 0 112 (dk_at dksX0_goesOnOf_0 20 rfl rfl)
theorem dX0_goesOnOf_23 : decode cX0_goesOnOf 23 = .ok (.invokevirtual 256, 3) := dk_182 1 0 (dk_at dksX0_goesOnOf_1 0 rfl rfl)
theorem dX0_goesOnOf_26 : decode cX0_goesOnOf 26 = .ok (.istore 4, 2) := dk_54 4 (dk_at dksX0_goesOnOf_1 3 rfl rfl)
theorem dX0_goesOnOf_28 : decode cX0_goesOnOf 28 = .ok (.iload 4, 2) := dk_21 4 (dk_at dksX0_goesOnOf_1 5 rfl rfl)
theorem dX0_goesOnOf_30 : decode cX0_goesOnOf 30 = .ok (.iconst (-1), 1) := dk_2 (dk_at dksX0_goesOnOf_1 7 rfl rfl)
theorem dX0_goesOnOf_31 : decode cX0_goesOnOf 31 = .ok (.if_icmp .ne 7, 3) := dk_160 0 7 (dk_at dksX0_goesOnOf_1 8 rfl rfl)
theorem dX0_goesOnOf_34 : decode cX0_goesOnOf 34 = .ok (.iload_n 3, 1) := dk_29 (dk_at dksX0_goesOnOf_1 11 rfl rfl)
theorem dX0_goesOnOf_35 : decode cX0_goesOnOf 35 = .ok (.goto 5, 3) := dk_167 0 5 (dk_at dksX0_goesOnOf_1 12 rfl rfl)
theorem dX0_goesOnOf_38 : decode cX0_goesOnOf 38 = .ok (.iload 4, 2) := dk_21 4 (dk_at dksX0_goesOnOf_1 15 rfl rfl)
theorem dX0_goesOnOf_40 : decode cX0_goesOnOf 40 = .ok (.ireturn, 1) := dk_172 (dk_at dksX0_goesOnOf_1 17 rfl rfl)
abbrev cX0_ladder : ByteArray := prog_1_method_43_code
def yX0_ladder : MethodName := ⟨RX0, "ladder", "(I)I"⟩
def dkwX0_ladder_3 : List UInt8 := [167, 0, 4, 2, 172]
abbrev dktX0_ladder_3 : List UInt8 := dkwX0_ladder_3 ++ []
def dkwX0_ladder_2 : List UInt8 := [160, 0, 10, 42, 180, 1, 39, 167, 0, 21, 27, 42, 180, 1, 39, 162, 0, 12, 42, 180, 0, 91, 27, 46]
abbrev dktX0_ladder_2 : List UInt8 := dkwX0_ladder_2 ++ dktX0_ladder_3
def dkwX0_ladder_1 : List UInt8 := [42, 182, 1, 6, 42, 3, 181, 1, 39, 42, 42, 180, 0, 19, 180, 0, 127, 3, 3, 184, 1, 35, 27, 2]
abbrev dktX0_ladder_1 : List UInt8 := dkwX0_ladder_1 ++ dktX0_ladder_2
def dkwX0_ladder_0 : List UInt8 := [42, 182, 0, 235, 153, 0, 17, 27, 133, 20, 0, 168, 20, 1, 27, 184, 0, 119, 154, 0, 6, 16, 253, 172]
abbrev dktX0_ladder_0 : List UInt8 := dkwX0_ladder_0 ++ dktX0_ladder_1
theorem dksX0_ladder_0 : cX0_ladder.data.toList.drop 0 = dktX0_ladder_0 := by decide +kernel
theorem dksX0_ladder_1 : cX0_ladder.data.toList.drop 24 = dktX0_ladder_1 := dk_seg dksX0_ladder_0 24 rfl rfl
theorem dksX0_ladder_2 : cX0_ladder.data.toList.drop 48 = dktX0_ladder_2 := dk_seg dksX0_ladder_1 24 rfl rfl
theorem dksX0_ladder_3 : cX0_ladder.data.toList.drop 72 = dktX0_ladder_3 := dk_seg dksX0_ladder_2 24 rfl rfl
theorem dX0_ladder_0 : decode cX0_ladder 0 = .ok (.aload_n 0, 1) := dk_42 (dk_at dksX0_ladder_0 0 rfl rfl)
theorem dX0_ladder_1 : decode cX0_ladder 1 = .ok (.invokevirtual 235, 3) := dk_182 0 235 (dk_at dksX0_ladder_0 1 rfl rfl)
theorem dX0_ladder_4 : decode cX0_ladder 4 = .ok (.ifCond .eq 17, 3) := dk_153 0 17 (dk_at dksX0_ladder_0 4 rfl rfl)
theorem dX0_ladder_7 : decode cX0_ladder 7 = .ok (.iload_n 1, 1) := dk_27 (dk_at dksX0_ladder_0 7 rfl rfl)
theorem dX0_ladder_8 : decode cX0_ladder 8 = .ok (.i2l, 1) := dk_133 (dk_at dksX0_ladder_0 8 rfl rfl)
theorem dX0_ladder_9 : decode cX0_ladder 9 = .ok (.ldc2_w 168, 3) := dk_20 0 168 (dk_at dksX0_ladder_0 9 rfl rfl)
theorem dX0_ladder_12 : decode cX0_ladder 12 = .ok (.ldc2_w 283, 3) := dk_20 1 27 (dk_at dksX0_ladder_0 12 rfl rfl)
theorem dX0_ladder_15 : decode cX0_ladder 15 = .ok (.invokestatic 119, 3) := dk_184 0 119 (dk_at dksX0_ladder_0 15 rfl rfl)
theorem dX0_ladder_18 : decode cX0_ladder 18 = .ok (.ifCond .ne 6, 3) := dk_154 0 6 (dk_at dksX0_ladder_0 18 rfl rfl)
theorem dX0_ladder_21 : decode cX0_ladder 21 = .ok (.bipush (-3), 2) := dk_16 253 (dk_at dksX0_ladder_0 21 rfl rfl)
theorem dX0_ladder_23 : decode cX0_ladder 23 = .ok (.ireturn, 1) := dk_172 (dk_at dksX0_ladder_0 23 rfl rfl)
theorem dX0_ladder_24 : decode cX0_ladder 24 = .ok (.aload_n 0, 1) := dk_42 (dk_at dksX0_ladder_1 0 rfl rfl)
theorem dX0_ladder_25 : decode cX0_ladder 25 = .ok (.invokevirtual 262, 3) := dk_182 1 6 (dk_at dksX0_ladder_1 1 rfl rfl)
theorem dX0_ladder_28 : decode cX0_ladder 28 = .ok (.aload_n 0, 1) := dk_42 (dk_at dksX0_ladder_1 4 rfl rfl)
theorem dX0_ladder_29 : decode cX0_ladder 29 = .ok (.iconst 0, 1) := dk_3 (dk_at dksX0_ladder_1 5 rfl rfl)
theorem dX0_ladder_30 : decode cX0_ladder 30 = .ok (.putfield 295, 3) := dk_181 1 39 (dk_at dksX0_ladder_1 6 rfl rfl)
theorem dX0_ladder_33 : decode cX0_ladder 33 = .ok (.aload_n 0, 1) := dk_42 (dk_at dksX0_ladder_1 9 rfl rfl)
theorem dX0_ladder_34 : decode cX0_ladder 34 = .ok (.aload_n 0, 1) := dk_42 (dk_at dksX0_ladder_1 10 rfl rfl)
theorem dX0_ladder_35 : decode cX0_ladder 35 = .ok (.getfield 19, 3) := dk_180 0 19 (dk_at dksX0_ladder_1 11 rfl rfl)
theorem dX0_ladder_38 : decode cX0_ladder 38 = .ok (.getfield 127, 3) := dk_180 0 127 (dk_at dksX0_ladder_1 14 rfl rfl)
theorem dX0_ladder_41 : decode cX0_ladder 41 = .ok (.iconst 0, 1) := dk_3 (dk_at dksX0_ladder_1 17 rfl rfl)
theorem dX0_ladder_42 : decode cX0_ladder 42 = .ok (.iconst 0, 1) := dk_3 (dk_at dksX0_ladder_1 18 rfl rfl)
theorem dX0_ladder_43 : decode cX0_ladder 43 = .ok (.invokestatic 291, 3) := dk_184 1 35 (dk_at dksX0_ladder_1 19 rfl rfl)
theorem dX0_ladder_46 : decode cX0_ladder 46 = .ok (.iload_n 1, 1) := dk_27 (dk_at dksX0_ladder_1 22 rfl rfl)
theorem dX0_ladder_47 : decode cX0_ladder 47 = .ok (.iconst (-1), 1) := dk_2 (dk_at dksX0_ladder_1 23 rfl rfl)
theorem dX0_ladder_48 : decode cX0_ladder 48 = .ok (.if_icmp .ne 10, 3) := dk_160 0 10 (dk_at dksX0_ladder_2 0 rfl rfl)
theorem dX0_ladder_51 : decode cX0_ladder 51 = .ok (.aload_n 0, 1) := dk_42 (dk_at dksX0_ladder_2 3 rfl rfl)
theorem dX0_ladder_52 : decode cX0_ladder 52 = .ok (.getfield 295, 3) := dk_180 1 39 (dk_at dksX0_ladder_2 4 rfl rfl)
theorem dX0_ladder_55 : decode cX0_ladder 55 = .ok (.goto 21, 3) := dk_167 0 21 (dk_at dksX0_ladder_2 7 rfl rfl)
theorem dX0_ladder_58 : decode cX0_ladder 58 = .ok (.iload_n 1, 1) := dk_27 (dk_at dksX0_ladder_2 10 rfl rfl)
theorem dX0_ladder_59 : decode cX0_ladder 59 = .ok (.aload_n 0, 1) := dk_42 (dk_at dksX0_ladder_2 11 rfl rfl)
theorem dX0_ladder_60 : decode cX0_ladder 60 = .ok (.getfield 295, 3) := dk_180 1 39 (dk_at dksX0_ladder_2 12 rfl rfl)
theorem dX0_ladder_63 : decode cX0_ladder 63 = .ok (.if_icmp .ge 12, 3) := dk_162 0 12 (dk_at dksX0_ladder_2 15 rfl rfl)
theorem dX0_ladder_66 : decode cX0_ladder 66 = .ok (.aload_n 0, 1) := dk_42 (dk_at dksX0_ladder_2 18 rfl rfl)
theorem dX0_ladder_67 : decode cX0_ladder 67 = .ok (.getfield 91, 3) := dk_180 0 91 (dk_at dksX0_ladder_2 19 rfl rfl)
theorem dX0_ladder_70 : decode cX0_ladder 70 = .ok (.iload_n 1, 1) := dk_27 (dk_at dksX0_ladder_2 22 rfl rfl)
theorem dX0_ladder_71 : decode cX0_ladder 71 = .ok (.iaload, 1) := dk_46 (dk_at dksX0_ladder_2 23 rfl rfl)
theorem dX0_ladder_72 : decode cX0_ladder 72 = .ok (.goto 4, 3) := dk_167 0 4 (dk_at dksX0_ladder_3 0 rfl rfl)
theorem dX0_ladder_75 : decode cX0_ladder 75 = .ok (.iconst (-1), 1) := dk_2 (dk_at dksX0_ladder_3 3 rfl rfl)
theorem dX0_ladder_76 : decode cX0_ladder 76 = .ok (.ireturn, 1) := dk_172 (dk_at dksX0_ladder_3 4 rfl rfl)
abbrev cX0_ladderFrom : ByteArray := prog_1_method_41_code
def yX0_ladderFrom : MethodName := ⟨RX0, "ladderFrom", "(LConkerYard;III)V"⟩
def dkwX0_ladderFrom_2 : List UInt8 := [46, 28, 4, 21, 4, 120, 128, 29, 4, 96, 184, 1, 35, 132, 4, 1, 167, 255, 202, 177]
abbrev dktX0_ladderFrom_2 : List UInt8 := dkwX0_ladderFrom_2 ++ []
def dkwX0_ladderFrom_1 : List UInt8 := [184, 0, 130, 154, 0, 6, 167, 0, 31, 42, 180, 0, 88, 29, 21, 4, 79, 42, 42, 180, 0, 76, 21, 4]
abbrev dktX0_ladderFrom_1 : List UInt8 := dkwX0_ladderFrom_1 ++ dktX0_ladderFrom_2
def dkwX0_ladderFrom_0 : List UInt8 := [42, 29, 182, 1, 32, 3, 54, 4, 21, 4, 16, 8, 162, 0, 53, 27, 28, 2, 130, 126, 21, 4]
abbrev dktX0_ladderFrom_0 : List UInt8 := dkwX0_ladderFrom_0 ++ dktX0_ladderFrom_1
theorem dksX0_ladderFrom_0 : cX0_ladderFrom.data.toList.drop 0 = dktX0_ladderFrom_0 := by decide +kernel
theorem dksX0_ladderFrom_1 : cX0_ladderFrom.data.toList.drop 22 = dktX0_ladderFrom_1 := dk_seg dksX0_ladderFrom_0 22 rfl rfl
theorem dksX0_ladderFrom_2 : cX0_ladderFrom.data.toList.drop 46 = dktX0_ladderFrom_2 := dk_seg dksX0_ladderFrom_1 24 rfl rfl
theorem dX0_ladderFrom_0 : decode cX0_ladderFrom 0 = .ok (.aload_n 0, 1) := dk_42 (dk_at dksX0_ladderFrom_0 0 rfl rfl)
theorem dX0_ladderFrom_1 : decode cX0_ladderFrom 1 = .ok (.iload_n 3, 1) := dk_29 (dk_at dksX0_ladderFrom_0 1 rfl rfl)
theorem dX0_ladderFrom_2 : decode cX0_ladderFrom 2 = .ok (.invokevirtual 288, 3) := dk_182 1 32 (dk_at dksX0_ladderFrom_0 2 rfl rfl)
theorem dX0_ladderFrom_5 : decode cX0_ladderFrom 5 = .ok (.iconst 0, 1) := dk_3 (dk_at dksX0_ladderFrom_0 5 rfl rfl)
theorem dX0_ladderFrom_6 : decode cX0_ladderFrom 6 = .ok (.istore 4, 2) := dk_54 4 (dk_at dksX0_ladderFrom_0 6 rfl rfl)
theorem dX0_ladderFrom_8 : decode cX0_ladderFrom 8 = .ok (.iload 4, 2) := dk_21 4 (dk_at dksX0_ladderFrom_0 8 rfl rfl)
theorem dX0_ladderFrom_10 : decode cX0_ladderFrom 10 = .ok (.bipush 8, 2) := dk_16 8 (dk_at dksX0_ladderFrom_0 10 rfl rfl)
theorem dX0_ladderFrom_12 : decode cX0_ladderFrom 12 = .ok (.if_icmp .ge 53, 3) := dk_162 0 53 (dk_at dksX0_ladderFrom_0 12 rfl rfl)
theorem dX0_ladderFrom_15 : decode cX0_ladderFrom 15 = .ok (.iload_n 1, 1) := dk_27 (dk_at dksX0_ladderFrom_0 15 rfl rfl)
theorem dX0_ladderFrom_16 : decode cX0_ladderFrom 16 = .ok (.iload_n 2, 1) := dk_28 (dk_at dksX0_ladderFrom_0 16 rfl rfl)
theorem dX0_ladderFrom_17 : decode cX0_ladderFrom 17 = .ok (.iconst (-1), 1) := dk_2 (dk_at dksX0_ladderFrom_0 17 rfl rfl)
theorem dX0_ladderFrom_18 : decode cX0_ladderFrom 18 = .ok (.ixor, 1) := dk_130 (dk_at dksX0_ladderFrom_0 18 rfl rfl)
theorem dX0_ladderFrom_19 : decode cX0_ladderFrom 19 = .ok (.iand, 1) := dk_126 (dk_at dksX0_ladderFrom_0 19 rfl rfl)
theorem dX0_ladderFrom_20 : decode cX0_ladderFrom 20 = .ok (.iload 4, 2) := dk_21 4 (dk_at dksX0_ladderFrom_0 20 rfl rfl)
theorem dX0_ladderFrom_22 : decode cX0_ladderFrom 22 = .ok (.invokestatic 130, 3) := dk_184 0 130 (dk_at dksX0_ladderFrom_1 0 rfl rfl)
theorem dX0_ladderFrom_25 : decode cX0_ladderFrom 25 = .ok (.ifCond .ne 6, 3) := dk_154 0 6 (dk_at dksX0_ladderFrom_1 3 rfl rfl)
theorem dX0_ladderFrom_28 : decode cX0_ladderFrom 28 = .ok (.goto 31, 3) := dk_167 0 31 (dk_at dksX0_ladderFrom_1 6 rfl rfl)
theorem dX0_ladderFrom_31 : decode cX0_ladderFrom 31 = .ok (.aload_n 0, 1) := dk_42 (dk_at dksX0_ladderFrom_1 9 rfl rfl)
theorem dX0_ladderFrom_32 : decode cX0_ladderFrom 32 = .ok (.getfield 88, 3) := dk_180 0 88 (dk_at dksX0_ladderFrom_1 10 rfl rfl)
theorem dX0_ladderFrom_35 : decode cX0_ladderFrom 35 = .ok (.iload_n 3, 1) := dk_29 (dk_at dksX0_ladderFrom_1 13 rfl rfl)
theorem dX0_ladderFrom_36 : decode cX0_ladderFrom 36 = .ok (.iload 4, 2) := dk_21 4 (dk_at dksX0_ladderFrom_1 14 rfl rfl)
theorem dX0_ladderFrom_38 : decode cX0_ladderFrom 38 = .ok (.iastore, 1) := dk_79 (dk_at dksX0_ladderFrom_1 16 rfl rfl)
theorem dX0_ladderFrom_39 : decode cX0_ladderFrom 39 = .ok (.aload_n 0, 1) := dk_42 (dk_at dksX0_ladderFrom_1 17 rfl rfl)
theorem dX0_ladderFrom_40 : decode cX0_ladderFrom 40 = .ok (.aload_n 0, 1) := dk_42 (dk_at dksX0_ladderFrom_1 18 rfl rfl)
theorem dX0_ladderFrom_41 : decode cX0_ladderFrom 41 = .ok (.getfield 76, 3) := dk_180 0 76 (dk_at dksX0_ladderFrom_1 19 rfl rfl)
theorem dX0_ladderFrom_44 : decode cX0_ladderFrom 44 = .ok (.iload 4, 2) := dk_21 4 (dk_at dksX0_ladderFrom_1 22 rfl rfl)
theorem dX0_ladderFrom_46 : decode cX0_ladderFrom 46 = .ok (.iaload, 1) := dk_46 (dk_at dksX0_ladderFrom_2 0 rfl rfl)
theorem dX0_ladderFrom_47 : decode cX0_ladderFrom 47 = .ok (.iload_n 2, 1) := dk_28 (dk_at dksX0_ladderFrom_2 1 rfl rfl)
theorem dX0_ladderFrom_48 : decode cX0_ladderFrom 48 = .ok (.iconst 1, 1) := dk_4 (dk_at dksX0_ladderFrom_2 2 rfl rfl)
theorem dX0_ladderFrom_49 : decode cX0_ladderFrom 49 = .ok (.iload 4, 2) := dk_21 4 (dk_at dksX0_ladderFrom_2 3 rfl rfl)
theorem dX0_ladderFrom_51 : decode cX0_ladderFrom 51 = .ok (.ishl, 1) := dk_120 (dk_at dksX0_ladderFrom_2 5 rfl rfl)
theorem dX0_ladderFrom_52 : decode cX0_ladderFrom 52 = .ok (.ior, 1) := dk_128 (dk_at dksX0_ladderFrom_2 6 rfl rfl)
theorem dX0_ladderFrom_53 : decode cX0_ladderFrom 53 = .ok (.iload_n 3, 1) := dk_29 (dk_at dksX0_ladderFrom_2 7 rfl rfl)
theorem dX0_ladderFrom_54 : decode cX0_ladderFrom 54 = .ok (.iconst 1, 1) := dk_4 (dk_at dksX0_ladderFrom_2 8 rfl rfl)
theorem dX0_ladderFrom_55 : decode cX0_ladderFrom 55 = .ok (.iadd, 1) := dk_96 (dk_at dksX0_ladderFrom_2 9 rfl rfl)
theorem dX0_ladderFrom_56 : decode cX0_ladderFrom 56 = .ok (.invokestatic 291, 3) := dk_184 1 35 (dk_at dksX0_ladderFrom_2 10 rfl rfl)
theorem dX0_ladderFrom_59 : decode cX0_ladderFrom 59 = .ok (.iinc 4 1, 3) := dk_132 4 1 (dk_at dksX0_ladderFrom_2 13 rfl rfl)
theorem dX0_ladderFrom_62 : decode cX0_ladderFrom 62 = .ok (.goto (-54), 3) := dk_167 255 202 (dk_at dksX0_ladderFrom_2 16 rfl rfl)
theorem dX0_ladderFrom_65 : decode cX0_ladderFrom 65 = .ok (.return_, 1) := dk_177 (dk_at dksX0_ladderFrom_2 19 rfl rfl)
abbrev cX0_isLadder : ByteArray := prog_1_method_42_code
def yX0_isLadder : MethodName := ⟨RX0, "isLadder", "(I)V"⟩
def dkwX0_isLadder_1 : List UInt8 := [180, 0, 91, 28, 42, 180, 0, 88, 28, 46, 79, 132, 2, 1, 167, 255, 236, 177]
abbrev dktX0_isLadder_1 : List UInt8 := dkwX0_isLadder_1 ++ []
def dkwX0_isLadder_0 : List UInt8 := [27, 42, 180, 1, 39, 163, 0, 4, 177, 42, 27, 181, 1, 39, 3, 61, 28, 27, 162, 0, 21, 42]
abbrev dktX0_isLadder_0 : List UInt8 := dkwX0_isLadder_0 ++ dktX0_isLadder_1
theorem dksX0_isLadder_0 : cX0_isLadder.data.toList.drop 0 = dktX0_isLadder_0 := by decide +kernel
theorem dksX0_isLadder_1 : cX0_isLadder.data.toList.drop 22 = dktX0_isLadder_1 := dk_seg dksX0_isLadder_0 22 rfl rfl
theorem dX0_isLadder_0 : decode cX0_isLadder 0 = .ok (.iload_n 1, 1) := dk_27 (dk_at dksX0_isLadder_0 0 rfl rfl)
theorem dX0_isLadder_1 : decode cX0_isLadder 1 = .ok (.aload_n 0, 1) := dk_42 (dk_at dksX0_isLadder_0 1 rfl rfl)
theorem dX0_isLadder_2 : decode cX0_isLadder 2 = .ok (.getfield 295, 3) := dk_180 1 39 (dk_at dksX0_isLadder_0 2 rfl rfl)
theorem dX0_isLadder_5 : decode cX0_isLadder 5 = .ok (.if_icmp .gt 4, 3) := dk_163 0 4 (dk_at dksX0_isLadder_0 5 rfl rfl)
theorem dX0_isLadder_8 : decode cX0_isLadder 8 = .ok (.return_, 1) := dk_177 (dk_at dksX0_isLadder_0 8 rfl rfl)
theorem dX0_isLadder_9 : decode cX0_isLadder 9 = .ok (.aload_n 0, 1) := dk_42 (dk_at dksX0_isLadder_0 9 rfl rfl)
theorem dX0_isLadder_10 : decode cX0_isLadder 10 = .ok (.iload_n 1, 1) := dk_27 (dk_at dksX0_isLadder_0 10 rfl rfl)
theorem dX0_isLadder_11 : decode cX0_isLadder 11 = .ok (.putfield 295, 3) := dk_181 1 39 (dk_at dksX0_isLadder_0 11 rfl rfl)
theorem dX0_isLadder_14 : decode cX0_isLadder 14 = .ok (.iconst 0, 1) := dk_3 (dk_at dksX0_isLadder_0 14 rfl rfl)
theorem dX0_isLadder_15 : decode cX0_isLadder 15 = .ok (.istore_n 2, 1) := dk_61 (dk_at dksX0_isLadder_0 15 rfl rfl)
theorem dX0_isLadder_16 : decode cX0_isLadder 16 = .ok (.iload_n 2, 1) := dk_28 (dk_at dksX0_isLadder_0 16 rfl rfl)
theorem dX0_isLadder_17 : decode cX0_isLadder 17 = .ok (.iload_n 1, 1) := dk_27 (dk_at dksX0_isLadder_0 17 rfl rfl)
theorem dX0_isLadder_18 : decode cX0_isLadder 18 = .ok (.if_icmp .ge 21, 3) := dk_162 0 21 (dk_at dksX0_isLadder_0 18 rfl rfl)
theorem dX0_isLadder_21 : decode cX0_isLadder 21 = .ok (.aload_n 0, 1) := dk_42 (dk_at dksX0_isLadder_0 21 rfl rfl)
theorem dX0_isLadder_22 : decode cX0_isLadder 22 = .ok (.getfield 91, 3) := dk_180 0 91 (dk_at dksX0_isLadder_1 0 rfl rfl)
theorem dX0_isLadder_25 : decode cX0_isLadder 25 = .ok (.iload_n 2, 1) := dk_28 (dk_at dksX0_isLadder_1 3 rfl rfl)
theorem dX0_isLadder_26 : decode cX0_isLadder 26 = .ok (.aload_n 0, 1) := dk_42 (dk_at dksX0_isLadder_1 4 rfl rfl)
theorem dX0_isLadder_27 : decode cX0_isLadder 27 = .ok (.getfield 88, 3) := dk_180 0 88 (dk_at dksX0_isLadder_1 5 rfl rfl)
theorem dX0_isLadder_30 : decode cX0_isLadder 30 = .ok (.iload_n 2, 1) := dk_28 (dk_at dksX0_isLadder_1 8 rfl rfl)
theorem dX0_isLadder_31 : decode cX0_isLadder 31 = .ok (.iaload, 1) := dk_46 (dk_at dksX0_isLadder_1 9 rfl rfl)
theorem dX0_isLadder_32 : decode cX0_isLadder 32 = .ok (.iastore, 1) := dk_79 (dk_at dksX0_isLadder_1 10 rfl rfl)
theorem dX0_isLadder_33 : decode cX0_isLadder 33 = .ok (.iinc 2 1, 3) := dk_132 2 1 (dk_at dksX0_isLadder_1 11 rfl rfl)
theorem dX0_isLadder_36 : decode cX0_isLadder 36 = .ok (.goto (-20), 3) := dk_167 255 236 (dk_at dksX0_isLadder_1 14 rfl rfl)
theorem dX0_isLadder_39 : decode cX0_isLadder 39 = .ok (.return_, 1) := dk_177 (dk_at dksX0_isLadder_1 17 rfl rfl)
abbrev cX0_rings : ByteArray := prog_1_method_44_code
def yX0_rings : MethodName := ⟨RX0, "rings", "()I"⟩
def dkwX0_rings_2 : List UInt8 := [132, 2, 1, 167, 255, 223, 27, 172]
abbrev dktX0_rings_2 : List UInt8 := dkwX0_rings_2 ++ []
def dkwX0_rings_1 : List UInt8 := [42, 42, 180, 0, 76, 28, 46, 42, 180, 0, 19, 180, 0, 127, 182, 1, 9, 4, 28, 120, 126, 128, 60]
abbrev dktX0_rings_1 : List UInt8 := dkwX0_rings_1 ++ dktX0_rings_2
def dkwX0_rings_0 : List UInt8 := [42, 182, 0, 235, 154, 0, 5, 2, 172, 42, 182, 1, 6, 3, 60, 3, 61, 28, 16, 8, 162, 0, 33, 27]
abbrev dktX0_rings_0 : List UInt8 := dkwX0_rings_0 ++ dktX0_rings_1
theorem dksX0_rings_0 : cX0_rings.data.toList.drop 0 = dktX0_rings_0 := by decide +kernel
theorem dksX0_rings_1 : cX0_rings.data.toList.drop 24 = dktX0_rings_1 := dk_seg dksX0_rings_0 24 rfl rfl
theorem dksX0_rings_2 : cX0_rings.data.toList.drop 47 = dktX0_rings_2 := dk_seg dksX0_rings_1 23 rfl rfl
theorem dX0_rings_0 : decode cX0_rings 0 = .ok (.aload_n 0, 1) := dk_42 (dk_at dksX0_rings_0 0 rfl rfl)
theorem dX0_rings_1 : decode cX0_rings 1 = .ok (.invokevirtual 235, 3) := dk_182 0 235 (dk_at dksX0_rings_0 1 rfl rfl)
theorem dX0_rings_4 : decode cX0_rings 4 = .ok (.ifCond .ne 5, 3) := dk_154 0 5 (dk_at dksX0_rings_0 4 rfl rfl)
theorem dX0_rings_7 : decode cX0_rings 7 = .ok (.iconst (-1), 1) := dk_2 (dk_at dksX0_rings_0 7 rfl rfl)
theorem dX0_rings_8 : decode cX0_rings 8 = .ok (.ireturn, 1) := dk_172 (dk_at dksX0_rings_0 8 rfl rfl)
theorem dX0_rings_9 : decode cX0_rings 9 = .ok (.aload_n 0, 1) := dk_42 (dk_at dksX0_rings_0 9 rfl rfl)
theorem dX0_rings_10 : decode cX0_rings 10 = .ok (.invokevirtual 262, 3) := dk_182 1 6 (dk_at dksX0_rings_0 10 rfl rfl)
theorem dX0_rings_13 : decode cX0_rings 13 = .ok (.iconst 0, 1) := dk_3 (dk_at dksX0_rings_0 13 rfl rfl)
theorem dX0_rings_14 : decode cX0_rings 14 = .ok (.istore_n 1, 1) := dk_60 (dk_at dksX0_rings_0 14 rfl rfl)
theorem dX0_rings_15 : decode cX0_rings 15 = .ok (.iconst 0, 1) := dk_3 (dk_at dksX0_rings_0 15 rfl rfl)
theorem dX0_rings_16 : decode cX0_rings 16 = .ok (.istore_n 2, 1) := dk_61 (dk_at dksX0_rings_0 16 rfl rfl)
theorem dX0_rings_17 : decode cX0_rings 17 = .ok (.iload_n 2, 1) := dk_28 (dk_at dksX0_rings_0 17 rfl rfl)
theorem dX0_rings_18 : decode cX0_rings 18 = .ok (.bipush 8, 2) := dk_16 8 (dk_at dksX0_rings_0 18 rfl rfl)
theorem dX0_rings_20 : decode cX0_rings 20 = .ok (.if_icmp .ge 33, 3) := dk_162 0 33 (dk_at dksX0_rings_0 20 rfl rfl)
theorem dX0_rings_23 : decode cX0_rings 23 = .ok (.iload_n 1, 1) := dk_27 (dk_at dksX0_rings_0 23 rfl rfl)
theorem dX0_rings_24 : decode cX0_rings 24 = .ok (.aload_n 0, 1) := dk_42 (dk_at dksX0_rings_1 0 rfl rfl)
theorem dX0_rings_25 : decode cX0_rings 25 = .ok (.aload_n 0, 1) := dk_42 (dk_at dksX0_rings_1 1 rfl rfl)
theorem dX0_rings_26 : decode cX0_rings 26 = .ok (.getfield 76, 3) := dk_180 0 76 (dk_at dksX0_rings_1 2 rfl rfl)
theorem dX0_rings_29 : decode cX0_rings 29 = .ok (.iload_n 2, 1) := dk_28 (dk_at dksX0_rings_1 5 rfl rfl)
theorem dX0_rings_30 : decode cX0_rings 30 = .ok (.iaload, 1) := dk_46 (dk_at dksX0_rings_1 6 rfl rfl)
theorem dX0_rings_31 : decode cX0_rings 31 = .ok (.aload_n 0, 1) := dk_42 (dk_at dksX0_rings_1 7 rfl rfl)
theorem dX0_rings_32 : decode cX0_rings 32 = .ok (.getfield 19, 3) := dk_180 0 19 (dk_at dksX0_rings_1 8 rfl rfl)
theorem dX0_rings_35 : decode cX0_rings 35 = .ok (.getfield 127, 3) := dk_180 0 127 (dk_at dksX0_rings_1 11 rfl rfl)
theorem dX0_rings_38 : decode cX0_rings 38 = .ok (.invokevirtual 265, 3) := dk_182 1 9 (dk_at dksX0_rings_1 14 rfl rfl)
theorem dX0_rings_41 : decode cX0_rings 41 = .ok (.iconst 1, 1) := dk_4 (dk_at dksX0_rings_1 17 rfl rfl)
theorem dX0_rings_42 : decode cX0_rings 42 = .ok (.iload_n 2, 1) := dk_28 (dk_at dksX0_rings_1 18 rfl rfl)
theorem dX0_rings_43 : decode cX0_rings 43 = .ok (.ishl, 1) := dk_120 (dk_at dksX0_rings_1 19 rfl rfl)
theorem dX0_rings_44 : decode cX0_rings 44 = .ok (.iand, 1) := dk_126 (dk_at dksX0_rings_1 20 rfl rfl)
theorem dX0_rings_45 : decode cX0_rings 45 = .ok (.ior, 1) := dk_128 (dk_at dksX0_rings_1 21 rfl rfl)
theorem dX0_rings_46 : decode cX0_rings 46 = .ok (.istore_n 1, 1) := dk_60 (dk_at dksX0_rings_1 22 rfl rfl)
theorem dX0_rings_47 : decode cX0_rings 47 = .ok (.iinc 2 1, 3) := dk_132 2 1 (dk_at dksX0_rings_2 0 rfl rfl)
theorem dX0_rings_50 : decode cX0_rings 50 = .ok (.goto (-33), 3) := dk_167 255 223 (dk_at dksX0_rings_2 3 rfl rfl)
theorem dX0_rings_53 : decode cX0_rings 53 = .ok (.iload_n 1, 1) := dk_27 (dk_at dksX0_rings_2 6 rfl rfl)
theorem dX0_rings_54 : decode cX0_rings 54 = .ok (.ireturn, 1) := dk_172 (dk_at dksX0_rings_2 7 rfl rfl)
abbrev cX0_kings : ByteArray := prog_1_method_45_code
def yX0_kings : MethodName := ⟨RX0, "kings", "()I"⟩
def dkwX0_kings_4 : List UInt8 := [180, 0, 127, 160, 0, 9, 4, 28, 120, 167, 0, 4, 3, 128, 60, 132, 2, 1, 167, 255, 163, 27, 172]
abbrev dktX0_kings_4 : List UInt8 := dkwX0_kings_4 ++ []
def dkwX0_kings_3 : List UInt8 := [128, 62, 132, 4, 1, 167, 255, 218, 27, 42, 28, 182, 0, 242, 153, 0, 20, 29, 42, 180, 0, 19]
abbrev dktX0_kings_3 : List UInt8 := dkwX0_kings_3 ++ dktX0_kings_4
def dkwX0_kings_2 : List UInt8 := [180, 0, 76, 28, 46, 21, 4, 184, 0, 130, 153, 0, 13, 42, 180, 0, 76, 21, 4, 46, 167, 0, 4, 3]
abbrev dktX0_kings_2 : List UInt8 := dkwX0_kings_2 ++ dktX0_kings_3
def dkwX0_kings_1 : List UInt8 := [28, 120, 42, 180, 0, 76, 28, 46, 128, 62, 3, 54, 4, 21, 4, 16, 8, 162, 0, 37, 29, 42]
abbrev dktX0_kings_1 : List UInt8 := dkwX0_kings_1 ++ dktX0_kings_2
def dkwX0_kings_0 : List UInt8 := [42, 182, 0, 235, 154, 0, 5, 2, 172, 42, 182, 1, 6, 3, 60, 3, 61, 28, 16, 8, 162, 0, 93, 4]
abbrev dktX0_kings_0 : List UInt8 := dkwX0_kings_0 ++ dktX0_kings_1
theorem dksX0_kings_0 : cX0_kings.data.toList.drop 0 = dktX0_kings_0 := by decide +kernel
theorem dksX0_kings_1 : cX0_kings.data.toList.drop 24 = dktX0_kings_1 := dk_seg dksX0_kings_0 24 rfl rfl
theorem dksX0_kings_2 : cX0_kings.data.toList.drop 46 = dktX0_kings_2 := dk_seg dksX0_kings_1 22 rfl rfl
theorem dksX0_kings_3 : cX0_kings.data.toList.drop 70 = dktX0_kings_3 := dk_seg dksX0_kings_2 24 rfl rfl
theorem dksX0_kings_4 : cX0_kings.data.toList.drop 92 = dktX0_kings_4 := dk_seg dksX0_kings_3 22 rfl rfl
theorem dX0_kings_0 : decode cX0_kings 0 = .ok (.aload_n 0, 1) := dk_42 (dk_at dksX0_kings_0 0 rfl rfl)
theorem dX0_kings_1 : decode cX0_kings 1 = .ok (.invokevirtual 235, 3) := dk_182 0 235 (dk_at dksX0_kings_0 1 rfl rfl)
theorem dX0_kings_4 : decode cX0_kings 4 = .ok (.ifCond .ne 5, 3) := dk_154 0 5 (dk_at dksX0_kings_0 4 rfl rfl)
theorem dX0_kings_7 : decode cX0_kings 7 = .ok (.iconst (-1), 1) := dk_2 (dk_at dksX0_kings_0 7 rfl rfl)
theorem dX0_kings_8 : decode cX0_kings 8 = .ok (.ireturn, 1) := dk_172 (dk_at dksX0_kings_0 8 rfl rfl)
theorem dX0_kings_9 : decode cX0_kings 9 = .ok (.aload_n 0, 1) := dk_42 (dk_at dksX0_kings_0 9 rfl rfl)
theorem dX0_kings_10 : decode cX0_kings 10 = .ok (.invokevirtual 262, 3) := dk_182 1 6 (dk_at dksX0_kings_0 10 rfl rfl)
theorem dX0_kings_13 : decode cX0_kings 13 = .ok (.iconst 0, 1) := dk_3 (dk_at dksX0_kings_0 13 rfl rfl)
theorem dX0_kings_14 : decode cX0_kings 14 = .ok (.istore_n 1, 1) := dk_60 (dk_at dksX0_kings_0 14 rfl rfl)
theorem dX0_kings_15 : decode cX0_kings 15 = .ok (.iconst 0, 1) := dk_3 (dk_at dksX0_kings_0 15 rfl rfl)
theorem dX0_kings_16 : decode cX0_kings 16 = .ok (.istore_n 2, 1) := dk_61 (dk_at dksX0_kings_0 16 rfl rfl)
theorem dX0_kings_17 : decode cX0_kings 17 = .ok (.iload_n 2, 1) := dk_28 (dk_at dksX0_kings_0 17 rfl rfl)
theorem dX0_kings_18 : decode cX0_kings 18 = .ok (.bipush 8, 2) := dk_16 8 (dk_at dksX0_kings_0 18 rfl rfl)
theorem dX0_kings_20 : decode cX0_kings 20 = .ok (.if_icmp .ge 93, 3) := dk_162 0 93 (dk_at dksX0_kings_0 20 rfl rfl)
theorem dX0_kings_23 : decode cX0_kings 23 = .ok (.iconst 1, 1) := dk_4 (dk_at dksX0_kings_0 23 rfl rfl)
theorem dX0_kings_24 : decode cX0_kings 24 = .ok (.iload_n 2, 1) := dk_28 (dk_at dksX0_kings_1 0 rfl rfl)
theorem dX0_kings_25 : decode cX0_kings 25 = .ok (.ishl, 1) := dk_120 (dk_at dksX0_kings_1 1 rfl rfl)
theorem dX0_kings_26 : decode cX0_kings 26 = .ok (.aload_n 0, 1) := dk_42 (dk_at dksX0_kings_1 2 rfl rfl)
theorem dX0_kings_27 : decode cX0_kings 27 = .ok (.getfield 76, 3) := dk_180 0 76 (dk_at dksX0_kings_1 3 rfl rfl)
theorem dX0_kings_30 : decode cX0_kings 30 = .ok (.iload_n 2, 1) := dk_28 (dk_at dksX0_kings_1 6 rfl rfl)
theorem dX0_kings_31 : decode cX0_kings 31 = .ok (.iaload, 1) := dk_46 (dk_at dksX0_kings_1 7 rfl rfl)
theorem dX0_kings_32 : decode cX0_kings 32 = .ok (.ior, 1) := dk_128 (dk_at dksX0_kings_1 8 rfl rfl)
theorem dX0_kings_33 : decode cX0_kings 33 = .ok (.istore_n 3, 1) := dk_62 (dk_at dksX0_kings_1 9 rfl rfl)
theorem dX0_kings_34 : decode cX0_kings 34 = .ok (.iconst 0, 1) := dk_3 (dk_at dksX0_kings_1 10 rfl rfl)
theorem dX0_kings_35 : decode cX0_kings 35 = .ok (.istore 4, 2) := dk_54 4 (dk_at dksX0_kings_1 11 rfl rfl)
theorem dX0_kings_37 : decode cX0_kings 37 = .ok (.iload 4, 2) := dk_21 4 (dk_at dksX0_kings_1 13 rfl rfl)
theorem dX0_kings_39 : decode cX0_kings 39 = .ok (.bipush 8, 2) := dk_16 8 (dk_at dksX0_kings_1 15 rfl rfl)
theorem dX0_kings_41 : decode cX0_kings 41 = .ok (.if_icmp .ge 37, 3) := dk_162 0 37 (dk_at dksX0_kings_1 17 rfl rfl)
theorem dX0_kings_44 : decode cX0_kings 44 = .ok (.iload_n 3, 1) := dk_29 (dk_at dksX0_kings_1 20 rfl rfl)
theorem dX0_kings_45 : decode cX0_kings 45 = .ok (.aload_n 0, 1) := dk_42 (dk_at dksX0_kings_1 21 rfl rfl)
theorem dX0_kings_46 : decode cX0_kings 46 = .ok (.getfield 76, 3) := dk_180 0 76 (dk_at dksX0_kings_2 0 rfl rfl)
theorem dX0_kings_49 : decode cX0_kings 49 = .ok (.iload_n 2, 1) := dk_28 (dk_at dksX0_kings_2 3 rfl rfl)
theorem dX0_kings_50 : decode cX0_kings 50 = .ok (.iaload, 1) := dk_46 (dk_at dksX0_kings_2 4 rfl rfl)
theorem dX0_kings_51 : decode cX0_kings 51 = .ok (.iload 4, 2) := dk_21 4 (dk_at dksX0_kings_2 5 rfl rfl)
theorem dX0_kings_53 : decode cX0_kings 53 = .ok (.invokestatic 130, 3) := dk_184 0 130 (dk_at dksX0_kings_2 7 rfl rfl)
theorem dX0_kings_56 : decode cX0_kings 56 = .ok (.ifCond .eq 13, 3) := dk_153 0 13 (dk_at dksX0_kings_2 10 rfl rfl)
theorem dX0_kings_59 : decode cX0_kings 59 = .ok (.aload_n 0, 1) := dk_42 (dk_at dksX0_kings_2 13 rfl rfl)
theorem dX0_kings_60 : decode cX0_kings 60 = .ok (.getfield 76, 3) := dk_180 0 76 (dk_at dksX0_kings_2 14 rfl rfl)
theorem dX0_kings_63 : decode cX0_kings 63 = .ok (.iload 4, 2) := dk_21 4 (dk_at dksX0_kings_2 17 rfl rfl)
theorem dX0_kings_65 : decode cX0_kings 65 = .ok (.iaload, 1) := dk_46 (dk_at dksX0_kings_2 19 rfl rfl)
theorem dX0_kings_66 : decode cX0_kings 66 = .ok (.goto 4, 3) := dk_167 0 4 (dk_at dksX0_kings_2 20 rfl rfl)
theorem dX0_kings_69 : decode cX0_kings 69 = .ok (.iconst 0, 1) := dk_3 (dk_at dksX0_kings_2 23 rfl rfl)
theorem dX0_kings_70 : decode cX0_kings 70 = .ok (.ior, 1) := dk_128 (dk_at dksX0_kings_3 0 rfl rfl)
theorem dX0_kings_71 : decode cX0_kings 71 = .ok (.istore_n 3, 1) := dk_62 (dk_at dksX0_kings_3 1 rfl rfl)
theorem dX0_kings_72 : decode cX0_kings 72 = .ok (.iinc 4 1, 3) := dk_132 4 1 (dk_at dksX0_kings_3 2 rfl rfl)
theorem dX0_kings_75 : decode cX0_kings 75 = .ok (.goto (-38), 3) := dk_167 255 218 (dk_at dksX0_kings_3 5 rfl rfl)
theorem dX0_kings_78 : decode cX0_kings 78 = .ok (.iload_n 1, 1) := dk_27 (dk_at dksX0_kings_3 8 rfl rfl)
theorem dX0_kings_79 : decode cX0_kings 79 = .ok (.aload_n 0, 1) := dk_42 (dk_at dksX0_kings_3 9 rfl rfl)
theorem dX0_kings_80 : decode cX0_kings 80 = .ok (.iload_n 2, 1) := dk_28 (dk_at dksX0_kings_3 10 rfl rfl)
theorem dX0_kings_81 : decode cX0_kings 81 = .ok (.invokevirtual 242, 3) := dk_182 0 242 (dk_at dksX0_kings_3 11 rfl rfl)
theorem dX0_kings_84 : decode cX0_kings 84 = .ok (.ifCond .eq 20, 3) := dk_153 0 20 (dk_at dksX0_kings_3 14 rfl rfl)
theorem dX0_kings_87 : decode cX0_kings 87 = .ok (.iload_n 3, 1) := dk_29 (dk_at dksX0_kings_3 17 rfl rfl)
theorem dX0_kings_88 : decode cX0_kings 88 = .ok (.aload_n 0, 1) := dk_42 (dk_at dksX0_kings_3 18 rfl rfl)
theorem dX0_kings_89 : decode cX0_kings 89 = .ok (.getfield 19, 3) := dk_180 0 19 (dk_at dksX0_kings_3 19 rfl rfl)
theorem dX0_kings_92 : decode cX0_kings 92 = .ok (.getfield 127, 3) := dk_180 0 127 (dk_at dksX0_kings_4 0 rfl rfl)
theorem dX0_kings_95 : decode cX0_kings 95 = .ok (.if_icmp .ne 9, 3) := dk_160 0 9 (dk_at dksX0_kings_4 3 rfl rfl)
theorem dX0_kings_98 : decode cX0_kings 98 = .ok (.iconst 1, 1) := dk_4 (dk_at dksX0_kings_4 6 rfl rfl)
theorem dX0_kings_99 : decode cX0_kings 99 = .ok (.iload_n 2, 1) := dk_28 (dk_at dksX0_kings_4 7 rfl rfl)
theorem dX0_kings_100 : decode cX0_kings 100 = .ok (.ishl, 1) := dk_120 (dk_at dksX0_kings_4 8 rfl rfl)
theorem dX0_kings_101 : decode cX0_kings 101 = .ok (.goto 4, 3) := dk_167 0 4 (dk_at dksX0_kings_4 9 rfl rfl)
theorem dX0_kings_104 : decode cX0_kings 104 = .ok (.iconst 0, 1) := dk_3 (dk_at dksX0_kings_4 12 rfl rfl)
theorem dX0_kings_105 : decode cX0_kings 105 = .ok (.ior, 1) := dk_128 (dk_at dksX0_kings_4 13 rfl rfl)
theorem dX0_kings_106 : decode cX0_kings 106 = .ok (.istore_n 1, 1) := dk_60 (dk_at dksX0_kings_4 14 rfl rfl)
theorem dX0_kings_107 : decode cX0_kings 107 = .ok (.iinc 2 1, 3) := dk_132 2 1 (dk_at dksX0_kings_4 15 rfl rfl)
theorem dX0_kings_110 : decode cX0_kings 110 = .ok (.goto (-93), 3) := dk_167 255 163 (dk_at dksX0_kings_4 18 rfl rfl)
theorem dX0_kings_113 : decode cX0_kings 113 = .ok (.iload_n 1, 1) := dk_27 (dk_at dksX0_kings_4 21 rfl rfl)
theorem dX0_kings_114 : decode cX0_kings 114 = .ok (.ireturn, 1) := dk_172 (dk_at dksX0_kings_4 22 rfl rfl)
abbrev cX0_ahead : ByteArray := prog_1_method_46_code
def yX0_ahead : MethodName := ⟨RX0, "ahead", "(III)I"⟩
def dkwX0_ahead_4 : List UInt8 := [180, 0, 23, 180, 0, 176, 27, 46, 172]
abbrev dktX0_ahead_4 : List UInt8 := dkwX0_ahead_4 ++ []
def dkwX0_ahead_3 : List UInt8 := [180, 0, 127, 167, 0, 29, 29, 4, 160, 0, 15, 42, 180, 0, 23, 180, 0, 179, 27, 46, 167, 0, 12, 42]
abbrev dktX0_ahead_3 : List UInt8 := dkwX0_ahead_3 ++ dktX0_ahead_4
def dkwX0_ahead_2 : List UInt8 := [180, 0, 23, 42, 180, 0, 19, 182, 0, 225, 42, 28, 182, 1, 46, 29, 154, 0, 13, 42, 180, 0, 23]
abbrev dktX0_ahead_2 : List UInt8 := dkwX0_ahead_2 ++ dktX0_ahead_3
def dkwX0_ahead_1 : List UInt8 := [27, 182, 0, 123, 153, 0, 15, 28, 133, 9, 20, 1, 44, 184, 0, 119, 154, 0, 5, 2, 172, 42]
abbrev dktX0_ahead_1 : List UInt8 := dkwX0_ahead_1 ++ dktX0_ahead_2
def dkwX0_ahead_0 : List UInt8 := [42, 182, 0, 235, 153, 0, 39, 29, 133, 9, 20, 1, 42, 184, 0, 119, 153, 0, 27, 29, 158, 0, 11, 42]
abbrev dktX0_ahead_0 : List UInt8 := dkwX0_ahead_0 ++ dktX0_ahead_1
theorem dksX0_ahead_0 : cX0_ahead.data.toList.drop 0 = dktX0_ahead_0 := by decide +kernel
theorem dksX0_ahead_1 : cX0_ahead.data.toList.drop 24 = dktX0_ahead_1 := dk_seg dksX0_ahead_0 24 rfl rfl
theorem dksX0_ahead_2 : cX0_ahead.data.toList.drop 46 = dktX0_ahead_2 := dk_seg dksX0_ahead_1 22 rfl rfl
theorem dksX0_ahead_3 : cX0_ahead.data.toList.drop 69 = dktX0_ahead_3 := dk_seg dksX0_ahead_2 23 rfl rfl
theorem dksX0_ahead_4 : cX0_ahead.data.toList.drop 93 = dktX0_ahead_4 := dk_seg dksX0_ahead_3 24 rfl rfl
theorem dX0_ahead_0 : decode cX0_ahead 0 = .ok (.aload_n 0, 1) := dk_42 (dk_at dksX0_ahead_0 0 rfl rfl)
theorem dX0_ahead_1 : decode cX0_ahead 1 = .ok (.invokevirtual 235, 3) := dk_182 0 235 (dk_at dksX0_ahead_0 1 rfl rfl)
theorem dX0_ahead_4 : decode cX0_ahead 4 = .ok (.ifCond .eq 39, 3) := dk_153 0 39 (dk_at dksX0_ahead_0 4 rfl rfl)
theorem dX0_ahead_7 : decode cX0_ahead 7 = .ok (.iload_n 3, 1) := dk_29 (dk_at dksX0_ahead_0 7 rfl rfl)
theorem dX0_ahead_8 : decode cX0_ahead 8 = .ok (.i2l, 1) := dk_133 (dk_at dksX0_ahead_0 8 rfl rfl)
theorem dX0_ahead_9 : decode cX0_ahead 9 = .ok (.lconst 0, 1) := dk_9 (dk_at dksX0_ahead_0 9 rfl rfl)
theorem dX0_ahead_10 : decode cX0_ahead 10 = .ok (.ldc2_w 298, 3) := dk_20 1 42 (dk_at dksX0_ahead_0 10 rfl rfl)
theorem dX0_ahead_13 : decode cX0_ahead 13 = .ok (.invokestatic 119, 3) := dk_184 0 119 (dk_at dksX0_ahead_0 13 rfl rfl)
theorem dX0_ahead_16 : decode cX0_ahead 16 = .ok (.ifCond .eq 27, 3) := dk_153 0 27 (dk_at dksX0_ahead_0 16 rfl rfl)
theorem dX0_ahead_19 : decode cX0_ahead 19 = .ok (.iload_n 3, 1) := dk_29 (dk_at dksX0_ahead_0 19 rfl rfl)
theorem dX0_ahead_20 : decode cX0_ahead 20 = .ok (.ifCond .le 11, 3) := dk_158 0 11 (dk_at dksX0_ahead_0 20 rfl rfl)
theorem dX0_ahead_23 : decode cX0_ahead 23 = .ok (.aload_n 0, 1) := dk_42 (dk_at dksX0_ahead_0 23 rfl rfl)
theorem dX0_ahead_24 : decode cX0_ahead 24 = .ok (.iload_n 1, 1) := dk_27 (dk_at dksX0_ahead_1 0 rfl rfl)
theorem dX0_ahead_25 : decode cX0_ahead 25 = .ok (.invokevirtual 123, 3) := dk_182 0 123 (dk_at dksX0_ahead_1 1 rfl rfl)
theorem dX0_ahead_28 : decode cX0_ahead 28 = .ok (.ifCond .eq 15, 3) := dk_153 0 15 (dk_at dksX0_ahead_1 4 rfl rfl)
theorem dX0_ahead_31 : decode cX0_ahead 31 = .ok (.iload_n 2, 1) := dk_28 (dk_at dksX0_ahead_1 7 rfl rfl)
theorem dX0_ahead_32 : decode cX0_ahead 32 = .ok (.i2l, 1) := dk_133 (dk_at dksX0_ahead_1 8 rfl rfl)
theorem dX0_ahead_33 : decode cX0_ahead 33 = .ok (.lconst 0, 1) := dk_9 (dk_at dksX0_ahead_1 9 rfl rfl)
theorem dX0_ahead_34 : decode cX0_ahead 34 = .ok (.ldc2_w 300, 3) := dk_20 1 44 (dk_at dksX0_ahead_1 10 rfl rfl)
theorem dX0_ahead_37 : decode cX0_ahead 37 = .ok (.invokestatic 119, 3) := dk_184 0 119 (dk_at dksX0_ahead_1 13 rfl rfl)
theorem dX0_ahead_40 : decode cX0_ahead 40 = .ok (.ifCond .ne 5, 3) := dk_154 0 5 (dk_at dksX0_ahead_1 16 rfl rfl)
theorem dX0_ahead_43 : decode cX0_ahead 43 = .ok (.iconst (-1), 1) := dk_2 (dk_at dksX0_ahead_1 19 rfl rfl)
theorem dX0_ahead_44 : decode cX0_ahead 44 = .ok (.ireturn, 1) := dk_172 (dk_at dksX0_ahead_1 20 rfl rfl)
theorem dX0_ahead_45 : decode cX0_ahead 45 = .ok (.aload_n 0, 1) := dk_42 (dk_at dksX0_ahead_1 21 rfl rfl)
theorem dX0_ahead_46 : decode cX0_ahead 46 = .ok (.getfield 23, 3) := dk_180 0 23 (dk_at dksX0_ahead_2 0 rfl rfl)
theorem dX0_ahead_49 : decode cX0_ahead 49 = .ok (.aload_n 0, 1) := dk_42 (dk_at dksX0_ahead_2 3 rfl rfl)
theorem dX0_ahead_50 : decode cX0_ahead 50 = .ok (.getfield 19, 3) := dk_180 0 19 (dk_at dksX0_ahead_2 4 rfl rfl)
theorem dX0_ahead_53 : decode cX0_ahead 53 = .ok (.invokevirtual 225, 3) := dk_182 0 225 (dk_at dksX0_ahead_2 7 rfl rfl)
theorem dX0_ahead_56 : decode cX0_ahead 56 = .ok (.aload_n 0, 1) := dk_42 (dk_at dksX0_ahead_2 10 rfl rfl)
theorem dX0_ahead_57 : decode cX0_ahead 57 = .ok (.iload_n 2, 1) := dk_28 (dk_at dksX0_ahead_2 11 rfl rfl)
theorem dX0_ahead_58 : decode cX0_ahead 58 = .ok (.invokevirtual 302, 3) := dk_182 1 46 (dk_at dksX0_ahead_2 12 rfl rfl)
theorem dX0_ahead_61 : decode cX0_ahead 61 = .ok (.iload_n 3, 1) := dk_29 (dk_at dksX0_ahead_2 15 rfl rfl)
theorem dX0_ahead_62 : decode cX0_ahead 62 = .ok (.ifCond .ne 13, 3) := dk_154 0 13 (dk_at dksX0_ahead_2 16 rfl rfl)
theorem dX0_ahead_65 : decode cX0_ahead 65 = .ok (.aload_n 0, 1) := dk_42 (dk_at dksX0_ahead_2 19 rfl rfl)
theorem dX0_ahead_66 : decode cX0_ahead 66 = .ok (.getfield 23, 3) := dk_180 0 23 (dk_at dksX0_ahead_2 20 rfl rfl)
theorem dX0_ahead_69 : decode cX0_ahead 69 = .ok (.getfield 127, 3) := dk_180 0 127 (dk_at dksX0_ahead_3 0 rfl rfl)
theorem dX0_ahead_72 : decode cX0_ahead 72 = .ok (.goto 29, 3) := dk_167 0 29 (dk_at dksX0_ahead_3 3 rfl rfl)
theorem dX0_ahead_75 : decode cX0_ahead 75 = .ok (.iload_n 3, 1) := dk_29 (dk_at dksX0_ahead_3 6 rfl rfl)
theorem dX0_ahead_76 : decode cX0_ahead 76 = .ok (.iconst 1, 1) := dk_4 (dk_at dksX0_ahead_3 7 rfl rfl)
theorem dX0_ahead_77 : decode cX0_ahead 77 = .ok (.if_icmp .ne 15, 3) := dk_160 0 15 (dk_at dksX0_ahead_3 8 rfl rfl)
theorem dX0_ahead_80 : decode cX0_ahead 80 = .ok (.aload_n 0, 1) := dk_42 (dk_at dksX0_ahead_3 11 rfl rfl)
theorem dX0_ahead_81 : decode cX0_ahead 81 = .ok (.getfield 23, 3) := dk_180 0 23 (dk_at dksX0_ahead_3 12 rfl rfl)
theorem dX0_ahead_84 : decode cX0_ahead 84 = .ok (.getfield 179, 3) := dk_180 0 179 (dk_at dksX0_ahead_3 15 rfl rfl)
theorem dX0_ahead_87 : decode cX0_ahead 87 = .ok (.iload_n 1, 1) := dk_27 (dk_at dksX0_ahead_3 18 rfl rfl)
theorem dX0_ahead_88 : decode cX0_ahead 88 = .ok (.iaload, 1) := dk_46 (dk_at dksX0_ahead_3 19 rfl rfl)
theorem dX0_ahead_89 : decode cX0_ahead 89 = .ok (.goto 12, 3) := dk_167 0 12 (dk_at dksX0_ahead_3 20 rfl rfl)
theorem dX0_ahead_92 : decode cX0_ahead 92 = .ok (.aload_n 0, 1) := dk_42 (dk_at dksX0_ahead_3 23 rfl rfl)
theorem dX0_ahead_93 : decode cX0_ahead 93 = .ok (.getfield 23, 3) := dk_180 0 23 (dk_at dksX0_ahead_4 0 rfl rfl)
theorem dX0_ahead_96 : decode cX0_ahead 96 = .ok (.getfield 176, 3) := dk_180 0 176 (dk_at dksX0_ahead_4 3 rfl rfl)
theorem dX0_ahead_99 : decode cX0_ahead 99 = .ok (.iload_n 1, 1) := dk_27 (dk_at dksX0_ahead_4 6 rfl rfl)
theorem dX0_ahead_100 : decode cX0_ahead 100 = .ok (.iaload, 1) := dk_46 (dk_at dksX0_ahead_4 7 rfl rfl)
theorem dX0_ahead_101 : decode cX0_ahead 101 = .ok (.ireturn, 1) := dk_172 (dk_at dksX0_ahead_4 8 rfl rfl)
abbrev cX0_goesTill : ByteArray := prog_1_method_19_code
def yX0_goesTill : MethodName := ⟨RX0, "goesTill", "(I)V"⟩
def dkwX0_goesTill_0 : List UInt8 := [3, 61, 28, 27, 162, 0, 18, 42, 42, 180, 0, 23, 182, 0, 219, 87, 132, 2, 1, 167, 255, 239, 177]
abbrev dktX0_goesTill_0 : List UInt8 := dkwX0_goesTill_0 ++ []
theorem dksX0_goesTill_0 : cX0_goesTill.data.toList.drop 0 = dktX0_goesTill_0 := by decide +kernel
theorem dX0_goesTill_0 : decode cX0_goesTill 0 = .ok (.iconst 0, 1) := dk_3 (dk_at dksX0_goesTill_0 0 rfl rfl)
theorem dX0_goesTill_1 : decode cX0_goesTill 1 = .ok (.istore_n 2, 1) := dk_61 (dk_at dksX0_goesTill_0 1 rfl rfl)
theorem dX0_goesTill_2 : decode cX0_goesTill 2 = .ok (.iload_n 2, 1) := dk_28 (dk_at dksX0_goesTill_0 2 rfl rfl)
theorem dX0_goesTill_3 : decode cX0_goesTill 3 = .ok (.iload_n 1, 1) := dk_27 (dk_at dksX0_goesTill_0 3 rfl rfl)
theorem dX0_goesTill_4 : decode cX0_goesTill 4 = .ok (.if_icmp .ge 18, 3) := dk_162 0 18 (dk_at dksX0_goesTill_0 4 rfl rfl)
theorem dX0_goesTill_7 : decode cX0_goesTill 7 = .ok (.aload_n 0, 1) := dk_42 (dk_at dksX0_goesTill_0 7 rfl rfl)
theorem dX0_goesTill_8 : decode cX0_goesTill 8 = .ok (.aload_n 0, 1) := dk_42 (dk_at dksX0_goesTill_0 8 rfl rfl)
theorem dX0_goesTill_9 : decode cX0_goesTill 9 = .ok (.getfield 23, 3) := dk_180 0 23 (dk_at dksX0_goesTill_0 9 rfl rfl)
theorem dX0_goesTill_12 : decode cX0_goesTill 12 = .ok (.invokevirtual 219, 3) := dk_182 0 219 (dk_at dksX0_goesTill_0 12 rfl rfl)
theorem dX0_goesTill_15 : decode cX0_goesTill 15 = .ok (.pop, 1) := dk_87 (dk_at dksX0_goesTill_0 15 rfl rfl)
theorem dX0_goesTill_16 : decode cX0_goesTill 16 = .ok (.iinc 2 1, 3) := dk_132 2 1 (dk_at dksX0_goesTill_0 16 rfl rfl)
theorem dX0_goesTill_19 : decode cX0_goesTill 19 = .ok (.goto (-17), 3) := dk_167 255 239 (dk_at dksX0_goesTill_0 19 rfl rfl)
theorem dX0_goesTill_22 : decode cX0_goesTill 22 = .ok (.return_, 1) := dk_177 (dk_at dksX0_goesTill_0 22 rfl rfl)
abbrev cX0_smashed : ByteArray := prog_1_method_47_code
def yX0_smashed : MethodName := ⟨RX0, "smashed", "(I)I"⟩
def dkwX0_smashed_3 : List UInt8 := [172]
abbrev dktX0_smashed_3 : List UInt8 := dkwX0_smashed_3 ++ []
def dkwX0_smashed_2 : List UInt8 := [184, 0, 130, 154, 0, 13, 42, 180, 0, 23, 180, 0, 192, 4, 100, 172, 132, 2, 1, 167, 255, 213, 16, 254]
abbrev dktX0_smashed_2 : List UInt8 := dkwX0_smashed_2 ++ dktX0_smashed_3
def dkwX0_smashed_1 : List UInt8 := [17, 0, 200, 162, 0, 42, 42, 42, 180, 0, 23, 182, 0, 219, 87, 42, 180, 0, 23, 180, 0, 127, 27]
abbrev dktX0_smashed_1 : List UInt8 := dkwX0_smashed_1 ++ dktX0_smashed_2
def dkwX0_smashed_0 : List UInt8 := [42, 27, 182, 0, 242, 154, 0, 5, 2, 172, 42, 180, 0, 23, 42, 180, 0, 19, 182, 0, 225, 3, 61, 28]
abbrev dktX0_smashed_0 : List UInt8 := dkwX0_smashed_0 ++ dktX0_smashed_1
theorem dksX0_smashed_0 : cX0_smashed.data.toList.drop 0 = dktX0_smashed_0 := by decide +kernel
theorem dksX0_smashed_1 : cX0_smashed.data.toList.drop 24 = dktX0_smashed_1 := dk_seg dksX0_smashed_0 24 rfl rfl
theorem dksX0_smashed_2 : cX0_smashed.data.toList.drop 47 = dktX0_smashed_2 := dk_seg dksX0_smashed_1 23 rfl rfl
theorem dksX0_smashed_3 : cX0_smashed.data.toList.drop 71 = dktX0_smashed_3 := dk_seg dksX0_smashed_2 24 rfl rfl
theorem dX0_smashed_0 : decode cX0_smashed 0 = .ok (.aload_n 0, 1) := dk_42 (dk_at dksX0_smashed_0 0 rfl rfl)
theorem dX0_smashed_1 : decode cX0_smashed 1 = .ok (.iload_n 1, 1) := dk_27 (dk_at dksX0_smashed_0 1 rfl rfl)
theorem dX0_smashed_2 : decode cX0_smashed 2 = .ok (.invokevirtual 242, 3) := dk_182 0 242 (dk_at dksX0_smashed_0 2 rfl rfl)
theorem dX0_smashed_5 : decode cX0_smashed 5 = .ok (.ifCond .ne 5, 3) := dk_154 0 5 (dk_at dksX0_smashed_0 5 rfl rfl)
theorem dX0_smashed_8 : decode cX0_smashed 8 = .ok (.iconst (-1), 1) := dk_2 (dk_at dksX0_smashed_0 8 rfl rfl)
theorem dX0_smashed_9 : decode cX0_smashed 9 = .ok (.ireturn, 1) := dk_172 (dk_at dksX0_smashed_0 9 rfl rfl)
theorem dX0_smashed_10 : decode cX0_smashed 10 = .ok (.aload_n 0, 1) := dk_42 (dk_at dksX0_smashed_0 10 rfl rfl)
theorem dX0_smashed_11 : decode cX0_smashed 11 = .ok (.getfield 23, 3) := dk_180 0 23 (dk_at dksX0_smashed_0 11 rfl rfl)
theorem dX0_smashed_14 : decode cX0_smashed 14 = .ok (.aload_n 0, 1) := dk_42 (dk_at dksX0_smashed_0 14 rfl rfl)
theorem dX0_smashed_15 : decode cX0_smashed 15 = .ok (.getfield 19, 3) := dk_180 0 19 (dk_at dksX0_smashed_0 15 rfl rfl)
theorem dX0_smashed_18 : decode cX0_smashed 18 = .ok (.invokevirtual 225, 3) := dk_182 0 225 (dk_at dksX0_smashed_0 18 rfl rfl)
theorem dX0_smashed_21 : decode cX0_smashed 21 = .ok (.iconst 0, 1) := dk_3 (dk_at dksX0_smashed_0 21 rfl rfl)
theorem dX0_smashed_22 : decode cX0_smashed 22 = .ok (.istore_n 2, 1) := dk_61 (dk_at dksX0_smashed_0 22 rfl rfl)
theorem dX0_smashed_23 : decode cX0_smashed 23 = .ok (.iload_n 2, 1) := dk_28 (dk_at dksX0_smashed_0 23 rfl rfl)
theorem dX0_smashed_24 : decode cX0_smashed 24 = .ok (.sipush 200, 3) := dk_17 0 200 (dk_at dksX0_smashed_1 0 rfl rfl)
theorem dX0_smashed_27 : decode cX0_smashed 27 = .ok (.if_icmp .ge 42, 3) := dk_162 0 42 (dk_at dksX0_smashed_1 3 rfl rfl)
theorem dX0_smashed_30 : decode cX0_smashed 30 = .ok (.aload_n 0, 1) := dk_42 (dk_at dksX0_smashed_1 6 rfl rfl)
theorem dX0_smashed_31 : decode cX0_smashed 31 = .ok (.aload_n 0, 1) := dk_42 (dk_at dksX0_smashed_1 7 rfl rfl)
theorem dX0_smashed_32 : decode cX0_smashed 32 = .ok (.getfield 23, 3) := dk_180 0 23 (dk_at dksX0_smashed_1 8 rfl rfl)
theorem dX0_smashed_35 : decode cX0_smashed 35 = .ok (.invokevirtual 219, 3) := dk_182 0 219 (dk_at dksX0_smashed_1 11 rfl rfl)
theorem dX0_smashed_38 : decode cX0_smashed 38 = .ok (.pop, 1) := dk_87 (dk_at dksX0_smashed_1 14 rfl rfl)
theorem dX0_smashed_39 : decode cX0_smashed 39 = .ok (.aload_n 0, 1) := dk_42 (dk_at dksX0_smashed_1 15 rfl rfl)
theorem dX0_smashed_40 : decode cX0_smashed 40 = .ok (.getfield 23, 3) := dk_180 0 23 (dk_at dksX0_smashed_1 16 rfl rfl)
theorem dX0_smashed_43 : decode cX0_smashed 43 = .ok (.getfield 127, 3) := dk_180 0 127 (dk_at dksX0_smashed_1 19 rfl rfl)
theorem dX0_smashed_46 : decode cX0_smashed 46 = .ok (.iload_n 1, 1) := dk_27 (dk_at dksX0_smashed_1 22 rfl rfl)
theorem dX0_smashed_47 : decode cX0_smashed 47 = .ok (.invokestatic 130, 3) := dk_184 0 130 (dk_at dksX0_smashed_2 0 rfl rfl)
theorem dX0_smashed_50 : decode cX0_smashed 50 = .ok (.ifCond .ne 13, 3) := dk_154 0 13 (dk_at dksX0_smashed_2 3 rfl rfl)
theorem dX0_smashed_53 : decode cX0_smashed 53 = .ok (.aload_n 0, 1) := dk_42 (dk_at dksX0_smashed_2 6 rfl rfl)
theorem dX0_smashed_54 : decode cX0_smashed 54 = .ok (.getfield 23, 3) := dk_180 0 23 (dk_at dksX0_smashed_2 7 rfl rfl)
theorem dX0_smashed_57 : decode cX0_smashed 57 = .ok (.getfield 192, 3) := dk_180 0 192 (dk_at dksX0_smashed_2 10 rfl rfl)
theorem dX0_smashed_60 : decode cX0_smashed 60 = .ok (.iconst 1, 1) := dk_4 (dk_at dksX0_smashed_2 13 rfl rfl)
theorem dX0_smashed_61 : decode cX0_smashed 61 = .ok (.isub, 1) := dk_100 (dk_at dksX0_smashed_2 14 rfl rfl)
theorem dX0_smashed_62 : decode cX0_smashed 62 = .ok (.ireturn, 1) := dk_172 (dk_at dksX0_smashed_2 15 rfl rfl)
theorem dX0_smashed_63 : decode cX0_smashed 63 = .ok (.iinc 2 1, 3) := dk_132 2 1 (dk_at dksX0_smashed_2 16 rfl rfl)
theorem dX0_smashed_66 : decode cX0_smashed 66 = .ok (.goto (-43), 3) := dk_167 255 213 (dk_at dksX0_smashed_2 19 rfl rfl)
theorem dX0_smashed_69 : decode cX0_smashed 69 = .ok (.bipush (-2), 2) := dk_16 254 (dk_at dksX0_smashed_2 22 rfl rfl)
theorem dX0_smashed_71 : decode cX0_smashed 71 = .ok (.ireturn, 1) := dk_172 (dk_at dksX0_smashed_3 0 rfl rfl)
abbrev cX0_alone : ByteArray := prog_1_method_48_code
def yX0_alone : MethodName := ⟨RX0, "alone", "()I"⟩
def dkwX0_alone_3 : List UInt8 := [16, 254, 172]
abbrev dktX0_alone_3 : List UInt8 := dkwX0_alone_3 ++ []
def dkwX0_alone_2 : List UInt8 := [184, 0, 186, 5, 162, 0, 13, 42, 180, 0, 23, 180, 0, 192, 4, 100, 172, 132, 1, 1, 167, 255, 213]
abbrev dktX0_alone_2 : List UInt8 := dkwX0_alone_2 ++ dktX0_alone_3
def dkwX0_alone_1 : List UInt8 := [17, 0, 200, 162, 0, 42, 42, 42, 180, 0, 23, 182, 0, 219, 87, 42, 180, 0, 23, 180, 0, 127]
abbrev dktX0_alone_1 : List UInt8 := dkwX0_alone_1 ++ dktX0_alone_2
def dkwX0_alone_0 : List UInt8 := [42, 182, 0, 235, 154, 0, 5, 2, 172, 42, 180, 0, 23, 42, 180, 0, 19, 182, 0, 225, 3, 60, 27]
abbrev dktX0_alone_0 : List UInt8 := dkwX0_alone_0 ++ dktX0_alone_1
theorem dksX0_alone_0 : cX0_alone.data.toList.drop 0 = dktX0_alone_0 := by decide +kernel
theorem dksX0_alone_1 : cX0_alone.data.toList.drop 23 = dktX0_alone_1 := dk_seg dksX0_alone_0 23 rfl rfl
theorem dksX0_alone_2 : cX0_alone.data.toList.drop 45 = dktX0_alone_2 := dk_seg dksX0_alone_1 22 rfl rfl
theorem dksX0_alone_3 : cX0_alone.data.toList.drop 68 = dktX0_alone_3 := dk_seg dksX0_alone_2 23 rfl rfl
theorem dX0_alone_0 : decode cX0_alone 0 = .ok (.aload_n 0, 1) := dk_42 (dk_at dksX0_alone_0 0 rfl rfl)
theorem dX0_alone_1 : decode cX0_alone 1 = .ok (.invokevirtual 235, 3) := dk_182 0 235 (dk_at dksX0_alone_0 1 rfl rfl)
theorem dX0_alone_4 : decode cX0_alone 4 = .ok (.ifCond .ne 5, 3) := dk_154 0 5 (dk_at dksX0_alone_0 4 rfl rfl)
theorem dX0_alone_7 : decode cX0_alone 7 = .ok (.iconst (-1), 1) := dk_2 (dk_at dksX0_alone_0 7 rfl rfl)
theorem dX0_alone_8 : decode cX0_alone 8 = .ok (.ireturn, 1) := dk_172 (dk_at dksX0_alone_0 8 rfl rfl)
theorem dX0_alone_9 : decode cX0_alone 9 = .ok (.aload_n 0, 1) := dk_42 (dk_at dksX0_alone_0 9 rfl rfl)
theorem dX0_alone_10 : decode cX0_alone 10 = .ok (.getfield 23, 3) := dk_180 0 23 (dk_at dksX0_alone_0 10 rfl rfl)
theorem dX0_alone_13 : decode cX0_alone 13 = .ok (.aload_n 0, 1) := dk_42 (dk_at dksX0_alone_0 13 rfl rfl)
theorem dX0_alone_14 : decode cX0_alone 14 = .ok (.getfield 19, 3) := dk_180 0 19 (dk_at dksX0_alone_0 14 rfl rfl)
theorem dX0_alone_17 : decode cX0_alone 17 = .ok (.invokevirtual 225, 3) := dk_182 0 225 (dk_at dksX0_alone_0 17 rfl rfl)
theorem dX0_alone_20 : decode cX0_alone 20 = .ok (.iconst 0, 1) := dk_3 (dk_at dksX0_alone_0 20 rfl rfl)
theorem dX0_alone_21 : decode cX0_alone 21 = .ok (.istore_n 1, 1) := dk_60 (dk_at dksX0_alone_0 21 rfl rfl)
theorem dX0_alone_22 : decode cX0_alone 22 = .ok (.iload_n 1, 1) := dk_27 (dk_at dksX0_alone_0 22 rfl rfl)
theorem dX0_alone_23 : decode cX0_alone 23 = .ok (.sipush 200, 3) := dk_17 0 200 (dk_at dksX0_alone_1 0 rfl rfl)
theorem dX0_alone_26 : decode cX0_alone 26 = .ok (.if_icmp .ge 42, 3) := dk_162 0 42 (dk_at dksX0_alone_1 3 rfl rfl)
theorem dX0_alone_29 : decode cX0_alone 29 = .ok (.aload_n 0, 1) := dk_42 (dk_at dksX0_alone_1 6 rfl rfl)
theorem dX0_alone_30 : decode cX0_alone 30 = .ok (.aload_n 0, 1) := dk_42 (dk_at dksX0_alone_1 7 rfl rfl)
theorem dX0_alone_31 : decode cX0_alone 31 = .ok (.getfield 23, 3) := dk_180 0 23 (dk_at dksX0_alone_1 8 rfl rfl)
theorem dX0_alone_34 : decode cX0_alone 34 = .ok (.invokevirtual 219, 3) := dk_182 0 219 (dk_at dksX0_alone_1 11 rfl rfl)
theorem dX0_alone_37 : decode cX0_alone 37 = .ok (.pop, 1) := dk_87 (dk_at dksX0_alone_1 14 rfl rfl)
theorem dX0_alone_38 : decode cX0_alone 38 = .ok (.aload_n 0, 1) := dk_42 (dk_at dksX0_alone_1 15 rfl rfl)
theorem dX0_alone_39 : decode cX0_alone 39 = .ok (.getfield 23, 3) := dk_180 0 23 (dk_at dksX0_alone_1 16 rfl rfl)
theorem dX0_alone_42 : decode cX0_alone 42 = .ok (.getfield 127, 3) := dk_180 0 127 (dk_at dksX0_alone_1 19 rfl rfl)
theorem dX0_alone_45 : decode cX0_alone 45 = .ok (.invokestatic 186, 3) := dk_184 0 186 (dk_at dksX0_alone_2 0 rfl rfl)
theorem dX0_alone_48 : decode cX0_alone 48 = .ok (.iconst 2, 1) := dk_5 (dk_at dksX0_alone_2 3 rfl rfl)
theorem dX0_alone_49 : decode cX0_alone 49 = .ok (.if_icmp .ge 13, 3) := dk_162 0 13 (dk_at dksX0_alone_2 4 rfl rfl)
theorem dX0_alone_52 : decode cX0_alone 52 = .ok (.aload_n 0, 1) := dk_42 (dk_at dksX0_alone_2 7 rfl rfl)
theorem dX0_alone_53 : decode cX0_alone 53 = .ok (.getfield 23, 3) := dk_180 0 23 (dk_at dksX0_alone_2 8 rfl rfl)
theorem dX0_alone_56 : decode cX0_alone 56 = .ok (.getfield 192, 3) := dk_180 0 192 (dk_at dksX0_alone_2 11 rfl rfl)
theorem dX0_alone_59 : decode cX0_alone 59 = .ok (.iconst 1, 1) := dk_4 (dk_at dksX0_alone_2 14 rfl rfl)
theorem dX0_alone_60 : decode cX0_alone 60 = .ok (.isub, 1) := dk_100 (dk_at dksX0_alone_2 15 rfl rfl)
theorem dX0_alone_61 : decode cX0_alone 61 = .ok (.ireturn, 1) := dk_172 (dk_at dksX0_alone_2 16 rfl rfl)
theorem dX0_alone_62 : decode cX0_alone 62 = .ok (.iinc 1 1, 3) := dk_132 1 1 (dk_at dksX0_alone_2 17 rfl rfl)
theorem dX0_alone_65 : decode cX0_alone 65 = .ok (.goto (-43), 3) := dk_167 255 213 (dk_at dksX0_alone_2 20 rfl rfl)
theorem dX0_alone_68 : decode cX0_alone 68 = .ok (.bipush (-2), 2) := dk_16 254 (dk_at dksX0_alone_3 0 rfl rfl)
theorem dX0_alone_70 : decode cX0_alone 70 = .ok (.ireturn, 1) := dk_172 (dk_at dksX0_alone_3 2 rfl rfl)
abbrev cX0_best : ByteArray := prog_1_method_49_code
def yX0_best : MethodName := ⟨RX0, "best", "(II)I"⟩
def dkwX0_best_6 : List UInt8 := [154, 0, 7, 29, 167, 0, 5, 21, 4, 172]
abbrev dktX0_best_6 : List UInt8 := dkwX0_best_6 ++ []
def dkwX0_best_5 : List UInt8 := [164, 0, 6, 21, 5, 62, 21, 4, 21, 6, 184, 1, 51, 54, 4, 132, 5, 1, 167, 255, 160, 28]
abbrev dktX0_best_5 : List UInt8 := dkwX0_best_5 ++ dktX0_best_6
def dkwX0_best_4 : List UInt8 := [182, 0, 247, 42, 27, 182, 1, 46, 42, 180, 0, 23, 180, 0, 127, 184, 0, 186, 54, 6, 21, 6, 21, 4]
abbrev dktX0_best_4 : List UInt8 := dkwX0_best_4 ++ dktX0_best_5
def dkwX0_best_3 : List UInt8 := [42, 180, 0, 23, 42, 180, 0, 19, 182, 0, 225, 21, 5, 2, 159, 0, 13, 42, 180, 0, 23, 21, 5, 8]
abbrev dktX0_best_3 : List UInt8 := dkwX0_best_3 ++ dktX0_best_4
def dkwX0_best_2 : List UInt8 := [182, 0, 115, 162, 0, 90, 21, 5, 2, 159, 0, 15, 42, 21, 5, 182, 0, 242, 154, 0, 6, 167, 0, 66]
abbrev dktX0_best_2 : List UInt8 := dkwX0_best_2 ++ dktX0_best_3
def dkwX0_best_1 : List UInt8 := [184, 0, 119, 154, 0, 6, 16, 254, 172, 2, 62, 2, 54, 4, 2, 54, 5, 21, 5, 42, 180, 0, 10]
abbrev dktX0_best_1 : List UInt8 := dkwX0_best_1 ++ dktX0_best_2
def dkwX0_best_0 : List UInt8 := [42, 182, 0, 235, 153, 0, 25, 27, 133, 10, 20, 1, 49, 184, 0, 119, 153, 0, 13, 28, 133, 9, 10]
abbrev dktX0_best_0 : List UInt8 := dkwX0_best_0 ++ dktX0_best_1
theorem dksX0_best_0 : cX0_best.data.toList.drop 0 = dktX0_best_0 := by decide +kernel
theorem dksX0_best_1 : cX0_best.data.toList.drop 23 = dktX0_best_1 := dk_seg dksX0_best_0 23 rfl rfl
theorem dksX0_best_2 : cX0_best.data.toList.drop 46 = dktX0_best_2 := dk_seg dksX0_best_1 23 rfl rfl
theorem dksX0_best_3 : cX0_best.data.toList.drop 70 = dktX0_best_3 := dk_seg dksX0_best_2 24 rfl rfl
theorem dksX0_best_4 : cX0_best.data.toList.drop 94 = dktX0_best_4 := dk_seg dksX0_best_3 24 rfl rfl
theorem dksX0_best_5 : cX0_best.data.toList.drop 118 = dktX0_best_5 := dk_seg dksX0_best_4 24 rfl rfl
theorem dksX0_best_6 : cX0_best.data.toList.drop 140 = dktX0_best_6 := dk_seg dksX0_best_5 22 rfl rfl
theorem dX0_best_0 : decode cX0_best 0 = .ok (.aload_n 0, 1) := dk_42 (dk_at dksX0_best_0 0 rfl rfl)
theorem dX0_best_1 : decode cX0_best 1 = .ok (.invokevirtual 235, 3) := dk_182 0 235 (dk_at dksX0_best_0 1 rfl rfl)
theorem dX0_best_4 : decode cX0_best 4 = .ok (.ifCond .eq 25, 3) := dk_153 0 25 (dk_at dksX0_best_0 4 rfl rfl)
theorem dX0_best_7 : decode cX0_best 7 = .ok (.iload_n 1, 1) := dk_27 (dk_at dksX0_best_0 7 rfl rfl)
theorem dX0_best_8 : decode cX0_best 8 = .ok (.i2l, 1) := dk_133 (dk_at dksX0_best_0 8 rfl rfl)
theorem dX0_best_9 : decode cX0_best 9 = .ok (.lconst 1, 1) := dk_10 (dk_at dksX0_best_0 9 rfl rfl)
theorem dX0_best_10 : decode cX0_best 10 = .ok (.ldc2_w 305, 3) := dk_20 1 49 (dk_at dksX0_best_0 10 rfl rfl)
theorem dX0_best_13 : decode cX0_best 13 = .ok (.invokestatic 119, 3) := dk_184 0 119 (dk_at dksX0_best_0 13 rfl rfl)
theorem dX0_best_16 : decode cX0_best 16 = .ok (.ifCond .eq 13, 3) := dk_153 0 13 (dk_at dksX0_best_0 16 rfl rfl)
theorem dX0_best_19 : decode cX0_best 19 = .ok (.iload_n 2, 1) := dk_28 (dk_at dksX0_best_0 19 rfl rfl)
theorem dX0_best_20 : decode cX0_best 20 = .ok (.i2l, 1) := dk_133 (dk_at dksX0_best_0 20 rfl rfl)
theorem dX0_best_21 : decode cX0_best 21 = .ok (.lconst 0, 1) := dk_9 (dk_at dksX0_best_0 21 rfl rfl)
theorem dX0_best_22 : decode cX0_best 22 = .ok (.lconst 1, 1) := dk_10 (dk_at dksX0_best_0 22 rfl rfl)
theorem dX0_best_23 : decode cX0_best 23 = .ok (.invokestatic 119, 3) := dk_184 0 119 (dk_at dksX0_best_1 0 rfl rfl)
theorem dX0_best_26 : decode cX0_best 26 = .ok (.ifCond .ne 6, 3) := dk_154 0 6 (dk_at dksX0_best_1 3 rfl rfl)
theorem dX0_best_29 : decode cX0_best 29 = .ok (.bipush (-2), 2) := dk_16 254 (dk_at dksX0_best_1 6 rfl rfl)
theorem dX0_best_31 : decode cX0_best 31 = .ok (.ireturn, 1) := dk_172 (dk_at dksX0_best_1 8 rfl rfl)
theorem dX0_best_32 : decode cX0_best 32 = .ok (.iconst (-1), 1) := dk_2 (dk_at dksX0_best_1 9 rfl rfl)
theorem dX0_best_33 : decode cX0_best 33 = .ok (.istore_n 3, 1) := dk_62 (dk_at dksX0_best_1 10 rfl rfl)
theorem dX0_best_34 : decode cX0_best 34 = .ok (.iconst (-1), 1) := dk_2 (dk_at dksX0_best_1 11 rfl rfl)
theorem dX0_best_35 : decode cX0_best 35 = .ok (.istore 4, 2) := dk_54 4 (dk_at dksX0_best_1 12 rfl rfl)
theorem dX0_best_37 : decode cX0_best 37 = .ok (.iconst (-1), 1) := dk_2 (dk_at dksX0_best_1 14 rfl rfl)
theorem dX0_best_38 : decode cX0_best 38 = .ok (.istore 5, 2) := dk_54 5 (dk_at dksX0_best_1 15 rfl rfl)
theorem dX0_best_40 : decode cX0_best 40 = .ok (.iload 5, 2) := dk_21 5 (dk_at dksX0_best_1 17 rfl rfl)
theorem dX0_best_42 : decode cX0_best 42 = .ok (.aload_n 0, 1) := dk_42 (dk_at dksX0_best_1 19 rfl rfl)
theorem dX0_best_43 : decode cX0_best 43 = .ok (.getfield 10, 3) := dk_180 0 10 (dk_at dksX0_best_1 20 rfl rfl)
theorem dX0_best_46 : decode cX0_best 46 = .ok (.invokevirtual 115, 3) := dk_182 0 115 (dk_at dksX0_best_2 0 rfl rfl)
theorem dX0_best_49 : decode cX0_best 49 = .ok (.if_icmp .ge 90, 3) := dk_162 0 90 (dk_at dksX0_best_2 3 rfl rfl)
theorem dX0_best_52 : decode cX0_best 52 = .ok (.iload 5, 2) := dk_21 5 (dk_at dksX0_best_2 6 rfl rfl)
theorem dX0_best_54 : decode cX0_best 54 = .ok (.iconst (-1), 1) := dk_2 (dk_at dksX0_best_2 8 rfl rfl)
theorem dX0_best_55 : decode cX0_best 55 = .ok (.if_icmp .eq 15, 3) := dk_159 0 15 (dk_at dksX0_best_2 9 rfl rfl)
theorem dX0_best_58 : decode cX0_best 58 = .ok (.aload_n 0, 1) := dk_42 (dk_at dksX0_best_2 12 rfl rfl)
theorem dX0_best_59 : decode cX0_best 59 = .ok (.iload 5, 2) := dk_21 5 (dk_at dksX0_best_2 13 rfl rfl)
theorem dX0_best_61 : decode cX0_best 61 = .ok (.invokevirtual 242, 3) := dk_182 0 242 (dk_at dksX0_best_2 15 rfl rfl)
theorem dX0_best_64 : decode cX0_best 64 = .ok (.ifCond .ne 6, 3) := dk_154 0 6 (dk_at dksX0_best_2 18 rfl rfl)
theorem dX0_best_67 : decode cX0_best 67 = .ok (.goto 66, 3) := dk_167 0 66 (dk_at dksX0_best_2 21 rfl rfl)
theorem dX0_best_70 : decode cX0_best 70 = .ok (.aload_n 0, 1) := dk_42 (dk_at dksX0_best_3 0 rfl rfl)
theorem dX0_best_71 : decode cX0_best 71 = .ok (.getfield 23, 3) := dk_180 0 23 (dk_at dksX0_best_3 1 rfl rfl)
theorem dX0_best_74 : decode cX0_best 74 = .ok (.aload_n 0, 1) := dk_42 (dk_at dksX0_best_3 4 rfl rfl)
theorem dX0_best_75 : decode cX0_best 75 = .ok (.getfield 19, 3) := dk_180 0 19 (dk_at dksX0_best_3 5 rfl rfl)
theorem dX0_best_78 : decode cX0_best 78 = .ok (.invokevirtual 225, 3) := dk_182 0 225 (dk_at dksX0_best_3 8 rfl rfl)
theorem dX0_best_81 : decode cX0_best 81 = .ok (.iload 5, 2) := dk_21 5 (dk_at dksX0_best_3 11 rfl rfl)
theorem dX0_best_83 : decode cX0_best 83 = .ok (.iconst (-1), 1) := dk_2 (dk_at dksX0_best_3 13 rfl rfl)
theorem dX0_best_84 : decode cX0_best 84 = .ok (.if_icmp .eq 13, 3) := dk_159 0 13 (dk_at dksX0_best_3 14 rfl rfl)
theorem dX0_best_87 : decode cX0_best 87 = .ok (.aload_n 0, 1) := dk_42 (dk_at dksX0_best_3 17 rfl rfl)
theorem dX0_best_88 : decode cX0_best 88 = .ok (.getfield 23, 3) := dk_180 0 23 (dk_at dksX0_best_3 18 rfl rfl)
theorem dX0_best_91 : decode cX0_best 91 = .ok (.iload 5, 2) := dk_21 5 (dk_at dksX0_best_3 21 rfl rfl)
theorem dX0_best_93 : decode cX0_best 93 = .ok (.iconst 5, 1) := dk_8 (dk_at dksX0_best_3 23 rfl rfl)
theorem dX0_best_94 : decode cX0_best 94 = .ok (.invokevirtual 247, 3) := dk_182 0 247 (dk_at dksX0_best_4 0 rfl rfl)
theorem dX0_best_97 : decode cX0_best 97 = .ok (.aload_n 0, 1) := dk_42 (dk_at dksX0_best_4 3 rfl rfl)
theorem dX0_best_98 : decode cX0_best 98 = .ok (.iload_n 1, 1) := dk_27 (dk_at dksX0_best_4 4 rfl rfl)
theorem dX0_best_99 : decode cX0_best 99 = .ok (.invokevirtual 302, 3) := dk_182 1 46 (dk_at dksX0_best_4 5 rfl rfl)
theorem dX0_best_102 : decode cX0_best 102 = .ok (.aload_n 0, 1) := dk_42 (dk_at dksX0_best_4 8 rfl rfl)
theorem dX0_best_103 : decode cX0_best 103 = .ok (.getfield 23, 3) := dk_180 0 23 (dk_at dksX0_best_4 9 rfl rfl)
theorem dX0_best_106 : decode cX0_best 106 = .ok (.getfield 127, 3) := dk_180 0 127 (dk_at dksX0_best_4 12 rfl rfl)
theorem dX0_best_109 : decode cX0_best 109 = .ok (.invokestatic 186, 3) := dk_184 0 186 (dk_at dksX0_best_4 15 rfl rfl)
theorem dX0_best_112 : decode cX0_best 112 = .ok (.istore 6, 2) := dk_54 6 (dk_at dksX0_best_4 18 rfl rfl)
theorem dX0_best_114 : decode cX0_best 114 = .ok (.iload 6, 2) := dk_21 6 (dk_at dksX0_best_4 20 rfl rfl)
theorem dX0_best_116 : decode cX0_best 116 = .ok (.iload 4, 2) := dk_21 4 (dk_at dksX0_best_4 22 rfl rfl)
theorem dX0_best_118 : decode cX0_best 118 = .ok (.if_icmp .le 6, 3) := dk_164 0 6 (dk_at dksX0_best_5 0 rfl rfl)
theorem dX0_best_121 : decode cX0_best 121 = .ok (.iload 5, 2) := dk_21 5 (dk_at dksX0_best_5 3 rfl rfl)
theorem dX0_best_123 : decode cX0_best 123 = .ok (.istore_n 3, 1) := dk_62 (dk_at dksX0_best_5 5 rfl rfl)
theorem dX0_best_124 : decode cX0_best 124 = .ok (.iload 4, 2) := dk_21 4 (dk_at dksX0_best_5 6 rfl rfl)
theorem dX0_best_126 : decode cX0_best 126 = .ok (.iload 6, 2) := dk_21 6 (dk_at dksX0_best_5 8 rfl rfl)
theorem dX0_best_128 : decode cX0_best 128 = .ok (.invokestatic 307, 3) := dk_184 1 51 (dk_at dksX0_best_5 10 rfl rfl)
theorem dX0_best_131 : decode cX0_best 131 = .ok (.istore 4, 2) := dk_54 4 (dk_at dksX0_best_5 13 rfl rfl)
theorem dX0_best_133 : decode cX0_best 133 = .ok (.iinc 5 1, 3) := dk_132 5 1 (dk_at dksX0_best_5 15 rfl rfl)
theorem dX0_best_136 : decode cX0_best 136 = .ok (.goto (-96), 3) := dk_167 255 160 (dk_at dksX0_best_5 18 rfl rfl)
theorem dX0_best_139 : decode cX0_best 139 = .ok (.iload_n 2, 1) := dk_28 (dk_at dksX0_best_5 21 rfl rfl)
theorem dX0_best_140 : decode cX0_best 140 = .ok (.ifCond .ne 7, 3) := dk_154 0 7 (dk_at dksX0_best_6 0 rfl rfl)
theorem dX0_best_143 : decode cX0_best 143 = .ok (.iload_n 3, 1) := dk_29 (dk_at dksX0_best_6 3 rfl rfl)
theorem dX0_best_144 : decode cX0_best 144 = .ok (.goto 5, 3) := dk_167 0 5 (dk_at dksX0_best_6 4 rfl rfl)
theorem dX0_best_147 : decode cX0_best 147 = .ok (.iload 4, 2) := dk_21 4 (dk_at dksX0_best_6 7 rfl rfl)
theorem dX0_best_149 : decode cX0_best 149 = .ok (.ireturn, 1) := dk_172 (dk_at dksX0_best_6 9 rfl rfl)
abbrev cX0_rests : ByteArray := prog_1_method_52_code
def yX0_rests : MethodName := ⟨RX0, "rests", "(IIII)I"⟩
def dkwX0_rests_9 : List UInt8 := [21, 4, 4, 160, 0, 10, 21, 6, 7, 108, 167, 0, 7, 21, 6, 7, 112, 104, 96, 172]
abbrev dktX0_rests_9 : List UInt8 := dkwX0_rests_9 ++ []
def dkwX0_rests_8 : List UInt8 := [167, 255, 217, 21, 4, 154, 0, 6, 21, 5, 172, 21, 6, 2, 160, 0, 8, 16, 254, 167, 0, 24, 7, 7]
abbrev dktX0_rests_8 : List UInt8 := dkwX0_rests_8 ++ dktX0_rests_9
def dkwX0_rests_7 : List UInt8 := [167, 0, 20, 21, 5, 154, 0, 8, 21, 7, 167, 0, 5, 21, 6, 54, 6, 132, 5, 1, 132, 7, 1]
abbrev dktX0_rests_7 : List UInt8 := dkwX0_rests_7 ++ dktX0_rests_8
def dkwX0_rests_6 : List UInt8 := [54, 5, 2, 54, 6, 3, 54, 7, 21, 7, 16, 16, 162, 0, 38, 42, 21, 7, 182, 1, 57, 154, 0, 6]
abbrev dktX0_rests_6 : List UInt8 := dkwX0_rests_6 ++ dktX0_rests_7
def dkwX0_rests_5 : List UInt8 := [182, 1, 54, 79, 42, 180, 0, 97, 21, 5, 42, 28, 182, 1, 54, 79, 132, 5, 1, 167, 255, 172, 3]
abbrev dktX0_rests_5 : List UInt8 := dkwX0_rests_5 ++ dktX0_rests_6
def dkwX0_rests_4 : List UInt8 := [7, 7, 21, 5, 7, 112, 104, 96, 79, 42, 29, 182, 1, 46, 42, 180, 0, 94, 21, 5, 42, 27]
abbrev dktX0_rests_4 : List UInt8 := dkwX0_rests_4 ++ dktX0_rests_5
def dkwX0_rests_3 : List UInt8 := [180, 0, 23, 180, 0, 173, 27, 7, 7, 21, 5, 7, 108, 104, 96, 79, 42, 180, 0, 23, 180, 0, 173, 28]
abbrev dktX0_rests_3 : List UInt8 := dkwX0_rests_3 ++ dktX0_rests_4
def dkwX0_rests_2 : List UInt8 := [3, 54, 5, 21, 5, 16, 16, 162, 0, 83, 42, 180, 0, 23, 42, 180, 0, 19, 182, 0, 225, 42]
abbrev dktX0_rests_2 : List UInt8 := dkwX0_rests_2 ++ dktX0_rests_3
def dkwX0_rests_1 : List UInt8 := [20, 0, 251, 184, 0, 119, 153, 0, 16, 21, 4, 133, 9, 20, 1, 42, 184, 0, 119, 154, 0, 5, 2, 172]
abbrev dktX0_rests_1 : List UInt8 := dkwX0_rests_1 ++ dktX0_rests_2
def dkwX0_rests_0 : List UInt8 := [42, 27, 182, 0, 242, 153, 0, 41, 42, 28, 182, 0, 242, 153, 0, 33, 27, 28, 159, 0, 28, 29, 133, 10]
abbrev dktX0_rests_0 : List UInt8 := dkwX0_rests_0 ++ dktX0_rests_1
theorem dksX0_rests_0 : cX0_rests.data.toList.drop 0 = dktX0_rests_0 := by decide +kernel
theorem dksX0_rests_1 : cX0_rests.data.toList.drop 24 = dktX0_rests_1 := dk_seg dksX0_rests_0 24 rfl rfl
theorem dksX0_rests_2 : cX0_rests.data.toList.drop 48 = dktX0_rests_2 := dk_seg dksX0_rests_1 24 rfl rfl
theorem dksX0_rests_3 : cX0_rests.data.toList.drop 70 = dktX0_rests_3 := dk_seg dksX0_rests_2 22 rfl rfl
theorem dksX0_rests_4 : cX0_rests.data.toList.drop 94 = dktX0_rests_4 := dk_seg dksX0_rests_3 24 rfl rfl
theorem dksX0_rests_5 : cX0_rests.data.toList.drop 116 = dktX0_rests_5 := dk_seg dksX0_rests_4 22 rfl rfl
theorem dksX0_rests_6 : cX0_rests.data.toList.drop 139 = dktX0_rests_6 := dk_seg dksX0_rests_5 23 rfl rfl
theorem dksX0_rests_7 : cX0_rests.data.toList.drop 163 = dktX0_rests_7 := dk_seg dksX0_rests_6 24 rfl rfl
theorem dksX0_rests_8 : cX0_rests.data.toList.drop 186 = dktX0_rests_8 := dk_seg dksX0_rests_7 23 rfl rfl
theorem dksX0_rests_9 : cX0_rests.data.toList.drop 210 = dktX0_rests_9 := dk_seg dksX0_rests_8 24 rfl rfl
theorem dX0_rests_0 : decode cX0_rests 0 = .ok (.aload_n 0, 1) := dk_42 (dk_at dksX0_rests_0 0 rfl rfl)
theorem dX0_rests_1 : decode cX0_rests 1 = .ok (.iload_n 1, 1) := dk_27 (dk_at dksX0_rests_0 1 rfl rfl)
theorem dX0_rests_2 : decode cX0_rests 2 = .ok (.invokevirtual 242, 3) := dk_182 0 242 (dk_at dksX0_rests_0 2 rfl rfl)
theorem dX0_rests_5 : decode cX0_rests 5 = .ok (.ifCond .eq 41, 3) := dk_153 0 41 (dk_at dksX0_rests_0 5 rfl rfl)
theorem dX0_rests_8 : decode cX0_rests 8 = .ok (.aload_n 0, 1) := dk_42 (dk_at dksX0_rests_0 8 rfl rfl)
theorem dX0_rests_9 : decode cX0_rests 9 = .ok (.iload_n 2, 1) := dk_28 (dk_at dksX0_rests_0 9 rfl rfl)
theorem dX0_rests_10 : decode cX0_rests 10 = .ok (.invokevirtual 242, 3) := dk_182 0 242 (dk_at dksX0_rests_0 10 rfl rfl)
theorem dX0_rests_13 : decode cX0_rests 13 = .ok (.ifCond .eq 33, 3) := dk_153 0 33 (dk_at dksX0_rests_0 13 rfl rfl)
theorem dX0_rests_16 : decode cX0_rests 16 = .ok (.iload_n 1, 1) := dk_27 (dk_at dksX0_rests_0 16 rfl rfl)
theorem dX0_rests_17 : decode cX0_rests 17 = .ok (.iload_n 2, 1) := dk_28 (dk_at dksX0_rests_0 17 rfl rfl)
theorem dX0_rests_18 : decode cX0_rests 18 = .ok (.if_icmp .eq 28, 3) := dk_159 0 28 (dk_at dksX0_rests_0 18 rfl rfl)
theorem dX0_rests_21 : decode cX0_rests 21 = .ok (.iload_n 3, 1) := dk_29 (dk_at dksX0_rests_0 21 rfl rfl)
theorem dX0_rests_22 : decode cX0_rests 22 = .ok (.i2l, 1) := dk_133 (dk_at dksX0_rests_0 22 rfl rfl)
theorem dX0_rests_23 : decode cX0_rests 23 = .ok (.lconst 1, 1) := dk_10 (dk_at dksX0_rests_0 23 rfl rfl)
theorem dX0_rests_24 : decode cX0_rests 24 = .ok (.ldc2_w 251, 3) := dk_20 0 251 (dk_at dksX0_rests_1 0 rfl rfl)
theorem dX0_rests_27 : decode cX0_rests 27 = .ok (.invokestatic 119, 3) := dk_184 0 119 (dk_at dksX0_rests_1 3 rfl rfl)
theorem dX0_rests_30 : decode cX0_rests 30 = .ok (.ifCond .eq 16, 3) := dk_153 0 16 (dk_at dksX0_rests_1 6 rfl rfl)
theorem dX0_rests_33 : decode cX0_rests 33 = .ok (.iload 4, 2) := dk_21 4 (dk_at dksX0_rests_1 9 rfl rfl)
theorem dX0_rests_35 : decode cX0_rests 35 = .ok (.i2l, 1) := dk_133 (dk_at dksX0_rests_1 11 rfl rfl)
theorem dX0_rests_36 : decode cX0_rests 36 = .ok (.lconst 0, 1) := dk_9 (dk_at dksX0_rests_1 12 rfl rfl)
theorem dX0_rests_37 : decode cX0_rests 37 = .ok (.ldc2_w 298, 3) := dk_20 1 42 (dk_at dksX0_rests_1 13 rfl rfl)
theorem dX0_rests_40 : decode cX0_rests 40 = .ok (.invokestatic 119, 3) := dk_184 0 119 (dk_at dksX0_rests_1 16 rfl rfl)
theorem dX0_rests_43 : decode cX0_rests 43 = .ok (.ifCond .ne 5, 3) := dk_154 0 5 (dk_at dksX0_rests_1 19 rfl rfl)
theorem dX0_rests_46 : decode cX0_rests 46 = .ok (.iconst (-1), 1) := dk_2 (dk_at dksX0_rests_1 22 rfl rfl)
theorem dX0_rests_47 : decode cX0_rests 47 = .ok (.ireturn, 1) := dk_172 (dk_at dksX0_rests_1 23 rfl rfl)
theorem dX0_rests_48 : decode cX0_rests 48 = .ok (.iconst 0, 1) := dk_3 (dk_at dksX0_rests_2 0 rfl rfl)
theorem dX0_rests_49 : decode cX0_rests 49 = .ok (.istore 5, 2) := dk_54 5 (dk_at dksX0_rests_2 1 rfl rfl)
theorem dX0_rests_51 : decode cX0_rests 51 = .ok (.iload 5, 2) := dk_21 5 (dk_at dksX0_rests_2 3 rfl rfl)
theorem dX0_rests_53 : decode cX0_rests 53 = .ok (.bipush 16, 2) := dk_16 16 (dk_at dksX0_rests_2 5 rfl rfl)
theorem dX0_rests_55 : decode cX0_rests 55 = .ok (.if_icmp .ge 83, 3) := dk_162 0 83 (dk_at dksX0_rests_2 7 rfl rfl)
theorem dX0_rests_58 : decode cX0_rests 58 = .ok (.aload_n 0, 1) := dk_42 (dk_at dksX0_rests_2 10 rfl rfl)
theorem dX0_rests_59 : decode cX0_rests 59 = .ok (.getfield 23, 3) := dk_180 0 23 (dk_at dksX0_rests_2 11 rfl rfl)
theorem dX0_rests_62 : decode cX0_rests 62 = .ok (.aload_n 0, 1) := dk_42 (dk_at dksX0_rests_2 14 rfl rfl)
theorem dX0_rests_63 : decode cX0_rests 63 = .ok (.getfield 19, 3) := dk_180 0 19 (dk_at dksX0_rests_2 15 rfl rfl)
theorem dX0_rests_66 : decode cX0_rests 66 = .ok (.invokevirtual 225, 3) := dk_182 0 225 (dk_at dksX0_rests_2 18 rfl rfl)
theorem dX0_rests_69 : decode cX0_rests 69 = .ok (.aload_n 0, 1) := dk_42 (dk_at dksX0_rests_2 21 rfl rfl)
theorem dX0_rests_70 : decode cX0_rests 70 = .ok (.getfield 23, 3) := dk_180 0 23 (dk_at dksX0_rests_3 0 rfl rfl)
theorem dX0_rests_73 : decode cX0_rests 73 = .ok (.getfield 173, 3) := dk_180 0 173 (dk_at dksX0_rests_3 3 rfl rfl)
theorem dX0_rests_76 : decode cX0_rests 76 = .ok (.iload_n 1, 1) := dk_27 (dk_at dksX0_rests_3 6 rfl rfl)
theorem dX0_rests_77 : decode cX0_rests 77 = .ok (.iconst 4, 1) := dk_7 (dk_at dksX0_rests_3 7 rfl rfl)
theorem dX0_rests_78 : decode cX0_rests 78 = .ok (.iconst 4, 1) := dk_7 (dk_at dksX0_rests_3 8 rfl rfl)
theorem dX0_rests_79 : decode cX0_rests 79 = .ok (.iload 5, 2) := dk_21 5 (dk_at dksX0_rests_3 9 rfl rfl)
theorem dX0_rests_81 : decode cX0_rests 81 = .ok (.iconst 4, 1) := dk_7 (dk_at dksX0_rests_3 11 rfl rfl)
theorem dX0_rests_82 : decode cX0_rests 82 = .ok (.idiv, 1) := dk_108 (dk_at dksX0_rests_3 12 rfl rfl)
theorem dX0_rests_83 : decode cX0_rests 83 = .ok (.imul, 1) := dk_104 (dk_at dksX0_rests_3 13 rfl rfl)
theorem dX0_rests_84 : decode cX0_rests 84 = .ok (.iadd, 1) := dk_96 (dk_at dksX0_rests_3 14 rfl rfl)
theorem dX0_rests_85 : decode cX0_rests 85 = .ok (.iastore, 1) := dk_79 (dk_at dksX0_rests_3 15 rfl rfl)
theorem dX0_rests_86 : decode cX0_rests 86 = .ok (.aload_n 0, 1) := dk_42 (dk_at dksX0_rests_3 16 rfl rfl)
theorem dX0_rests_87 : decode cX0_rests 87 = .ok (.getfield 23, 3) := dk_180 0 23 (dk_at dksX0_rests_3 17 rfl rfl)
theorem dX0_rests_90 : decode cX0_rests 90 = .ok (.getfield 173, 3) := dk_180 0 173 (dk_at dksX0_rests_3 20 rfl rfl)
theorem dX0_rests_93 : decode cX0_rests 93 = .ok (.iload_n 2, 1) := dk_28 (dk_at dksX0_rests_3 23 rfl rfl)
theorem dX0_rests_94 : decode cX0_rests 94 = .ok (.iconst 4, 1) := dk_7 (dk_at dksX0_rests_4 0 rfl rfl)
theorem dX0_rests_95 : decode cX0_rests 95 = .ok (.iconst 4, 1) := dk_7 (dk_at dksX0_rests_4 1 rfl rfl)
theorem dX0_rests_96 : decode cX0_rests 96 = .ok (.iload 5, 2) := dk_21 5 (dk_at dksX0_rests_4 2 rfl rfl)
theorem dX0_rests_98 : decode cX0_rests 98 = .ok (.iconst 4, 1) := dk_7 (dk_at dksX0_rests_4 4 rfl rfl)
theorem dX0_rests_99 : decode cX0_rests 99 = .ok (.irem, 1) := dk_112 (dk_at dksX0_rests_4 5 rfl rfl)
theorem dX0_rests_100 : decode cX0_rests 100 = .ok (.imul, 1) := dk_104 (dk_at dksX0_rests_4 6 rfl rfl)
theorem dX0_rests_101 : decode cX0_rests 101 = .ok (.iadd, 1) := dk_96 (dk_at dksX0_rests_4 7 rfl rfl)
theorem dX0_rests_102 : decode cX0_rests 102 = .ok (.iastore, 1) := dk_79 (dk_at dksX0_rests_4 8 rfl rfl)
theorem dX0_rests_103 : decode cX0_rests 103 = .ok (.aload_n 0, 1) := dk_42 (dk_at dksX0_rests_4 9 rfl rfl)
theorem dX0_rests_104 : decode cX0_rests 104 = .ok (.iload_n 3, 1) := dk_29 (dk_at dksX0_rests_4 10 rfl rfl)
theorem dX0_rests_105 : decode cX0_rests 105 = .ok (.invokevirtual 302, 3) := dk_182 1 46 (dk_at dksX0_rests_4 11 rfl rfl)
theorem dX0_rests_108 : decode cX0_rests 108 = .ok (.aload_n 0, 1) := dk_42 (dk_at dksX0_rests_4 14 rfl rfl)
theorem dX0_rests_109 : decode cX0_rests 109 = .ok (.getfield 94, 3) := dk_180 0 94 (dk_at dksX0_rests_4 15 rfl rfl)
theorem dX0_rests_112 : decode cX0_rests 112 = .ok (.iload 5, 2) := dk_21 5 (dk_at dksX0_rests_4 18 rfl rfl)
theorem dX0_rests_114 : decode cX0_rests 114 = .ok (.aload_n 0, 1) := dk_42 (dk_at dksX0_rests_4 20 rfl rfl)
theorem dX0_rests_115 : decode cX0_rests 115 = .ok (.iload_n 1, 1) := dk_27 (dk_at dksX0_rests_4 21 rfl rfl)
theorem dX0_rests_116 : decode cX0_rests 116 = .ok (.invokevirtual 310, 3) := dk_182 1 54 (dk_at dksX0_rests_5 0 rfl rfl)
theorem dX0_rests_119 : decode cX0_rests 119 = .ok (.iastore, 1) := dk_79 (dk_at dksX0_rests_5 3 rfl rfl)
theorem dX0_rests_120 : decode cX0_rests 120 = .ok (.aload_n 0, 1) := dk_42 (dk_at dksX0_rests_5 4 rfl rfl)
theorem dX0_rests_121 : decode cX0_rests 121 = .ok (.getfield 97, 3) := dk_180 0 97 (dk_at dksX0_rests_5 5 rfl rfl)
theorem dX0_rests_124 : decode cX0_rests 124 = .ok (.iload 5, 2) := dk_21 5 (dk_at dksX0_rests_5 8 rfl rfl)
theorem dX0_rests_126 : decode cX0_rests 126 = .ok (.aload_n 0, 1) := dk_42 (dk_at dksX0_rests_5 10 rfl rfl)
theorem dX0_rests_127 : decode cX0_rests 127 = .ok (.iload_n 2, 1) := dk_28 (dk_at dksX0_rests_5 11 rfl rfl)
theorem dX0_rests_128 : decode cX0_rests 128 = .ok (.invokevirtual 310, 3) := dk_182 1 54 (dk_at dksX0_rests_5 12 rfl rfl)
theorem dX0_rests_131 : decode cX0_rests 131 = .ok (.iastore, 1) := dk_79 (dk_at dksX0_rests_5 15 rfl rfl)
theorem dX0_rests_132 : decode cX0_rests 132 = .ok (.iinc 5 1, 3) := dk_132 5 1 (dk_at dksX0_rests_5 16 rfl rfl)
theorem dX0_rests_135 : decode cX0_rests 135 = .ok (.goto (-84), 3) := dk_167 255 172 (dk_at dksX0_rests_5 19 rfl rfl)
theorem dX0_rests_138 : decode cX0_rests 138 = .ok (.iconst 0, 1) := dk_3 (dk_at dksX0_rests_5 22 rfl rfl)
theorem dX0_rests_139 : decode cX0_rests 139 = .ok (.istore 5, 2) := dk_54 5 (dk_at dksX0_rests_6 0 rfl rfl)
theorem dX0_rests_141 : decode cX0_rests 141 = .ok (.iconst (-1), 1) := dk_2 (dk_at dksX0_rests_6 2 rfl rfl)
theorem dX0_rests_142 : decode cX0_rests 142 = .ok (.istore 6, 2) := dk_54 6 (dk_at dksX0_rests_6 3 rfl rfl)
theorem dX0_rests_144 : decode cX0_rests 144 = .ok (.iconst 0, 1) := dk_3 (dk_at dksX0_rests_6 5 rfl rfl)
theorem dX0_rests_145 : decode cX0_rests 145 = .ok (.istore 7, 2) := dk_54 7 (dk_at dksX0_rests_6 6 rfl rfl)
theorem dX0_rests_147 : decode cX0_rests 147 = .ok (.iload 7, 2) := dk_21 7 (dk_at dksX0_rests_6 8 rfl rfl)
theorem dX0_rests_149 : decode cX0_rests 149 = .ok (.bipush 16, 2) := dk_16 16 (dk_at dksX0_rests_6 10 rfl rfl)
theorem dX0_rests_151 : decode cX0_rests 151 = .ok (.if_icmp .ge 38, 3) := dk_162 0 38 (dk_at dksX0_rests_6 12 rfl rfl)
theorem dX0_rests_154 : decode cX0_rests 154 = .ok (.aload_n 0, 1) := dk_42 (dk_at dksX0_rests_6 15 rfl rfl)
theorem dX0_rests_155 : decode cX0_rests 155 = .ok (.iload 7, 2) := dk_21 7 (dk_at dksX0_rests_6 16 rfl rfl)
theorem dX0_rests_157 : decode cX0_rests 157 = .ok (.invokevirtual 313, 3) := dk_182 1 57 (dk_at dksX0_rests_6 18 rfl rfl)
theorem dX0_rests_160 : decode cX0_rests 160 = .ok (.ifCond .ne 6, 3) := dk_154 0 6 (dk_at dksX0_rests_6 21 rfl rfl)
theorem dX0_rests_163 : decode cX0_rests 163 = .ok (.goto 20, 3) := dk_167 0 20 (dk_at dksX0_rests_7 0 rfl rfl)
theorem dX0_rests_166 : decode cX0_rests 166 = .ok (.iload 5, 2) := dk_21 5 (dk_at dksX0_rests_7 3 rfl rfl)
theorem dX0_rests_168 : decode cX0_rests 168 = .ok (.ifCond .ne 8, 3) := dk_154 0 8 (dk_at dksX0_rests_7 5 rfl rfl)
theorem dX0_rests_171 : decode cX0_rests 171 = .ok (.iload 7, 2) := dk_21 7 (dk_at dksX0_rests_7 8 rfl rfl)
theorem dX0_rests_173 : decode cX0_rests 173 = .ok (.goto 5, 3) := dk_167 0 5 (dk_at dksX0_rests_7 10 rfl rfl)
theorem dX0_rests_176 : decode cX0_rests 176 = .ok (.iload 6, 2) := dk_21 6 (dk_at dksX0_rests_7 13 rfl rfl)
theorem dX0_rests_178 : decode cX0_rests 178 = .ok (.istore 6, 2) := dk_54 6 (dk_at dksX0_rests_7 15 rfl rfl)
theorem dX0_rests_180 : decode cX0_rests 180 = .ok (.iinc 5 1, 3) := dk_132 5 1 (dk_at dksX0_rests_7 17 rfl rfl)
theorem dX0_rests_183 : decode cX0_rests 183 = .ok (.iinc 7 1, 3) := dk_132 7 1 (dk_at dksX0_rests_7 20 rfl rfl)
theorem dX0_rests_186 : decode cX0_rests 186 = .ok (.goto (-39), 3) := dk_167 255 217 (dk_at dksX0_rests_8 0 rfl rfl)
theorem dX0_rests_189 : decode cX0_rests 189 = .ok (.iload 4, 2) := dk_21 4 (dk_at dksX0_rests_8 3 rfl rfl)
theorem dX0_rests_191 : decode cX0_rests 191 = .ok (.ifCond .ne 6, 3) := dk_154 0 6 (dk_at dksX0_rests_8 5 rfl rfl)
theorem dX0_rests_194 : decode cX0_rests 194 = .ok (.iload 5, 2) := dk_21 5 (dk_at dksX0_rests_8 8 rfl rfl)
theorem dX0_rests_196 : decode cX0_rests 196 = .ok (.ireturn, 1) := dk_172 (dk_at dksX0_rests_8 10 rfl rfl)
theorem dX0_rests_197 : decode cX0_rests 197 = .ok (.iload 6, 2) := dk_21 6 (dk_at dksX0_rests_8 11 rfl rfl)
theorem dX0_rests_199 : decode cX0_rests 199 = .ok (.iconst (-1), 1) := dk_2 (dk_at dksX0_rests_8 13 rfl rfl)
theorem dX0_rests_200 : decode cX0_rests 200 = .ok (.if_icmp .ne 8, 3) := dk_160 0 8 (dk_at dksX0_rests_8 14 rfl rfl)
theorem dX0_rests_203 : decode cX0_rests 203 = .ok (.bipush (-2), 2) := dk_16 254 (dk_at dksX0_rests_8 17 rfl rfl)
theorem dX0_rests_205 : decode cX0_rests 205 = .ok (.goto 24, 3) := dk_167 0 24 (dk_at dksX0_rests_8 19 rfl rfl)
theorem dX0_rests_208 : decode cX0_rests 208 = .ok (.iconst 4, 1) := dk_7 (dk_at dksX0_rests_8 22 rfl rfl)
theorem dX0_rests_209 : decode cX0_rests 209 = .ok (.iconst 4, 1) := dk_7 (dk_at dksX0_rests_8 23 rfl rfl)
theorem dX0_rests_210 : decode cX0_rests 210 = .ok (.iload 4, 2) := dk_21 4 (dk_at dksX0_rests_9 0 rfl rfl)
theorem dX0_rests_212 : decode cX0_rests 212 = .ok (.iconst 1, 1) := dk_4 (dk_at dksX0_rests_9 2 rfl rfl)
theorem dX0_rests_213 : decode cX0_rests 213 = .ok (.if_icmp .ne 10, 3) := dk_160 0 10 (dk_at dksX0_rests_9 3 rfl rfl)
theorem dX0_rests_216 : decode cX0_rests 216 = .ok (.iload 6, 2) := dk_21 6 (dk_at dksX0_rests_9 6 rfl rfl)
theorem dX0_rests_218 : decode cX0_rests 218 = .ok (.iconst 4, 1) := dk_7 (dk_at dksX0_rests_9 8 rfl rfl)
theorem dX0_rests_219 : decode cX0_rests 219 = .ok (.idiv, 1) := dk_108 (dk_at dksX0_rests_9 9 rfl rfl)
theorem dX0_rests_220 : decode cX0_rests 220 = .ok (.goto 7, 3) := dk_167 0 7 (dk_at dksX0_rests_9 10 rfl rfl)
theorem dX0_rests_223 : decode cX0_rests 223 = .ok (.iload 6, 2) := dk_21 6 (dk_at dksX0_rests_9 13 rfl rfl)
theorem dX0_rests_225 : decode cX0_rests 225 = .ok (.iconst 4, 1) := dk_7 (dk_at dksX0_rests_9 15 rfl rfl)
theorem dX0_rests_226 : decode cX0_rests 226 = .ok (.irem, 1) := dk_112 (dk_at dksX0_rests_9 16 rfl rfl)
theorem dX0_rests_227 : decode cX0_rests 227 = .ok (.imul, 1) := dk_104 (dk_at dksX0_rests_9 17 rfl rfl)
theorem dX0_rests_228 : decode cX0_rests 228 = .ok (.iadd, 1) := dk_96 (dk_at dksX0_rests_9 18 rfl rfl)
theorem dX0_rests_229 : decode cX0_rests 229 = .ok (.ireturn, 1) := dk_172 (dk_at dksX0_rests_9 19 rfl rfl)
abbrev cX0_worthTo : ByteArray := prog_1_method_50_code
def yX0_worthTo : MethodName := ⟨RX0, "worthTo", "(I)I"⟩
def dkwX0_worthTo_1 : List UInt8 := [172]
abbrev dktX0_worthTo_1 : List UInt8 := dkwX0_worthTo_1 ++ []
def dkwX0_worthTo_0 : List UInt8 := [42, 180, 0, 23, 180, 0, 179, 27, 46, 16, 10, 42, 180, 0, 23, 180, 0, 127, 27, 122, 4, 126, 104, 96]
abbrev dktX0_worthTo_0 : List UInt8 := dkwX0_worthTo_0 ++ dktX0_worthTo_1
theorem dksX0_worthTo_0 : cX0_worthTo.data.toList.drop 0 = dktX0_worthTo_0 := by decide +kernel
theorem dksX0_worthTo_1 : cX0_worthTo.data.toList.drop 24 = dktX0_worthTo_1 := dk_seg dksX0_worthTo_0 24 rfl rfl
theorem dX0_worthTo_0 : decode cX0_worthTo 0 = .ok (.aload_n 0, 1) := dk_42 (dk_at dksX0_worthTo_0 0 rfl rfl)
theorem dX0_worthTo_1 : decode cX0_worthTo 1 = .ok (.getfield 23, 3) := dk_180 0 23 (dk_at dksX0_worthTo_0 1 rfl rfl)
theorem dX0_worthTo_4 : decode cX0_worthTo 4 = .ok (.getfield 179, 3) := dk_180 0 179 (dk_at dksX0_worthTo_0 4 rfl rfl)
theorem dX0_worthTo_7 : decode cX0_worthTo 7 = .ok (.iload_n 1, 1) := dk_27 (dk_at dksX0_worthTo_0 7 rfl rfl)
theorem dX0_worthTo_8 : decode cX0_worthTo 8 = .ok (.iaload, 1) := dk_46 (dk_at dksX0_worthTo_0 8 rfl rfl)
theorem dX0_worthTo_9 : decode cX0_worthTo 9 = .ok (.bipush 10, 2) := dk_16 10 (dk_at dksX0_worthTo_0 9 rfl rfl)
theorem dX0_worthTo_11 : decode cX0_worthTo 11 = .ok (.aload_n 0, 1) := dk_42 (dk_at dksX0_worthTo_0 11 rfl rfl)
theorem dX0_worthTo_12 : decode cX0_worthTo 12 = .ok (.getfield 23, 3) := dk_180 0 23 (dk_at dksX0_worthTo_0 12 rfl rfl)
theorem dX0_worthTo_15 : decode cX0_worthTo 15 = .ok (.getfield 127, 3) := dk_180 0 127 (dk_at dksX0_worthTo_0 15 rfl rfl)
theorem dX0_worthTo_18 : decode cX0_worthTo 18 = .ok (.iload_n 1, 1) := dk_27 (dk_at dksX0_worthTo_0 18 rfl rfl)
theorem dX0_worthTo_19 : decode cX0_worthTo 19 = .ok (.ishr, 1) := dk_122 (dk_at dksX0_worthTo_0 19 rfl rfl)
theorem dX0_worthTo_20 : decode cX0_worthTo 20 = .ok (.iconst 1, 1) := dk_4 (dk_at dksX0_worthTo_0 20 rfl rfl)
theorem dX0_worthTo_21 : decode cX0_worthTo 21 = .ok (.iand, 1) := dk_126 (dk_at dksX0_worthTo_0 21 rfl rfl)
theorem dX0_worthTo_22 : decode cX0_worthTo 22 = .ok (.imul, 1) := dk_104 (dk_at dksX0_worthTo_0 22 rfl rfl)
theorem dX0_worthTo_23 : decode cX0_worthTo 23 = .ok (.iadd, 1) := dk_96 (dk_at dksX0_worthTo_0 23 rfl rfl)
theorem dX0_worthTo_24 : decode cX0_worthTo 24 = .ok (.ireturn, 1) := dk_172 (dk_at dksX0_worthTo_1 0 rfl rfl)
abbrev cX0_isRest : ByteArray := prog_1_method_51_code
def yX0_isRest : MethodName := ⟨RX0, "isRest", "(I)Z"⟩
def dkwX0_isRest_2 : List UInt8 := [164, 0, 5, 3, 172, 132, 2, 1, 167, 255, 204, 4, 172]
abbrev dktX0_isRest_2 : List UInt8 := dkwX0_isRest_2 ++ []
def dkwX0_isRest_1 : List UInt8 := [46, 163, 0, 24, 42, 180, 0, 97, 27, 27, 7, 112, 100, 28, 96, 46, 42, 180, 0, 97, 27, 46]
abbrev dktX0_isRest_1 : List UInt8 := dkwX0_isRest_1 ++ dktX0_isRest_2
def dkwX0_isRest_0 : List UInt8 := [3, 61, 28, 7, 162, 0, 53, 42, 180, 0, 94, 7, 28, 104, 27, 7, 112, 96, 46, 42, 180, 0, 94, 27]
abbrev dktX0_isRest_0 : List UInt8 := dkwX0_isRest_0 ++ dktX0_isRest_1
theorem dksX0_isRest_0 : cX0_isRest.data.toList.drop 0 = dktX0_isRest_0 := by decide +kernel
theorem dksX0_isRest_1 : cX0_isRest.data.toList.drop 24 = dktX0_isRest_1 := dk_seg dksX0_isRest_0 24 rfl rfl
theorem dksX0_isRest_2 : cX0_isRest.data.toList.drop 46 = dktX0_isRest_2 := dk_seg dksX0_isRest_1 22 rfl rfl
theorem dX0_isRest_0 : decode cX0_isRest 0 = .ok (.iconst 0, 1) := dk_3 (dk_at dksX0_isRest_0 0 rfl rfl)
theorem dX0_isRest_1 : decode cX0_isRest 1 = .ok (.istore_n 2, 1) := dk_61 (dk_at dksX0_isRest_0 1 rfl rfl)
theorem dX0_isRest_2 : decode cX0_isRest 2 = .ok (.iload_n 2, 1) := dk_28 (dk_at dksX0_isRest_0 2 rfl rfl)
theorem dX0_isRest_3 : decode cX0_isRest 3 = .ok (.iconst 4, 1) := dk_7 (dk_at dksX0_isRest_0 3 rfl rfl)
theorem dX0_isRest_4 : decode cX0_isRest 4 = .ok (.if_icmp .ge 53, 3) := dk_162 0 53 (dk_at dksX0_isRest_0 4 rfl rfl)
theorem dX0_isRest_7 : decode cX0_isRest 7 = .ok (.aload_n 0, 1) := dk_42 (dk_at dksX0_isRest_0 7 rfl rfl)
theorem dX0_isRest_8 : decode cX0_isRest 8 = .ok (.getfield 94, 3) := dk_180 0 94 (dk_at dksX0_isRest_0 8 rfl rfl)
theorem dX0_isRest_11 : decode cX0_isRest 11 = .ok (.iconst 4, 1) := dk_7 (dk_at dksX0_isRest_0 11 rfl rfl)
theorem dX0_isRest_12 : decode cX0_isRest 12 = .ok (.iload_n 2, 1) := dk_28 (dk_at dksX0_isRest_0 12 rfl rfl)
theorem dX0_isRest_13 : decode cX0_isRest 13 = .ok (.imul, 1) := dk_104 (dk_at dksX0_isRest_0 13 rfl rfl)
theorem dX0_isRest_14 : decode cX0_isRest 14 = .ok (.iload_n 1, 1) := dk_27 (dk_at dksX0_isRest_0 14 rfl rfl)
theorem dX0_isRest_15 : decode cX0_isRest 15 = .ok (.iconst 4, 1) := dk_7 (dk_at dksX0_isRest_0 15 rfl rfl)
theorem dX0_isRest_16 : decode cX0_isRest 16 = .ok (.irem, 1) := dk_112 (dk_at dksX0_isRest_0 16 rfl rfl)
theorem dX0_isRest_17 : decode cX0_isRest 17 = .ok (.iadd, 1) := dk_96 (dk_at dksX0_isRest_0 17 rfl rfl)
theorem dX0_isRest_18 : decode cX0_isRest 18 = .ok (.iaload, 1) := dk_46 (dk_at dksX0_isRest_0 18 rfl rfl)
theorem dX0_isRest_19 : decode cX0_isRest 19 = .ok (.aload_n 0, 1) := dk_42 (dk_at dksX0_isRest_0 19 rfl rfl)
theorem dX0_isRest_20 : decode cX0_isRest 20 = .ok (.getfield 94, 3) := dk_180 0 94 (dk_at dksX0_isRest_0 20 rfl rfl)
theorem dX0_isRest_23 : decode cX0_isRest 23 = .ok (.iload_n 1, 1) := dk_27 (dk_at dksX0_isRest_0 23 rfl rfl)
theorem dX0_isRest_24 : decode cX0_isRest 24 = .ok (.iaload, 1) := dk_46 (dk_at dksX0_isRest_1 0 rfl rfl)
theorem dX0_isRest_25 : decode cX0_isRest 25 = .ok (.if_icmp .gt 24, 3) := dk_163 0 24 (dk_at dksX0_isRest_1 1 rfl rfl)
theorem dX0_isRest_28 : decode cX0_isRest 28 = .ok (.aload_n 0, 1) := dk_42 (dk_at dksX0_isRest_1 4 rfl rfl)
theorem dX0_isRest_29 : decode cX0_isRest 29 = .ok (.getfield 97, 3) := dk_180 0 97 (dk_at dksX0_isRest_1 5 rfl rfl)
theorem dX0_isRest_32 : decode cX0_isRest 32 = .ok (.iload_n 1, 1) := dk_27 (dk_at dksX0_isRest_1 8 rfl rfl)
theorem dX0_isRest_33 : decode cX0_isRest 33 = .ok (.iload_n 1, 1) := dk_27 (dk_at dksX0_isRest_1 9 rfl rfl)
theorem dX0_isRest_34 : decode cX0_isRest 34 = .ok (.iconst 4, 1) := dk_7 (dk_at dksX0_isRest_1 10 rfl rfl)
theorem dX0_isRest_35 : decode cX0_isRest 35 = .ok (.irem, 1) := dk_112 (dk_at dksX0_isRest_1 11 rfl rfl)
theorem dX0_isRest_36 : decode cX0_isRest 36 = .ok (.isub, 1) := dk_100 (dk_at dksX0_isRest_1 12 rfl rfl)
theorem dX0_isRest_37 : decode cX0_isRest 37 = .ok (.iload_n 2, 1) := dk_28 (dk_at dksX0_isRest_1 13 rfl rfl)
theorem dX0_isRest_38 : decode cX0_isRest 38 = .ok (.iadd, 1) := dk_96 (dk_at dksX0_isRest_1 14 rfl rfl)
theorem dX0_isRest_39 : decode cX0_isRest 39 = .ok (.iaload, 1) := dk_46 (dk_at dksX0_isRest_1 15 rfl rfl)
theorem dX0_isRest_40 : decode cX0_isRest 40 = .ok (.aload_n 0, 1) := dk_42 (dk_at dksX0_isRest_1 16 rfl rfl)
theorem dX0_isRest_41 : decode cX0_isRest 41 = .ok (.getfield 97, 3) := dk_180 0 97 (dk_at dksX0_isRest_1 17 rfl rfl)
theorem dX0_isRest_44 : decode cX0_isRest 44 = .ok (.iload_n 1, 1) := dk_27 (dk_at dksX0_isRest_1 20 rfl rfl)
theorem dX0_isRest_45 : decode cX0_isRest 45 = .ok (.iaload, 1) := dk_46 (dk_at dksX0_isRest_1 21 rfl rfl)
theorem dX0_isRest_46 : decode cX0_isRest 46 = .ok (.if_icmp .le 5, 3) := dk_164 0 5 (dk_at dksX0_isRest_2 0 rfl rfl)
theorem dX0_isRest_49 : decode cX0_isRest 49 = .ok (.iconst 0, 1) := dk_3 (dk_at dksX0_isRest_2 3 rfl rfl)
theorem dX0_isRest_50 : decode cX0_isRest 50 = .ok (.ireturn, 1) := dk_172 (dk_at dksX0_isRest_2 4 rfl rfl)
theorem dX0_isRest_51 : decode cX0_isRest 51 = .ok (.iinc 2 1, 3) := dk_132 2 1 (dk_at dksX0_isRest_2 5 rfl rfl)
theorem dX0_isRest_54 : decode cX0_isRest 54 = .ok (.goto (-52), 3) := dk_167 255 204 (dk_at dksX0_isRest_2 8 rfl rfl)
theorem dX0_isRest_57 : decode cX0_isRest 57 = .ok (.iconst 1, 1) := dk_4 (dk_at dksX0_isRest_2 11 rfl rfl)
theorem dX0_isRest_58 : decode cX0_isRest 58 = .ok (.ireturn, 1) := dk_172 (dk_at dksX0_isRest_2 12 rfl rfl)
abbrev cX0_pence : ByteArray := prog_1_method_53_code
def yX0_pence : MethodName := ⟨RX0, "pence", "(II)I"⟩
def dkwX0_pence_7 : List UInt8 := [167, 255, 165, 21, 6, 29, 108, 21, 5, 21, 4, 162, 0, 7, 4, 167, 0, 4, 3, 184, 0, 182, 96, 172]
abbrev dktX0_pence_7 : List UInt8 := dkwX0_pence_7 ++ []
def dkwX0_pence_6 : List UInt8 := [160, 0, 13, 21, 7, 28, 162, 0, 7, 4, 167, 0, 4, 3, 184, 0, 182, 96, 54, 5, 132, 7, 1]
abbrev dktX0_pence_6 : List UInt8 := dkwX0_pence_6 ++ dktX0_pence_7
def dkwX0_pence_5 : List UInt8 := [54, 4, 21, 5, 21, 8, 29, 112, 21, 6, 29, 112, 163, 0, 20, 21, 8, 29, 112, 21, 6, 29, 112]
abbrev dktX0_pence_5 : List UInt8 := dkwX0_pence_5 ++ dktX0_pence_6
def dkwX0_pence_4 : List UInt8 := [167, 0, 67, 27, 42, 180, 0, 19, 180, 0, 179, 21, 7, 46, 104, 54, 8, 21, 4, 21, 8, 29, 108, 100]
abbrev dktX0_pence_4 : List UInt8 := dkwX0_pence_4 ++ dktX0_pence_5
def dkwX0_pence_3 : List UInt8 := [3, 54, 7, 21, 7, 42, 180, 0, 10, 182, 0, 115, 162, 0, 85, 42, 21, 7, 182, 0, 242, 154, 0, 6]
abbrev dktX0_pence_3 : List UInt8 := dkwX0_pence_3 ++ dktX0_pence_4
def dkwX0_pence_2 : List UInt8 := [154, 0, 5, 3, 172, 27, 54, 4, 3, 54, 5, 27, 42, 180, 0, 19, 180, 0, 179, 28, 46, 104, 54, 6]
abbrev dktX0_pence_2 : List UInt8 := dkwX0_pence_2 ++ dktX0_pence_3
def dkwX0_pence_1 : List UInt8 := [180, 0, 19, 42, 180, 0, 19, 180, 0, 179, 182, 1, 62, 62, 29, 153, 0, 11, 42, 28, 182, 0, 242]
abbrev dktX0_pence_1 : List UInt8 := dkwX0_pence_1 ++ dktX0_pence_2
def dkwX0_pence_0 : List UInt8 := [42, 28, 182, 0, 123, 153, 0, 15, 27, 133, 9, 20, 1, 60, 184, 0, 119, 154, 0, 5, 2, 172, 42]
abbrev dktX0_pence_0 : List UInt8 := dkwX0_pence_0 ++ dktX0_pence_1
theorem dksX0_pence_0 : cX0_pence.data.toList.drop 0 = dktX0_pence_0 := by decide +kernel
theorem dksX0_pence_1 : cX0_pence.data.toList.drop 23 = dktX0_pence_1 := dk_seg dksX0_pence_0 23 rfl rfl
theorem dksX0_pence_2 : cX0_pence.data.toList.drop 46 = dktX0_pence_2 := dk_seg dksX0_pence_1 23 rfl rfl
theorem dksX0_pence_3 : cX0_pence.data.toList.drop 70 = dktX0_pence_3 := dk_seg dksX0_pence_2 24 rfl rfl
theorem dksX0_pence_4 : cX0_pence.data.toList.drop 94 = dktX0_pence_4 := dk_seg dksX0_pence_3 24 rfl rfl
theorem dksX0_pence_5 : cX0_pence.data.toList.drop 118 = dktX0_pence_5 := dk_seg dksX0_pence_4 24 rfl rfl
theorem dksX0_pence_6 : cX0_pence.data.toList.drop 141 = dktX0_pence_6 := dk_seg dksX0_pence_5 23 rfl rfl
theorem dksX0_pence_7 : cX0_pence.data.toList.drop 164 = dktX0_pence_7 := dk_seg dksX0_pence_6 23 rfl rfl
theorem dX0_pence_0 : decode cX0_pence 0 = .ok (.aload_n 0, 1) := dk_42 (dk_at dksX0_pence_0 0 rfl rfl)
theorem dX0_pence_1 : decode cX0_pence 1 = .ok (.iload_n 2, 1) := dk_28 (dk_at dksX0_pence_0 1 rfl rfl)
theorem dX0_pence_2 : decode cX0_pence 2 = .ok (.invokevirtual 123, 3) := dk_182 0 123 (dk_at dksX0_pence_0 2 rfl rfl)
theorem dX0_pence_5 : decode cX0_pence 5 = .ok (.ifCond .eq 15, 3) := dk_153 0 15 (dk_at dksX0_pence_0 5 rfl rfl)
theorem dX0_pence_8 : decode cX0_pence 8 = .ok (.iload_n 1, 1) := dk_27 (dk_at dksX0_pence_0 8 rfl rfl)
theorem dX0_pence_9 : decode cX0_pence 9 = .ok (.i2l, 1) := dk_133 (dk_at dksX0_pence_0 9 rfl rfl)
theorem dX0_pence_10 : decode cX0_pence 10 = .ok (.lconst 0, 1) := dk_9 (dk_at dksX0_pence_0 10 rfl rfl)
theorem dX0_pence_11 : decode cX0_pence 11 = .ok (.ldc2_w 316, 3) := dk_20 1 60 (dk_at dksX0_pence_0 11 rfl rfl)
theorem dX0_pence_14 : decode cX0_pence 14 = .ok (.invokestatic 119, 3) := dk_184 0 119 (dk_at dksX0_pence_0 14 rfl rfl)
theorem dX0_pence_17 : decode cX0_pence 17 = .ok (.ifCond .ne 5, 3) := dk_154 0 5 (dk_at dksX0_pence_0 17 rfl rfl)
theorem dX0_pence_20 : decode cX0_pence 20 = .ok (.iconst (-1), 1) := dk_2 (dk_at dksX0_pence_0 20 rfl rfl)
theorem dX0_pence_21 : decode cX0_pence 21 = .ok (.ireturn, 1) := dk_172 (dk_at dksX0_pence_0 21 rfl rfl)
theorem dX0_pence_22 : decode cX0_pence 22 = .ok (.aload_n 0, 1) := dk_42 (dk_at dksX0_pence_0 22 rfl rfl)
theorem dX0_pence_23 : decode cX0_pence 23 = .ok (.getfield 19, 3) := dk_180 0 19 (dk_at dksX0_pence_1 0 rfl rfl)
theorem dX0_pence_26 : decode cX0_pence 26 = .ok (.aload_n 0, 1) := dk_42 (dk_at dksX0_pence_1 3 rfl rfl)
theorem dX0_pence_27 : decode cX0_pence 27 = .ok (.getfield 19, 3) := dk_180 0 19 (dk_at dksX0_pence_1 4 rfl rfl)
theorem dX0_pence_30 : decode cX0_pence 30 = .ok (.getfield 179, 3) := dk_180 0 179 (dk_at dksX0_pence_1 7 rfl rfl)
theorem dX0_pence_33 : decode cX0_pence 33 = .ok (.invokevirtual 318, 3) := dk_182 1 62 (dk_at dksX0_pence_1 10 rfl rfl)
theorem dX0_pence_36 : decode cX0_pence 36 = .ok (.istore_n 3, 1) := dk_62 (dk_at dksX0_pence_1 13 rfl rfl)
theorem dX0_pence_37 : decode cX0_pence 37 = .ok (.iload_n 3, 1) := dk_29 (dk_at dksX0_pence_1 14 rfl rfl)
theorem dX0_pence_38 : decode cX0_pence 38 = .ok (.ifCond .eq 11, 3) := dk_153 0 11 (dk_at dksX0_pence_1 15 rfl rfl)
theorem dX0_pence_41 : decode cX0_pence 41 = .ok (.aload_n 0, 1) := dk_42 (dk_at dksX0_pence_1 18 rfl rfl)
theorem dX0_pence_42 : decode cX0_pence 42 = .ok (.iload_n 2, 1) := dk_28 (dk_at dksX0_pence_1 19 rfl rfl)
theorem dX0_pence_43 : decode cX0_pence 43 = .ok (.invokevirtual 242, 3) := dk_182 0 242 (dk_at dksX0_pence_1 20 rfl rfl)
theorem dX0_pence_46 : decode cX0_pence 46 = .ok (.ifCond .ne 5, 3) := dk_154 0 5 (dk_at dksX0_pence_2 0 rfl rfl)
theorem dX0_pence_49 : decode cX0_pence 49 = .ok (.iconst 0, 1) := dk_3 (dk_at dksX0_pence_2 3 rfl rfl)
theorem dX0_pence_50 : decode cX0_pence 50 = .ok (.ireturn, 1) := dk_172 (dk_at dksX0_pence_2 4 rfl rfl)
theorem dX0_pence_51 : decode cX0_pence 51 = .ok (.iload_n 1, 1) := dk_27 (dk_at dksX0_pence_2 5 rfl rfl)
theorem dX0_pence_52 : decode cX0_pence 52 = .ok (.istore 4, 2) := dk_54 4 (dk_at dksX0_pence_2 6 rfl rfl)
theorem dX0_pence_54 : decode cX0_pence 54 = .ok (.iconst 0, 1) := dk_3 (dk_at dksX0_pence_2 8 rfl rfl)
theorem dX0_pence_55 : decode cX0_pence 55 = .ok (.istore 5, 2) := dk_54 5 (dk_at dksX0_pence_2 9 rfl rfl)
theorem dX0_pence_57 : decode cX0_pence 57 = .ok (.iload_n 1, 1) := dk_27 (dk_at dksX0_pence_2 11 rfl rfl)
theorem dX0_pence_58 : decode cX0_pence 58 = .ok (.aload_n 0, 1) := dk_42 (dk_at dksX0_pence_2 12 rfl rfl)
theorem dX0_pence_59 : decode cX0_pence 59 = .ok (.getfield 19, 3) := dk_180 0 19 (dk_at dksX0_pence_2 13 rfl rfl)
theorem dX0_pence_62 : decode cX0_pence 62 = .ok (.getfield 179, 3) := dk_180 0 179 (dk_at dksX0_pence_2 16 rfl rfl)
theorem dX0_pence_65 : decode cX0_pence 65 = .ok (.iload_n 2, 1) := dk_28 (dk_at dksX0_pence_2 19 rfl rfl)
theorem dX0_pence_66 : decode cX0_pence 66 = .ok (.iaload, 1) := dk_46 (dk_at dksX0_pence_2 20 rfl rfl)
theorem dX0_pence_67 : decode cX0_pence 67 = .ok (.imul, 1) := dk_104 (dk_at dksX0_pence_2 21 rfl rfl)
theorem dX0_pence_68 : decode cX0_pence 68 = .ok (.istore 6, 2) := dk_54 6 (dk_at dksX0_pence_2 22 rfl rfl)
theorem dX0_pence_70 : decode cX0_pence 70 = .ok (.iconst 0, 1) := dk_3 (dk_at dksX0_pence_3 0 rfl rfl)
theorem dX0_pence_71 : decode cX0_pence 71 = .ok (.istore 7, 2) := dk_54 7 (dk_at dksX0_pence_3 1 rfl rfl)
theorem dX0_pence_73 : decode cX0_pence 73 = .ok (.iload 7, 2) := dk_21 7 (dk_at dksX0_pence_3 3 rfl rfl)
theorem dX0_pence_75 : decode cX0_pence 75 = .ok (.aload_n 0, 1) := dk_42 (dk_at dksX0_pence_3 5 rfl rfl)
theorem dX0_pence_76 : decode cX0_pence 76 = .ok (.getfield 10, 3) := dk_180 0 10 (dk_at dksX0_pence_3 6 rfl rfl)
theorem dX0_pence_79 : decode cX0_pence 79 = .ok (.invokevirtual 115, 3) := dk_182 0 115 (dk_at dksX0_pence_3 9 rfl rfl)
theorem dX0_pence_82 : decode cX0_pence 82 = .ok (.if_icmp .ge 85, 3) := dk_162 0 85 (dk_at dksX0_pence_3 12 rfl rfl)
theorem dX0_pence_85 : decode cX0_pence 85 = .ok (.aload_n 0, 1) := dk_42 (dk_at dksX0_pence_3 15 rfl rfl)
theorem dX0_pence_86 : decode cX0_pence 86 = .ok (.iload 7, 2) := dk_21 7 (dk_at dksX0_pence_3 16 rfl rfl)
theorem dX0_pence_88 : decode cX0_pence 88 = .ok (.invokevirtual 242, 3) := dk_182 0 242 (dk_at dksX0_pence_3 18 rfl rfl)
theorem dX0_pence_91 : decode cX0_pence 91 = .ok (.ifCond .ne 6, 3) := dk_154 0 6 (dk_at dksX0_pence_3 21 rfl rfl)
theorem dX0_pence_94 : decode cX0_pence 94 = .ok (.goto 67, 3) := dk_167 0 67 (dk_at dksX0_pence_4 0 rfl rfl)
theorem dX0_pence_97 : decode cX0_pence 97 = .ok (.iload_n 1, 1) := dk_27 (dk_at dksX0_pence_4 3 rfl rfl)
theorem dX0_pence_98 : decode cX0_pence 98 = .ok (.aload_n 0, 1) := dk_42 (dk_at dksX0_pence_4 4 rfl rfl)
theorem dX0_pence_99 : decode cX0_pence 99 = .ok (.getfield 19, 3) := dk_180 0 19 (dk_at dksX0_pence_4 5 rfl rfl)
theorem dX0_pence_102 : decode cX0_pence 102 = .ok (.getfield 179, 3) := dk_180 0 179 (dk_at dksX0_pence_4 8 rfl rfl)
theorem dX0_pence_105 : decode cX0_pence 105 = .ok (.iload 7, 2) := dk_21 7 (dk_at dksX0_pence_4 11 rfl rfl)
theorem dX0_pence_107 : decode cX0_pence 107 = .ok (.iaload, 1) := dk_46 (dk_at dksX0_pence_4 13 rfl rfl)
theorem dX0_pence_108 : decode cX0_pence 108 = .ok (.imul, 1) := dk_104 (dk_at dksX0_pence_4 14 rfl rfl)
theorem dX0_pence_109 : decode cX0_pence 109 = .ok (.istore 8, 2) := dk_54 8 (dk_at dksX0_pence_4 15 rfl rfl)
theorem dX0_pence_111 : decode cX0_pence 111 = .ok (.iload 4, 2) := dk_21 4 (dk_at dksX0_pence_4 17 rfl rfl)
theorem dX0_pence_113 : decode cX0_pence 113 = .ok (.iload 8, 2) := dk_21 8 (dk_at dksX0_pence_4 19 rfl rfl)
theorem dX0_pence_115 : decode cX0_pence 115 = .ok (.iload_n 3, 1) := dk_29 (dk_at dksX0_pence_4 21 rfl rfl)
theorem dX0_pence_116 : decode cX0_pence 116 = .ok (.idiv, 1) := dk_108 (dk_at dksX0_pence_4 22 rfl rfl)
theorem dX0_pence_117 : decode cX0_pence 117 = .ok (.isub, 1) := dk_100 (dk_at dksX0_pence_4 23 rfl rfl)
theorem dX0_pence_118 : decode cX0_pence 118 = .ok (.istore 4, 2) := dk_54 4 (dk_at dksX0_pence_5 0 rfl rfl)
theorem dX0_pence_120 : decode cX0_pence 120 = .ok (.iload 5, 2) := dk_21 5 (dk_at dksX0_pence_5 2 rfl rfl)
theorem dX0_pence_122 : decode cX0_pence 122 = .ok (.iload 8, 2) := dk_21 8 (dk_at dksX0_pence_5 4 rfl rfl)
theorem dX0_pence_124 : decode cX0_pence 124 = .ok (.iload_n 3, 1) := dk_29 (dk_at dksX0_pence_5 6 rfl rfl)
theorem dX0_pence_125 : decode cX0_pence 125 = .ok (.irem, 1) := dk_112 (dk_at dksX0_pence_5 7 rfl rfl)
theorem dX0_pence_126 : decode cX0_pence 126 = .ok (.iload 6, 2) := dk_21 6 (dk_at dksX0_pence_5 8 rfl rfl)
theorem dX0_pence_128 : decode cX0_pence 128 = .ok (.iload_n 3, 1) := dk_29 (dk_at dksX0_pence_5 10 rfl rfl)
theorem dX0_pence_129 : decode cX0_pence 129 = .ok (.irem, 1) := dk_112 (dk_at dksX0_pence_5 11 rfl rfl)
theorem dX0_pence_130 : decode cX0_pence 130 = .ok (.if_icmp .gt 20, 3) := dk_163 0 20 (dk_at dksX0_pence_5 12 rfl rfl)
theorem dX0_pence_133 : decode cX0_pence 133 = .ok (.iload 8, 2) := dk_21 8 (dk_at dksX0_pence_5 15 rfl rfl)
theorem dX0_pence_135 : decode cX0_pence 135 = .ok (.iload_n 3, 1) := dk_29 (dk_at dksX0_pence_5 17 rfl rfl)
theorem dX0_pence_136 : decode cX0_pence 136 = .ok (.irem, 1) := dk_112 (dk_at dksX0_pence_5 18 rfl rfl)
theorem dX0_pence_137 : decode cX0_pence 137 = .ok (.iload 6, 2) := dk_21 6 (dk_at dksX0_pence_5 19 rfl rfl)
theorem dX0_pence_139 : decode cX0_pence 139 = .ok (.iload_n 3, 1) := dk_29 (dk_at dksX0_pence_5 21 rfl rfl)
theorem dX0_pence_140 : decode cX0_pence 140 = .ok (.irem, 1) := dk_112 (dk_at dksX0_pence_5 22 rfl rfl)
theorem dX0_pence_141 : decode cX0_pence 141 = .ok (.if_icmp .ne 13, 3) := dk_160 0 13 (dk_at dksX0_pence_6 0 rfl rfl)
theorem dX0_pence_144 : decode cX0_pence 144 = .ok (.iload 7, 2) := dk_21 7 (dk_at dksX0_pence_6 3 rfl rfl)
theorem dX0_pence_146 : decode cX0_pence 146 = .ok (.iload_n 2, 1) := dk_28 (dk_at dksX0_pence_6 5 rfl rfl)
theorem dX0_pence_147 : decode cX0_pence 147 = .ok (.if_icmp .ge 7, 3) := dk_162 0 7 (dk_at dksX0_pence_6 6 rfl rfl)
theorem dX0_pence_150 : decode cX0_pence 150 = .ok (.iconst 1, 1) := dk_4 (dk_at dksX0_pence_6 9 rfl rfl)
theorem dX0_pence_151 : decode cX0_pence 151 = .ok (.goto 4, 3) := dk_167 0 4 (dk_at dksX0_pence_6 10 rfl rfl)
theorem dX0_pence_154 : decode cX0_pence 154 = .ok (.iconst 0, 1) := dk_3 (dk_at dksX0_pence_6 13 rfl rfl)
theorem dX0_pence_155 : decode cX0_pence 155 = .ok (.invokestatic 182, 3) := dk_184 0 182 (dk_at dksX0_pence_6 14 rfl rfl)
theorem dX0_pence_158 : decode cX0_pence 158 = .ok (.iadd, 1) := dk_96 (dk_at dksX0_pence_6 17 rfl rfl)
theorem dX0_pence_159 : decode cX0_pence 159 = .ok (.istore 5, 2) := dk_54 5 (dk_at dksX0_pence_6 18 rfl rfl)
theorem dX0_pence_161 : decode cX0_pence 161 = .ok (.iinc 7 1, 3) := dk_132 7 1 (dk_at dksX0_pence_6 20 rfl rfl)
theorem dX0_pence_164 : decode cX0_pence 164 = .ok (.goto (-91), 3) := dk_167 255 165 (dk_at dksX0_pence_7 0 rfl rfl)
theorem dX0_pence_167 : decode cX0_pence 167 = .ok (.iload 6, 2) := dk_21 6 (dk_at dksX0_pence_7 3 rfl rfl)
theorem dX0_pence_169 : decode cX0_pence 169 = .ok (.iload_n 3, 1) := dk_29 (dk_at dksX0_pence_7 5 rfl rfl)
theorem dX0_pence_170 : decode cX0_pence 170 = .ok (.idiv, 1) := dk_108 (dk_at dksX0_pence_7 6 rfl rfl)
theorem dX0_pence_171 : decode cX0_pence 171 = .ok (.iload 5, 2) := dk_21 5 (dk_at dksX0_pence_7 7 rfl rfl)
theorem dX0_pence_173 : decode cX0_pence 173 = .ok (.iload 4, 2) := dk_21 4 (dk_at dksX0_pence_7 9 rfl rfl)
theorem dX0_pence_175 : decode cX0_pence 175 = .ok (.if_icmp .ge 7, 3) := dk_162 0 7 (dk_at dksX0_pence_7 11 rfl rfl)
theorem dX0_pence_178 : decode cX0_pence 178 = .ok (.iconst 1, 1) := dk_4 (dk_at dksX0_pence_7 14 rfl rfl)
theorem dX0_pence_179 : decode cX0_pence 179 = .ok (.goto 4, 3) := dk_167 0 4 (dk_at dksX0_pence_7 15 rfl rfl)
theorem dX0_pence_182 : decode cX0_pence 182 = .ok (.iconst 0, 1) := dk_3 (dk_at dksX0_pence_7 18 rfl rfl)
theorem dX0_pence_183 : decode cX0_pence 183 = .ok (.invokestatic 182, 3) := dk_184 0 182 (dk_at dksX0_pence_7 19 rfl rfl)
theorem dX0_pence_186 : decode cX0_pence 186 = .ok (.iadd, 1) := dk_96 (dk_at dksX0_pence_7 22 rfl rfl)
theorem dX0_pence_187 : decode cX0_pence 187 = .ok (.ireturn, 1) := dk_172 (dk_at dksX0_pence_7 23 rfl rfl)
abbrev cX0_note : ByteArray := prog_1_method_54_code
def yX0_note : MethodName := ⟨RX0, "note", "(III)I"⟩
def dkwX0_note_4 : List UInt8 := [180, 0, 156, 172]
abbrev dktX0_note_4 : List UInt8 := dkwX0_note_4 ++ []
def dkwX0_note_3 : List UInt8 := [28, 79, 42, 180, 0, 57, 42, 180, 0, 156, 29, 79, 42, 89, 180, 0, 156, 4, 96, 181, 0, 156, 42]
abbrev dktX0_note_3 : List UInt8 := dkwX0_note_3 ++ dktX0_note_4
def dkwX0_note_2 : List UInt8 := [160, 0, 6, 16, 254, 172, 42, 180, 0, 50, 42, 180, 0, 156, 27, 79, 42, 180, 0, 54, 42, 180, 0, 156]
abbrev dktX0_note_2 : List UInt8 := dkwX0_note_2 ++ dktX0_note_3
def dkwX0_note_1 : List UInt8 := [42, 28, 182, 0, 123, 153, 0, 22, 29, 133, 9, 10, 184, 0, 119, 153, 0, 12, 42, 180, 0, 156, 16, 10]
abbrev dktX0_note_1 : List UInt8 := dkwX0_note_1 ++ dktX0_note_2
def dkwX0_note_0 : List UInt8 := [27, 2, 160, 0, 10, 42, 3, 181, 0, 156, 3, 172, 27, 133, 9, 20, 1, 66, 184, 0, 119, 153, 0, 30]
abbrev dktX0_note_0 : List UInt8 := dkwX0_note_0 ++ dktX0_note_1
theorem dksX0_note_0 : cX0_note.data.toList.drop 0 = dktX0_note_0 := by decide +kernel
theorem dksX0_note_1 : cX0_note.data.toList.drop 24 = dktX0_note_1 := dk_seg dksX0_note_0 24 rfl rfl
theorem dksX0_note_2 : cX0_note.data.toList.drop 48 = dktX0_note_2 := dk_seg dksX0_note_1 24 rfl rfl
theorem dksX0_note_3 : cX0_note.data.toList.drop 72 = dktX0_note_3 := dk_seg dksX0_note_2 24 rfl rfl
theorem dksX0_note_4 : cX0_note.data.toList.drop 95 = dktX0_note_4 := dk_seg dksX0_note_3 23 rfl rfl
theorem dX0_note_0 : decode cX0_note 0 = .ok (.iload_n 1, 1) := dk_27 (dk_at dksX0_note_0 0 rfl rfl)
theorem dX0_note_1 : decode cX0_note 1 = .ok (.iconst (-1), 1) := dk_2 (dk_at dksX0_note_0 1 rfl rfl)
theorem dX0_note_2 : decode cX0_note 2 = .ok (.if_icmp .ne 10, 3) := dk_160 0 10 (dk_at dksX0_note_0 2 rfl rfl)
theorem dX0_note_5 : decode cX0_note 5 = .ok (.aload_n 0, 1) := dk_42 (dk_at dksX0_note_0 5 rfl rfl)
theorem dX0_note_6 : decode cX0_note 6 = .ok (.iconst 0, 1) := dk_3 (dk_at dksX0_note_0 6 rfl rfl)
theorem dX0_note_7 : decode cX0_note 7 = .ok (.putfield 156, 3) := dk_181 0 156 (dk_at dksX0_note_0 7 rfl rfl)
theorem dX0_note_10 : decode cX0_note 10 = .ok (.iconst 0, 1) := dk_3 (dk_at dksX0_note_0 10 rfl rfl)
theorem dX0_note_11 : decode cX0_note 11 = .ok (.ireturn, 1) := dk_172 (dk_at dksX0_note_0 11 rfl rfl)
theorem dX0_note_12 : decode cX0_note 12 = .ok (.iload_n 1, 1) := dk_27 (dk_at dksX0_note_0 12 rfl rfl)
theorem dX0_note_13 : decode cX0_note 13 = .ok (.i2l, 1) := dk_133 (dk_at dksX0_note_0 13 rfl rfl)
theorem dX0_note_14 : decode cX0_note 14 = .ok (.lconst 0, 1) := dk_9 (dk_at dksX0_note_0 14 rfl rfl)
theorem dX0_note_15 : decode cX0_note 15 = .ok (.ldc2_w 322, 3) := dk_20 1 66 (dk_at dksX0_note_0 15 rfl rfl)
theorem dX0_note_18 : decode cX0_note 18 = .ok (.invokestatic 119, 3) := dk_184 0 119 (dk_at dksX0_note_0 18 rfl rfl)
theorem dX0_note_21 : decode cX0_note 21 = .ok (.ifCond .eq 30, 3) := dk_153 0 30 (dk_at dksX0_note_0 21 rfl rfl)
theorem dX0_note_24 : decode cX0_note 24 = .ok (.aload_n 0, 1) := dk_42 (dk_at dksX0_note_1 0 rfl rfl)
theorem dX0_note_25 : decode cX0_note 25 = .ok (.iload_n 2, 1) := dk_28 (dk_at dksX0_note_1 1 rfl rfl)
theorem dX0_note_26 : decode cX0_note 26 = .ok (.invokevirtual 123, 3) := dk_182 0 123 (dk_at dksX0_note_1 2 rfl rfl)
theorem dX0_note_29 : decode cX0_note 29 = .ok (.ifCond .eq 22, 3) := dk_153 0 22 (dk_at dksX0_note_1 5 rfl rfl)
theorem dX0_note_32 : decode cX0_note 32 = .ok (.iload_n 3, 1) := dk_29 (dk_at dksX0_note_1 8 rfl rfl)
theorem dX0_note_33 : decode cX0_note 33 = .ok (.i2l, 1) := dk_133 (dk_at dksX0_note_1 9 rfl rfl)
theorem dX0_note_34 : decode cX0_note 34 = .ok (.lconst 0, 1) := dk_9 (dk_at dksX0_note_1 10 rfl rfl)
theorem dX0_note_35 : decode cX0_note 35 = .ok (.lconst 1, 1) := dk_10 (dk_at dksX0_note_1 11 rfl rfl)
theorem dX0_note_36 : decode cX0_note 36 = .ok (.invokestatic 119, 3) := dk_184 0 119 (dk_at dksX0_note_1 12 rfl rfl)
theorem dX0_note_39 : decode cX0_note 39 = .ok (.ifCond .eq 12, 3) := dk_153 0 12 (dk_at dksX0_note_1 15 rfl rfl)
theorem dX0_note_42 : decode cX0_note 42 = .ok (.aload_n 0, 1) := dk_42 (dk_at dksX0_note_1 18 rfl rfl)
theorem dX0_note_43 : decode cX0_note 43 = .ok (.getfield 156, 3) := dk_180 0 156 (dk_at dksX0_note_1 19 rfl rfl)
theorem dX0_note_46 : decode cX0_note 46 = .ok (.bipush 10, 2) := dk_16 10 (dk_at dksX0_note_1 22 rfl rfl)
theorem dX0_note_48 : decode cX0_note 48 = .ok (.if_icmp .ne 6, 3) := dk_160 0 6 (dk_at dksX0_note_2 0 rfl rfl)
theorem dX0_note_51 : decode cX0_note 51 = .ok (.bipush (-2), 2) := dk_16 254 (dk_at dksX0_note_2 3 rfl rfl)
theorem dX0_note_53 : decode cX0_note 53 = .ok (.ireturn, 1) := dk_172 (dk_at dksX0_note_2 5 rfl rfl)
theorem dX0_note_54 : decode cX0_note 54 = .ok (.aload_n 0, 1) := dk_42 (dk_at dksX0_note_2 6 rfl rfl)
theorem dX0_note_55 : decode cX0_note 55 = .ok (.getfield 50, 3) := dk_180 0 50 (dk_at dksX0_note_2 7 rfl rfl)
theorem dX0_note_58 : decode cX0_note 58 = .ok (.aload_n 0, 1) := dk_42 (dk_at dksX0_note_2 10 rfl rfl)
theorem dX0_note_59 : decode cX0_note 59 = .ok (.getfield 156, 3) := dk_180 0 156 (dk_at dksX0_note_2 11 rfl rfl)
theorem dX0_note_62 : decode cX0_note 62 = .ok (.iload_n 1, 1) := dk_27 (dk_at dksX0_note_2 14 rfl rfl)
theorem dX0_note_63 : decode cX0_note 63 = .ok (.iastore, 1) := dk_79 (dk_at dksX0_note_2 15 rfl rfl)
theorem dX0_note_64 : decode cX0_note 64 = .ok (.aload_n 0, 1) := dk_42 (dk_at dksX0_note_2 16 rfl rfl)
theorem dX0_note_65 : decode cX0_note 65 = .ok (.getfield 54, 3) := dk_180 0 54 (dk_at dksX0_note_2 17 rfl rfl)
theorem dX0_note_68 : decode cX0_note 68 = .ok (.aload_n 0, 1) := dk_42 (dk_at dksX0_note_2 20 rfl rfl)
theorem dX0_note_69 : decode cX0_note 69 = .ok (.getfield 156, 3) := dk_180 0 156 (dk_at dksX0_note_2 21 rfl rfl)
theorem dX0_note_72 : decode cX0_note 72 = .ok (.iload_n 2, 1) := dk_28 (dk_at dksX0_note_3 0 rfl rfl)
theorem dX0_note_73 : decode cX0_note 73 = .ok (.iastore, 1) := dk_79 (dk_at dksX0_note_3 1 rfl rfl)
theorem dX0_note_74 : decode cX0_note 74 = .ok (.aload_n 0, 1) := dk_42 (dk_at dksX0_note_3 2 rfl rfl)
theorem dX0_note_75 : decode cX0_note 75 = .ok (.getfield 57, 3) := dk_180 0 57 (dk_at dksX0_note_3 3 rfl rfl)
theorem dX0_note_78 : decode cX0_note 78 = .ok (.aload_n 0, 1) := dk_42 (dk_at dksX0_note_3 6 rfl rfl)
theorem dX0_note_79 : decode cX0_note 79 = .ok (.getfield 156, 3) := dk_180 0 156 (dk_at dksX0_note_3 7 rfl rfl)
theorem dX0_note_82 : decode cX0_note 82 = .ok (.iload_n 3, 1) := dk_29 (dk_at dksX0_note_3 10 rfl rfl)
theorem dX0_note_83 : decode cX0_note 83 = .ok (.iastore, 1) := dk_79 (dk_at dksX0_note_3 11 rfl rfl)
theorem dX0_note_84 : decode cX0_note 84 = .ok (.aload_n 0, 1) := dk_42 (dk_at dksX0_note_3 12 rfl rfl)
theorem dX0_note_85 : decode cX0_note 85 = .ok (.dup, 1) := dk_89 (dk_at dksX0_note_3 13 rfl rfl)
theorem dX0_note_86 : decode cX0_note 86 = .ok (.getfield 156, 3) := dk_180 0 156 (dk_at dksX0_note_3 14 rfl rfl)
theorem dX0_note_89 : decode cX0_note 89 = .ok (.iconst 1, 1) := dk_4 (dk_at dksX0_note_3 17 rfl rfl)
theorem dX0_note_90 : decode cX0_note 90 = .ok (.iadd, 1) := dk_96 (dk_at dksX0_note_3 18 rfl rfl)
theorem dX0_note_91 : decode cX0_note 91 = .ok (.putfield 156, 3) := dk_181 0 156 (dk_at dksX0_note_3 19 rfl rfl)
theorem dX0_note_94 : decode cX0_note 94 = .ok (.aload_n 0, 1) := dk_42 (dk_at dksX0_note_3 22 rfl rfl)
theorem dX0_note_95 : decode cX0_note 95 = .ok (.getfield 156, 3) := dk_180 0 156 (dk_at dksX0_note_4 0 rfl rfl)
theorem dX0_note_98 : decode cX0_note 98 = .ok (.ireturn, 1) := dk_172 (dk_at dksX0_note_4 3 rfl rfl)
abbrev cX0_ruled : ByteArray := prog_1_method_57_code
def yX0_ruled : MethodName := ⟨RX0, "ruled", "(I)I"⟩
def dkwX0_ruled_3 : List UInt8 := [167, 255, 215, 27, 154, 0, 7, 28, 167, 0, 4, 29, 172]
abbrev dktX0_ruled_3 : List UInt8 := dkwX0_ruled_3 ++ []
def dkwX0_ruled_2 : List UInt8 := [154, 0, 6, 167, 0, 17, 28, 154, 0, 8, 21, 4, 167, 0, 4, 29, 62, 132, 2, 1, 132, 4, 1]
abbrev dktX0_ruled_2 : List UInt8 := dkwX0_ruled_2 ++ dktX0_ruled_3
def dkwX0_ruled_1 : List UInt8 := [62, 2, 54, 4, 21, 4, 42, 180, 0, 31, 182, 0, 162, 162, 0, 35, 42, 21, 4, 182, 1, 71]
abbrev dktX0_ruled_1 : List UInt8 := dkwX0_ruled_1 ++ dktX0_ruled_2
def dkwX0_ruled_0 : List UInt8 := [42, 182, 0, 235, 153, 0, 13, 27, 133, 9, 10, 184, 0, 119, 154, 0, 6, 16, 253, 172, 3, 61, 16, 254]
abbrev dktX0_ruled_0 : List UInt8 := dkwX0_ruled_0 ++ dktX0_ruled_1
theorem dksX0_ruled_0 : cX0_ruled.data.toList.drop 0 = dktX0_ruled_0 := by decide +kernel
theorem dksX0_ruled_1 : cX0_ruled.data.toList.drop 24 = dktX0_ruled_1 := dk_seg dksX0_ruled_0 24 rfl rfl
theorem dksX0_ruled_2 : cX0_ruled.data.toList.drop 46 = dktX0_ruled_2 := dk_seg dksX0_ruled_1 22 rfl rfl
theorem dksX0_ruled_3 : cX0_ruled.data.toList.drop 69 = dktX0_ruled_3 := dk_seg dksX0_ruled_2 23 rfl rfl
theorem dX0_ruled_0 : decode cX0_ruled 0 = .ok (.aload_n 0, 1) := dk_42 (dk_at dksX0_ruled_0 0 rfl rfl)
theorem dX0_ruled_1 : decode cX0_ruled 1 = .ok (.invokevirtual 235, 3) := dk_182 0 235 (dk_at dksX0_ruled_0 1 rfl rfl)
theorem dX0_ruled_4 : decode cX0_ruled 4 = .ok (.ifCond .eq 13, 3) := dk_153 0 13 (dk_at dksX0_ruled_0 4 rfl rfl)
theorem dX0_ruled_7 : decode cX0_ruled 7 = .ok (.iload_n 1, 1) := dk_27 (dk_at dksX0_ruled_0 7 rfl rfl)
theorem dX0_ruled_8 : decode cX0_ruled 8 = .ok (.i2l, 1) := dk_133 (dk_at dksX0_ruled_0 8 rfl rfl)
theorem dX0_ruled_9 : decode cX0_ruled 9 = .ok (.lconst 0, 1) := dk_9 (dk_at dksX0_ruled_0 9 rfl rfl)
theorem dX0_ruled_10 : decode cX0_ruled 10 = .ok (.lconst 1, 1) := dk_10 (dk_at dksX0_ruled_0 10 rfl rfl)
theorem dX0_ruled_11 : decode cX0_ruled 11 = .ok (.invokestatic 119, 3) := dk_184 0 119 (dk_at dksX0_ruled_0 11 rfl rfl)
theorem dX0_ruled_14 : decode cX0_ruled 14 = .ok (.ifCond .ne 6, 3) := dk_154 0 6 (dk_at dksX0_ruled_0 14 rfl rfl)
theorem dX0_ruled_17 : decode cX0_ruled 17 = .ok (.bipush (-3), 2) := dk_16 253 (dk_at dksX0_ruled_0 17 rfl rfl)
theorem dX0_ruled_19 : decode cX0_ruled 19 = .ok (.ireturn, 1) := dk_172 (dk_at dksX0_ruled_0 19 rfl rfl)
theorem dX0_ruled_20 : decode cX0_ruled 20 = .ok (.iconst 0, 1) := dk_3 (dk_at dksX0_ruled_0 20 rfl rfl)
theorem dX0_ruled_21 : decode cX0_ruled 21 = .ok (.istore_n 2, 1) := dk_61 (dk_at dksX0_ruled_0 21 rfl rfl)
theorem dX0_ruled_22 : decode cX0_ruled 22 = .ok (.bipush (-2), 2) := dk_16 254 (dk_at dksX0_ruled_0 22 rfl rfl)
theorem dX0_ruled_24 : decode cX0_ruled 24 = .ok (.istore_n 3, 1) := dk_62 (dk_at dksX0_ruled_1 0 rfl rfl)
theorem dX0_ruled_25 : decode cX0_ruled 25 = .ok (.iconst (-1), 1) := dk_2 (dk_at dksX0_ruled_1 1 rfl rfl)
theorem dX0_ruled_26 : decode cX0_ruled 26 = .ok (.istore 4, 2) := dk_54 4 (dk_at dksX0_ruled_1 2 rfl rfl)
theorem dX0_ruled_28 : decode cX0_ruled 28 = .ok (.iload 4, 2) := dk_21 4 (dk_at dksX0_ruled_1 4 rfl rfl)
theorem dX0_ruled_30 : decode cX0_ruled 30 = .ok (.aload_n 0, 1) := dk_42 (dk_at dksX0_ruled_1 6 rfl rfl)
theorem dX0_ruled_31 : decode cX0_ruled 31 = .ok (.getfield 31, 3) := dk_180 0 31 (dk_at dksX0_ruled_1 7 rfl rfl)
theorem dX0_ruled_34 : decode cX0_ruled 34 = .ok (.invokevirtual 162, 3) := dk_182 0 162 (dk_at dksX0_ruled_1 10 rfl rfl)
theorem dX0_ruled_37 : decode cX0_ruled 37 = .ok (.if_icmp .ge 35, 3) := dk_162 0 35 (dk_at dksX0_ruled_1 13 rfl rfl)
theorem dX0_ruled_40 : decode cX0_ruled 40 = .ok (.aload_n 0, 1) := dk_42 (dk_at dksX0_ruled_1 16 rfl rfl)
theorem dX0_ruled_41 : decode cX0_ruled 41 = .ok (.iload 4, 2) := dk_21 4 (dk_at dksX0_ruled_1 17 rfl rfl)
theorem dX0_ruled_43 : decode cX0_ruled 43 = .ok (.invokevirtual 327, 3) := dk_182 1 71 (dk_at dksX0_ruled_1 19 rfl rfl)
theorem dX0_ruled_46 : decode cX0_ruled 46 = .ok (.ifCond .ne 6, 3) := dk_154 0 6 (dk_at dksX0_ruled_2 0 rfl rfl)
theorem dX0_ruled_49 : decode cX0_ruled 49 = .ok (.goto 17, 3) := dk_167 0 17 (dk_at dksX0_ruled_2 3 rfl rfl)
theorem dX0_ruled_52 : decode cX0_ruled 52 = .ok (.iload_n 2, 1) := dk_28 (dk_at dksX0_ruled_2 6 rfl rfl)
theorem dX0_ruled_53 : decode cX0_ruled 53 = .ok (.ifCond .ne 8, 3) := dk_154 0 8 (dk_at dksX0_ruled_2 7 rfl rfl)
theorem dX0_ruled_56 : decode cX0_ruled 56 = .ok (.iload 4, 2) := dk_21 4 (dk_at dksX0_ruled_2 10 rfl rfl)
theorem dX0_ruled_58 : decode cX0_ruled 58 = .ok (.goto 4, 3) := dk_167 0 4 (dk_at dksX0_ruled_2 12 rfl rfl)
theorem dX0_ruled_61 : decode cX0_ruled 61 = .ok (.iload_n 3, 1) := dk_29 (dk_at dksX0_ruled_2 15 rfl rfl)
theorem dX0_ruled_62 : decode cX0_ruled 62 = .ok (.istore_n 3, 1) := dk_62 (dk_at dksX0_ruled_2 16 rfl rfl)
theorem dX0_ruled_63 : decode cX0_ruled 63 = .ok (.iinc 2 1, 3) := dk_132 2 1 (dk_at dksX0_ruled_2 17 rfl rfl)
theorem dX0_ruled_66 : decode cX0_ruled 66 = .ok (.iinc 4 1, 3) := dk_132 4 1 (dk_at dksX0_ruled_2 20 rfl rfl)
theorem dX0_ruled_69 : decode cX0_ruled 69 = .ok (.goto (-41), 3) := dk_167 255 215 (dk_at dksX0_ruled_3 0 rfl rfl)
theorem dX0_ruled_72 : decode cX0_ruled 72 = .ok (.iload_n 1, 1) := dk_27 (dk_at dksX0_ruled_3 3 rfl rfl)
theorem dX0_ruled_73 : decode cX0_ruled 73 = .ok (.ifCond .ne 7, 3) := dk_154 0 7 (dk_at dksX0_ruled_3 4 rfl rfl)
theorem dX0_ruled_76 : decode cX0_ruled 76 = .ok (.iload_n 2, 1) := dk_28 (dk_at dksX0_ruled_3 7 rfl rfl)
theorem dX0_ruled_77 : decode cX0_ruled 77 = .ok (.goto 4, 3) := dk_167 0 4 (dk_at dksX0_ruled_3 8 rfl rfl)
theorem dX0_ruled_80 : decode cX0_ruled 80 = .ok (.iload_n 3, 1) := dk_29 (dk_at dksX0_ruled_3 11 rfl rfl)
theorem dX0_ruled_81 : decode cX0_ruled 81 = .ok (.ireturn, 1) := dk_172 (dk_at dksX0_ruled_3 12 rfl rfl)
abbrev cX0_couldRule : ByteArray := prog_1_method_56_code
def yX0_couldRule : MethodName := ⟨RX0, "couldRule", "(I)Z"⟩
def dkwX0_couldRule_1 : List UInt8 := [182, 1, 68, 62, 42, 28, 181, 0, 35, 29, 172]
abbrev dktX0_couldRule_1 : List UInt8 := dkwX0_couldRule_1 ++ []
def dkwX0_couldRule_0 : List UInt8 := [42, 180, 0, 35, 61, 42, 27, 181, 0, 35, 42, 180, 0, 23, 42, 180, 0, 10, 182, 0, 152, 42]
abbrev dktX0_couldRule_0 : List UInt8 := dkwX0_couldRule_0 ++ dktX0_couldRule_1
theorem dksX0_couldRule_0 : cX0_couldRule.data.toList.drop 0 = dktX0_couldRule_0 := by decide +kernel
theorem dksX0_couldRule_1 : cX0_couldRule.data.toList.drop 22 = dktX0_couldRule_1 := dk_seg dksX0_couldRule_0 22 rfl rfl
theorem dX0_couldRule_0 : decode cX0_couldRule 0 = .ok (.aload_n 0, 1) := dk_42 (dk_at dksX0_couldRule_0 0 rfl rfl)
theorem dX0_couldRule_1 : decode cX0_couldRule 1 = .ok (.getfield 35, 3) := dk_180 0 35 (dk_at dksX0_couldRule_0 1 rfl rfl)
theorem dX0_couldRule_4 : decode cX0_couldRule 4 = .ok (.istore_n 2, 1) := dk_61 (dk_at dksX0_couldRule_0 4 rfl rfl)
theorem dX0_couldRule_5 : decode cX0_couldRule 5 = .ok (.aload_n 0, 1) := dk_42 (dk_at dksX0_couldRule_0 5 rfl rfl)
theorem dX0_couldRule_6 : decode cX0_couldRule 6 = .ok (.iload_n 1, 1) := dk_27 (dk_at dksX0_couldRule_0 6 rfl rfl)
theorem dX0_couldRule_7 : decode cX0_couldRule 7 = .ok (.putfield 35, 3) := dk_181 0 35 (dk_at dksX0_couldRule_0 7 rfl rfl)
theorem dX0_couldRule_10 : decode cX0_couldRule 10 = .ok (.aload_n 0, 1) := dk_42 (dk_at dksX0_couldRule_0 10 rfl rfl)
theorem dX0_couldRule_11 : decode cX0_couldRule 11 = .ok (.getfield 23, 3) := dk_180 0 23 (dk_at dksX0_couldRule_0 11 rfl rfl)
theorem dX0_couldRule_14 : decode cX0_couldRule 14 = .ok (.aload_n 0, 1) := dk_42 (dk_at dksX0_couldRule_0 14 rfl rfl)
theorem dX0_couldRule_15 : decode cX0_couldRule 15 = .ok (.getfield 10, 3) := dk_180 0 10 (dk_at dksX0_couldRule_0 15 rfl rfl)
theorem dX0_couldRule_18 : decode cX0_couldRule 18 = .ok (.invokevirtual 152, 3) := dk_182 0 152 (dk_at dksX0_couldRule_0 18 rfl rfl)
theorem dX0_couldRule_21 : decode cX0_couldRule 21 = .ok (.aload_n 0, 1) := dk_42 (dk_at dksX0_couldRule_0 21 rfl rfl)
theorem dX0_couldRule_22 : decode cX0_couldRule 22 = .ok (.invokevirtual 324, 3) := dk_182 1 68 (dk_at dksX0_couldRule_1 0 rfl rfl)
theorem dX0_couldRule_25 : decode cX0_couldRule 25 = .ok (.istore_n 3, 1) := dk_62 (dk_at dksX0_couldRule_1 3 rfl rfl)
theorem dX0_couldRule_26 : decode cX0_couldRule 26 = .ok (.aload_n 0, 1) := dk_42 (dk_at dksX0_couldRule_1 4 rfl rfl)
theorem dX0_couldRule_27 : decode cX0_couldRule 27 = .ok (.iload_n 2, 1) := dk_28 (dk_at dksX0_couldRule_1 5 rfl rfl)
theorem dX0_couldRule_28 : decode cX0_couldRule 28 = .ok (.putfield 35, 3) := dk_181 0 35 (dk_at dksX0_couldRule_1 6 rfl rfl)
theorem dX0_couldRule_31 : decode cX0_couldRule 31 = .ok (.iload_n 3, 1) := dk_29 (dk_at dksX0_couldRule_1 9 rfl rfl)
theorem dX0_couldRule_32 : decode cX0_couldRule 32 = .ok (.ireturn, 1) := dk_172 (dk_at dksX0_couldRule_1 10 rfl rfl)
abbrev cX0_doNotesFit : ByteArray := prog_1_method_55_code
def yX0_doNotesFit : MethodName := ⟨RX0, "doNotesFit", "()Z"⟩
def dkwX0_doNotesFit_3 : List UInt8 := [46, 159, 0, 5, 3, 172, 132, 1, 1, 167, 255, 214, 4, 172]
abbrev dktX0_doNotesFit_3 : List UInt8 := dkwX0_doNotesFit_3 ++ []
def dkwX0_doNotesFit_2 : List UInt8 := [180, 0, 100, 42, 180, 0, 50, 27, 46, 46, 42, 180, 0, 54, 27, 46, 122, 4, 126, 42, 180, 0, 57, 27]
abbrev dktX0_doNotesFit_2 : List UInt8 := dkwX0_doNotesFit_2 ++ dktX0_doNotesFit_3
def dkwX0_doNotesFit_1 : List UInt8 := [180, 0, 23, 180, 0, 127, 79, 132, 1, 1, 167, 255, 225, 3, 60, 27, 42, 180, 0, 156, 162, 0, 40, 42]
abbrev dktX0_doNotesFit_1 : List UInt8 := dkwX0_doNotesFit_1 ++ dktX0_doNotesFit_2
def dkwX0_doNotesFit_0 : List UInt8 := [3, 60, 27, 16, 60, 163, 0, 31, 42, 42, 180, 0, 23, 182, 0, 219, 87, 42, 180, 0, 100, 27, 42]
abbrev dktX0_doNotesFit_0 : List UInt8 := dkwX0_doNotesFit_0 ++ dktX0_doNotesFit_1
theorem dksX0_doNotesFit_0 : cX0_doNotesFit.data.toList.drop 0 = dktX0_doNotesFit_0 := by decide +kernel
theorem dksX0_doNotesFit_1 : cX0_doNotesFit.data.toList.drop 23 = dktX0_doNotesFit_1 := dk_seg dksX0_doNotesFit_0 23 rfl rfl
theorem dksX0_doNotesFit_2 : cX0_doNotesFit.data.toList.drop 47 = dktX0_doNotesFit_2 := dk_seg dksX0_doNotesFit_1 24 rfl rfl
theorem dksX0_doNotesFit_3 : cX0_doNotesFit.data.toList.drop 71 = dktX0_doNotesFit_3 := dk_seg dksX0_doNotesFit_2 24 rfl rfl
theorem dX0_doNotesFit_0 : decode cX0_doNotesFit 0 = .ok (.iconst 0, 1) := dk_3 (dk_at dksX0_doNotesFit_0 0 rfl rfl)
theorem dX0_doNotesFit_1 : decode cX0_doNotesFit 1 = .ok (.istore_n 1, 1) := dk_60 (dk_at dksX0_doNotesFit_0 1 rfl rfl)
theorem dX0_doNotesFit_2 : decode cX0_doNotesFit 2 = .ok (.iload_n 1, 1) := dk_27 (dk_at dksX0_doNotesFit_0 2 rfl rfl)
theorem dX0_doNotesFit_3 : decode cX0_doNotesFit 3 = .ok (.bipush 60, 2) := dk_16 60 (dk_at dksX0_doNotesFit_0 3 rfl rfl)
theorem dX0_doNotesFit_5 : decode cX0_doNotesFit 5 = .ok (.if_icmp .gt 31, 3) := dk_163 0 31 (dk_at dksX0_doNotesFit_0 5 rfl rfl)
theorem dX0_doNotesFit_8 : decode cX0_doNotesFit 8 = .ok (.aload_n 0, 1) := dk_42 (dk_at dksX0_doNotesFit_0 8 rfl rfl)
theorem dX0_doNotesFit_9 : decode cX0_doNotesFit 9 = .ok (.aload_n 0, 1) := dk_42 (dk_at dksX0_doNotesFit_0 9 rfl rfl)
theorem dX0_doNotesFit_10 : decode cX0_doNotesFit 10 = .ok (.getfield 23, 3) := dk_180 0 23 (dk_at dksX0_doNotesFit_0 10 rfl rfl)
theorem dX0_doNotesFit_13 : decode cX0_doNotesFit 13 = .ok (.invokevirtual 219, 3) := dk_182 0 219 (dk_at dksX0_doNotesFit_0 13 rfl rfl)
theorem dX0_doNotesFit_16 : decode cX0_doNotesFit 16 = .ok (.pop, 1) := dk_87 (dk_at dksX0_doNotesFit_0 16 rfl rfl)
theorem dX0_doNotesFit_17 : decode cX0_doNotesFit 17 = .ok (.aload_n 0, 1) := dk_42 (dk_at dksX0_doNotesFit_0 17 rfl rfl)
theorem dX0_doNotesFit_18 : decode cX0_doNotesFit 18 = .ok (.getfield 100, 3) := dk_180 0 100 (dk_at dksX0_doNotesFit_0 18 rfl rfl)
theorem dX0_doNotesFit_21 : decode cX0_doNotesFit 21 = .ok (.iload_n 1, 1) := dk_27 (dk_at dksX0_doNotesFit_0 21 rfl rfl)
theorem dX0_doNotesFit_22 : decode cX0_doNotesFit 22 = .ok (.aload_n 0, 1) := dk_42 (dk_at dksX0_doNotesFit_0 22 rfl rfl)
theorem dX0_doNotesFit_23 : decode cX0_doNotesFit 23 = .ok (.getfield 23, 3) := dk_180 0 23 (dk_at dksX0_doNotesFit_1 0 rfl rfl)
theorem dX0_doNotesFit_26 : decode cX0_doNotesFit 26 = .ok (.getfield 127, 3) := dk_180 0 127 (dk_at dksX0_doNotesFit_1 3 rfl rfl)
theorem dX0_doNotesFit_29 : decode cX0_doNotesFit 29 = .ok (.iastore, 1) := dk_79 (dk_at dksX0_doNotesFit_1 6 rfl rfl)
theorem dX0_doNotesFit_30 : decode cX0_doNotesFit 30 = .ok (.iinc 1 1, 3) := dk_132 1 1 (dk_at dksX0_doNotesFit_1 7 rfl rfl)
theorem dX0_doNotesFit_33 : decode cX0_doNotesFit 33 = .ok (.goto (-31), 3) := dk_167 255 225 (dk_at dksX0_doNotesFit_1 10 rfl rfl)
theorem dX0_doNotesFit_36 : decode cX0_doNotesFit 36 = .ok (.iconst 0, 1) := dk_3 (dk_at dksX0_doNotesFit_1 13 rfl rfl)
theorem dX0_doNotesFit_37 : decode cX0_doNotesFit 37 = .ok (.istore_n 1, 1) := dk_60 (dk_at dksX0_doNotesFit_1 14 rfl rfl)
theorem dX0_doNotesFit_38 : decode cX0_doNotesFit 38 = .ok (.iload_n 1, 1) := dk_27 (dk_at dksX0_doNotesFit_1 15 rfl rfl)
theorem dX0_doNotesFit_39 : decode cX0_doNotesFit 39 = .ok (.aload_n 0, 1) := dk_42 (dk_at dksX0_doNotesFit_1 16 rfl rfl)
theorem dX0_doNotesFit_40 : decode cX0_doNotesFit 40 = .ok (.getfield 156, 3) := dk_180 0 156 (dk_at dksX0_doNotesFit_1 17 rfl rfl)
theorem dX0_doNotesFit_43 : decode cX0_doNotesFit 43 = .ok (.if_icmp .ge 40, 3) := dk_162 0 40 (dk_at dksX0_doNotesFit_1 20 rfl rfl)
theorem dX0_doNotesFit_46 : decode cX0_doNotesFit 46 = .ok (.aload_n 0, 1) := dk_42 (dk_at dksX0_doNotesFit_1 23 rfl rfl)
theorem dX0_doNotesFit_47 : decode cX0_doNotesFit 47 = .ok (.getfield 100, 3) := dk_180 0 100 (dk_at dksX0_doNotesFit_2 0 rfl rfl)
theorem dX0_doNotesFit_50 : decode cX0_doNotesFit 50 = .ok (.aload_n 0, 1) := dk_42 (dk_at dksX0_doNotesFit_2 3 rfl rfl)
theorem dX0_doNotesFit_51 : decode cX0_doNotesFit 51 = .ok (.getfield 50, 3) := dk_180 0 50 (dk_at dksX0_doNotesFit_2 4 rfl rfl)
theorem dX0_doNotesFit_54 : decode cX0_doNotesFit 54 = .ok (.iload_n 1, 1) := dk_27 (dk_at dksX0_doNotesFit_2 7 rfl rfl)
theorem dX0_doNotesFit_55 : decode cX0_doNotesFit 55 = .ok (.iaload, 1) := dk_46 (dk_at dksX0_doNotesFit_2 8 rfl rfl)
theorem dX0_doNotesFit_56 : decode cX0_doNotesFit 56 = .ok (.iaload, 1) := dk_46 (dk_at dksX0_doNotesFit_2 9 rfl rfl)
theorem dX0_doNotesFit_57 : decode cX0_doNotesFit 57 = .ok (.aload_n 0, 1) := dk_42 (dk_at dksX0_doNotesFit_2 10 rfl rfl)
theorem dX0_doNotesFit_58 : decode cX0_doNotesFit 58 = .ok (.getfield 54, 3) := dk_180 0 54 (dk_at dksX0_doNotesFit_2 11 rfl rfl)
theorem dX0_doNotesFit_61 : decode cX0_doNotesFit 61 = .ok (.iload_n 1, 1) := dk_27 (dk_at dksX0_doNotesFit_2 14 rfl rfl)
theorem dX0_doNotesFit_62 : decode cX0_doNotesFit 62 = .ok (.iaload, 1) := dk_46 (dk_at dksX0_doNotesFit_2 15 rfl rfl)
theorem dX0_doNotesFit_63 : decode cX0_doNotesFit 63 = .ok (.ishr, 1) := dk_122 (dk_at dksX0_doNotesFit_2 16 rfl rfl)
theorem dX0_doNotesFit_64 : decode cX0_doNotesFit 64 = .ok (.iconst 1, 1) := dk_4 (dk_at dksX0_doNotesFit_2 17 rfl rfl)
theorem dX0_doNotesFit_65 : decode cX0_doNotesFit 65 = .ok (.iand, 1) := dk_126 (dk_at dksX0_doNotesFit_2 18 rfl rfl)
theorem dX0_doNotesFit_66 : decode cX0_doNotesFit 66 = .ok (.aload_n 0, 1) := dk_42 (dk_at dksX0_doNotesFit_2 19 rfl rfl)
theorem dX0_doNotesFit_67 : decode cX0_doNotesFit 67 = .ok (.getfield 57, 3) := dk_180 0 57 (dk_at dksX0_doNotesFit_2 20 rfl rfl)
theorem dX0_doNotesFit_70 : decode cX0_doNotesFit 70 = .ok (.iload_n 1, 1) := dk_27 (dk_at dksX0_doNotesFit_2 23 rfl rfl)
theorem dX0_doNotesFit_71 : decode cX0_doNotesFit 71 = .ok (.iaload, 1) := dk_46 (dk_at dksX0_doNotesFit_3 0 rfl rfl)
theorem dX0_doNotesFit_72 : decode cX0_doNotesFit 72 = .ok (.if_icmp .eq 5, 3) := dk_159 0 5 (dk_at dksX0_doNotesFit_3 1 rfl rfl)
theorem dX0_doNotesFit_75 : decode cX0_doNotesFit 75 = .ok (.iconst 0, 1) := dk_3 (dk_at dksX0_doNotesFit_3 4 rfl rfl)
theorem dX0_doNotesFit_76 : decode cX0_doNotesFit 76 = .ok (.ireturn, 1) := dk_172 (dk_at dksX0_doNotesFit_3 5 rfl rfl)
theorem dX0_doNotesFit_77 : decode cX0_doNotesFit 77 = .ok (.iinc 1 1, 3) := dk_132 1 1 (dk_at dksX0_doNotesFit_3 6 rfl rfl)
theorem dX0_doNotesFit_80 : decode cX0_doNotesFit 80 = .ok (.goto (-42), 3) := dk_167 255 214 (dk_at dksX0_doNotesFit_3 9 rfl rfl)
theorem dX0_doNotesFit_83 : decode cX0_doNotesFit 83 = .ok (.iconst 1, 1) := dk_4 (dk_at dksX0_doNotesFit_3 12 rfl rfl)
theorem dX0_doNotesFit_84 : decode cX0_doNotesFit 84 = .ok (.ireturn, 1) := dk_172 (dk_at dksX0_doNotesFit_3 13 rfl rfl)
abbrev cX0_hards : ByteArray := prog_1_method_58_code
def yX0_hards : MethodName := ⟨RX0, "hards", "(II)I"⟩
def dkwX0_hards_4 : List UInt8 := [132, 3, 1, 132, 5, 1, 167, 255, 198, 28, 154, 0, 7, 29, 167, 0, 5, 21, 4, 172]
abbrev dktX0_hards_4 : List UInt8 := dkwX0_hards_4 ++ []
def dkwX0_hards_3 : List UInt8 := [182, 1, 68, 154, 0, 6, 167, 0, 19, 29, 154, 0, 8, 21, 5, 167, 0, 5, 21, 4, 54, 4]
abbrev dktX0_hards_3 : List UInt8 := dkwX0_hards_3 ++ dktX0_hards_4
def dkwX0_hards_2 : List UInt8 := [180, 0, 23, 42, 180, 0, 10, 182, 0, 152, 42, 180, 0, 23, 180, 0, 170, 27, 21, 5, 79, 42]
abbrev dktX0_hards_2 : List UInt8 := dkwX0_hards_2 ++ dktX0_hards_3
def dkwX0_hards_1 : List UInt8 := [54, 4, 42, 180, 0, 10, 180, 1, 74, 27, 46, 4, 96, 54, 5, 21, 5, 16, 30, 163, 0, 57, 42]
abbrev dktX0_hards_1 : List UInt8 := dkwX0_hards_1 ++ dktX0_hards_2
def dkwX0_hards_0 : List UInt8 := [42, 27, 182, 0, 123, 153, 0, 13, 28, 133, 9, 10, 184, 0, 119, 154, 0, 5, 2, 172, 3, 62, 16, 254]
abbrev dktX0_hards_0 : List UInt8 := dkwX0_hards_0 ++ dktX0_hards_1
theorem dksX0_hards_0 : cX0_hards.data.toList.drop 0 = dktX0_hards_0 := by decide +kernel
theorem dksX0_hards_1 : cX0_hards.data.toList.drop 24 = dktX0_hards_1 := dk_seg dksX0_hards_0 24 rfl rfl
theorem dksX0_hards_2 : cX0_hards.data.toList.drop 47 = dktX0_hards_2 := dk_seg dksX0_hards_1 23 rfl rfl
theorem dksX0_hards_3 : cX0_hards.data.toList.drop 69 = dktX0_hards_3 := dk_seg dksX0_hards_2 22 rfl rfl
theorem dksX0_hards_4 : cX0_hards.data.toList.drop 91 = dktX0_hards_4 := dk_seg dksX0_hards_3 22 rfl rfl
theorem dX0_hards_0 : decode cX0_hards 0 = .ok (.aload_n 0, 1) := dk_42 (dk_at dksX0_hards_0 0 rfl rfl)
theorem dX0_hards_1 : decode cX0_hards 1 = .ok (.iload_n 1, 1) := dk_27 (dk_at dksX0_hards_0 1 rfl rfl)
theorem dX0_hards_2 : decode cX0_hards 2 = .ok (.invokevirtual 123, 3) := dk_182 0 123 (dk_at dksX0_hards_0 2 rfl rfl)
theorem dX0_hards_5 : decode cX0_hards 5 = .ok (.ifCond .eq 13, 3) := dk_153 0 13 (dk_at dksX0_hards_0 5 rfl rfl)
theorem dX0_hards_8 : decode cX0_hards 8 = .ok (.iload_n 2, 1) := dk_28 (dk_at dksX0_hards_0 8 rfl rfl)
theorem dX0_hards_9 : decode cX0_hards 9 = .ok (.i2l, 1) := dk_133 (dk_at dksX0_hards_0 9 rfl rfl)
theorem dX0_hards_10 : decode cX0_hards 10 = .ok (.lconst 0, 1) := dk_9 (dk_at dksX0_hards_0 10 rfl rfl)
theorem dX0_hards_11 : decode cX0_hards 11 = .ok (.lconst 1, 1) := dk_10 (dk_at dksX0_hards_0 11 rfl rfl)
theorem dX0_hards_12 : decode cX0_hards 12 = .ok (.invokestatic 119, 3) := dk_184 0 119 (dk_at dksX0_hards_0 12 rfl rfl)
theorem dX0_hards_15 : decode cX0_hards 15 = .ok (.ifCond .ne 5, 3) := dk_154 0 5 (dk_at dksX0_hards_0 15 rfl rfl)
theorem dX0_hards_18 : decode cX0_hards 18 = .ok (.iconst (-1), 1) := dk_2 (dk_at dksX0_hards_0 18 rfl rfl)
theorem dX0_hards_19 : decode cX0_hards 19 = .ok (.ireturn, 1) := dk_172 (dk_at dksX0_hards_0 19 rfl rfl)
theorem dX0_hards_20 : decode cX0_hards 20 = .ok (.iconst 0, 1) := dk_3 (dk_at dksX0_hards_0 20 rfl rfl)
theorem dX0_hards_21 : decode cX0_hards 21 = .ok (.istore_n 3, 1) := dk_62 (dk_at dksX0_hards_0 21 rfl rfl)
theorem dX0_hards_22 : decode cX0_hards 22 = .ok (.bipush (-2), 2) := dk_16 254 (dk_at dksX0_hards_0 22 rfl rfl)
theorem dX0_hards_24 : decode cX0_hards 24 = .ok (.istore 4, 2) := dk_54 4 (dk_at dksX0_hards_1 0 rfl rfl)
theorem dX0_hards_26 : decode cX0_hards 26 = .ok (.aload_n 0, 1) := dk_42 (dk_at dksX0_hards_1 2 rfl rfl)
theorem dX0_hards_27 : decode cX0_hards 27 = .ok (.getfield 10, 3) := dk_180 0 10 (dk_at dksX0_hards_1 3 rfl rfl)
theorem dX0_hards_30 : decode cX0_hards 30 = .ok (.getfield 330, 3) := dk_180 1 74 (dk_at dksX0_hards_1 6 rfl rfl)
theorem dX0_hards_33 : decode cX0_hards 33 = .ok (.iload_n 1, 1) := dk_27 (dk_at dksX0_hards_1 9 rfl rfl)
theorem dX0_hards_34 : decode cX0_hards 34 = .ok (.iaload, 1) := dk_46 (dk_at dksX0_hards_1 10 rfl rfl)
theorem dX0_hards_35 : decode cX0_hards 35 = .ok (.iconst 1, 1) := dk_4 (dk_at dksX0_hards_1 11 rfl rfl)
theorem dX0_hards_36 : decode cX0_hards 36 = .ok (.iadd, 1) := dk_96 (dk_at dksX0_hards_1 12 rfl rfl)
theorem dX0_hards_37 : decode cX0_hards 37 = .ok (.istore 5, 2) := dk_54 5 (dk_at dksX0_hards_1 13 rfl rfl)
theorem dX0_hards_39 : decode cX0_hards 39 = .ok (.iload 5, 2) := dk_21 5 (dk_at dksX0_hards_1 15 rfl rfl)
theorem dX0_hards_41 : decode cX0_hards 41 = .ok (.bipush 30, 2) := dk_16 30 (dk_at dksX0_hards_1 17 rfl rfl)
theorem dX0_hards_43 : decode cX0_hards 43 = .ok (.if_icmp .gt 57, 3) := dk_163 0 57 (dk_at dksX0_hards_1 19 rfl rfl)
theorem dX0_hards_46 : decode cX0_hards 46 = .ok (.aload_n 0, 1) := dk_42 (dk_at dksX0_hards_1 22 rfl rfl)
theorem dX0_hards_47 : decode cX0_hards 47 = .ok (.getfield 23, 3) := dk_180 0 23 (dk_at dksX0_hards_2 0 rfl rfl)
theorem dX0_hards_50 : decode cX0_hards 50 = .ok (.aload_n 0, 1) := dk_42 (dk_at dksX0_hards_2 3 rfl rfl)
theorem dX0_hards_51 : decode cX0_hards 51 = .ok (.getfield 10, 3) := dk_180 0 10 (dk_at dksX0_hards_2 4 rfl rfl)
theorem dX0_hards_54 : decode cX0_hards 54 = .ok (.invokevirtual 152, 3) := dk_182 0 152 (dk_at dksX0_hards_2 7 rfl rfl)
theorem dX0_hards_57 : decode cX0_hards 57 = .ok (.aload_n 0, 1) := dk_42 (dk_at dksX0_hards_2 10 rfl rfl)
theorem dX0_hards_58 : decode cX0_hards 58 = .ok (.getfield 23, 3) := dk_180 0 23 (dk_at dksX0_hards_2 11 rfl rfl)
theorem dX0_hards_61 : decode cX0_hards 61 = .ok (.getfield 170, 3) := dk_180 0 170 (dk_at dksX0_hards_2 14 rfl rfl)
theorem dX0_hards_64 : decode cX0_hards 64 = .ok (.iload_n 1, 1) := dk_27 (dk_at dksX0_hards_2 17 rfl rfl)
theorem dX0_hards_65 : decode cX0_hards 65 = .ok (.iload 5, 2) := dk_21 5 (dk_at dksX0_hards_2 18 rfl rfl)
theorem dX0_hards_67 : decode cX0_hards 67 = .ok (.iastore, 1) := dk_79 (dk_at dksX0_hards_2 20 rfl rfl)
theorem dX0_hards_68 : decode cX0_hards 68 = .ok (.aload_n 0, 1) := dk_42 (dk_at dksX0_hards_2 21 rfl rfl)
theorem dX0_hards_69 : decode cX0_hards 69 = .ok (.invokevirtual 324, 3) := dk_182 1 68 (dk_at dksX0_hards_3 0 rfl rfl)
theorem dX0_hards_72 : decode cX0_hards 72 = .ok (.ifCond .ne 6, 3) := dk_154 0 6 (dk_at dksX0_hards_3 3 rfl rfl)
theorem dX0_hards_75 : decode cX0_hards 75 = .ok (.goto 19, 3) := dk_167 0 19 (dk_at dksX0_hards_3 6 rfl rfl)
theorem dX0_hards_78 : decode cX0_hards 78 = .ok (.iload_n 3, 1) := dk_29 (dk_at dksX0_hards_3 9 rfl rfl)
theorem dX0_hards_79 : decode cX0_hards 79 = .ok (.ifCond .ne 8, 3) := dk_154 0 8 (dk_at dksX0_hards_3 10 rfl rfl)
theorem dX0_hards_82 : decode cX0_hards 82 = .ok (.iload 5, 2) := dk_21 5 (dk_at dksX0_hards_3 13 rfl rfl)
theorem dX0_hards_84 : decode cX0_hards 84 = .ok (.goto 5, 3) := dk_167 0 5 (dk_at dksX0_hards_3 15 rfl rfl)
theorem dX0_hards_87 : decode cX0_hards 87 = .ok (.iload 4, 2) := dk_21 4 (dk_at dksX0_hards_3 18 rfl rfl)
theorem dX0_hards_89 : decode cX0_hards 89 = .ok (.istore 4, 2) := dk_54 4 (dk_at dksX0_hards_3 20 rfl rfl)
theorem dX0_hards_91 : decode cX0_hards 91 = .ok (.iinc 3 1, 3) := dk_132 3 1 (dk_at dksX0_hards_4 0 rfl rfl)
theorem dX0_hards_94 : decode cX0_hards 94 = .ok (.iinc 5 1, 3) := dk_132 5 1 (dk_at dksX0_hards_4 3 rfl rfl)
theorem dX0_hards_97 : decode cX0_hards 97 = .ok (.goto (-58), 3) := dk_167 255 198 (dk_at dksX0_hards_4 6 rfl rfl)
theorem dX0_hards_100 : decode cX0_hards 100 = .ok (.iload_n 2, 1) := dk_28 (dk_at dksX0_hards_4 9 rfl rfl)
theorem dX0_hards_101 : decode cX0_hards 101 = .ok (.ifCond .ne 7, 3) := dk_154 0 7 (dk_at dksX0_hards_4 10 rfl rfl)
theorem dX0_hards_104 : decode cX0_hards 104 = .ok (.iload_n 3, 1) := dk_29 (dk_at dksX0_hards_4 13 rfl rfl)
theorem dX0_hards_105 : decode cX0_hards 105 = .ok (.goto 5, 3) := dk_167 0 5 (dk_at dksX0_hards_4 14 rfl rfl)
theorem dX0_hards_108 : decode cX0_hards 108 = .ok (.iload 4, 2) := dk_21 4 (dk_at dksX0_hards_4 17 rfl rfl)
theorem dX0_hards_110 : decode cX0_hards 110 = .ok (.ireturn, 1) := dk_172 (dk_at dksX0_hards_4 19 rfl rfl)
abbrev cX0_swings : ByteArray := prog_1_method_59_code
def yX0_swings : MethodName := ⟨RX0, "swings", "(I)I"⟩
def dkwX0_swings_2 : List UInt8 := [28, 4, 29, 120, 128, 61, 132, 3, 1, 167, 255, 213, 28, 172]
abbrev dktX0_swings_2 : List UInt8 := dkwX0_swings_2 ++ []
def dkwX0_swings_1 : List UInt8 := [42, 180, 0, 10, 182, 0, 152, 42, 180, 0, 23, 180, 0, 173, 27, 29, 79, 42, 182, 1, 68, 153, 0, 9]
abbrev dktX0_swings_1 : List UInt8 := dkwX0_swings_1 ++ dktX0_swings_2
def dkwX0_swings_0 : List UInt8 := [42, 27, 182, 0, 123, 154, 0, 5, 2, 172, 3, 61, 4, 62, 29, 16, 20, 163, 0, 43, 42, 180, 0, 23]
abbrev dktX0_swings_0 : List UInt8 := dkwX0_swings_0 ++ dktX0_swings_1
theorem dksX0_swings_0 : cX0_swings.data.toList.drop 0 = dktX0_swings_0 := by decide +kernel
theorem dksX0_swings_1 : cX0_swings.data.toList.drop 24 = dktX0_swings_1 := dk_seg dksX0_swings_0 24 rfl rfl
theorem dksX0_swings_2 : cX0_swings.data.toList.drop 48 = dktX0_swings_2 := dk_seg dksX0_swings_1 24 rfl rfl
theorem dX0_swings_0 : decode cX0_swings 0 = .ok (.aload_n 0, 1) := dk_42 (dk_at dksX0_swings_0 0 rfl rfl)
theorem dX0_swings_1 : decode cX0_swings 1 = .ok (.iload_n 1, 1) := dk_27 (dk_at dksX0_swings_0 1 rfl rfl)
theorem dX0_swings_2 : decode cX0_swings 2 = .ok (.invokevirtual 123, 3) := dk_182 0 123 (dk_at dksX0_swings_0 2 rfl rfl)
theorem dX0_swings_5 : decode cX0_swings 5 = .ok (.ifCond .ne 5, 3) := dk_154 0 5 (dk_at dksX0_swings_0 5 rfl rfl)
theorem dX0_swings_8 : decode cX0_swings 8 = .ok (.iconst (-1), 1) := dk_2 (dk_at dksX0_swings_0 8 rfl rfl)
theorem dX0_swings_9 : decode cX0_swings 9 = .ok (.ireturn, 1) := dk_172 (dk_at dksX0_swings_0 9 rfl rfl)
theorem dX0_swings_10 : decode cX0_swings 10 = .ok (.iconst 0, 1) := dk_3 (dk_at dksX0_swings_0 10 rfl rfl)
theorem dX0_swings_11 : decode cX0_swings 11 = .ok (.istore_n 2, 1) := dk_61 (dk_at dksX0_swings_0 11 rfl rfl)
theorem dX0_swings_12 : decode cX0_swings 12 = .ok (.iconst 1, 1) := dk_4 (dk_at dksX0_swings_0 12 rfl rfl)
theorem dX0_swings_13 : decode cX0_swings 13 = .ok (.istore_n 3, 1) := dk_62 (dk_at dksX0_swings_0 13 rfl rfl)
theorem dX0_swings_14 : decode cX0_swings 14 = .ok (.iload_n 3, 1) := dk_29 (dk_at dksX0_swings_0 14 rfl rfl)
theorem dX0_swings_15 : decode cX0_swings 15 = .ok (.bipush 20, 2) := dk_16 20 (dk_at dksX0_swings_0 15 rfl rfl)
theorem dX0_swings_17 : decode cX0_swings 17 = .ok (.if_icmp .gt 43, 3) := dk_163 0 43 (dk_at dksX0_swings_0 17 rfl rfl)
theorem dX0_swings_20 : decode cX0_swings 20 = .ok (.aload_n 0, 1) := dk_42 (dk_at dksX0_swings_0 20 rfl rfl)
theorem dX0_swings_21 : decode cX0_swings 21 = .ok (.getfield 23, 3) := dk_180 0 23 (dk_at dksX0_swings_0 21 rfl rfl)
theorem dX0_swings_24 : decode cX0_swings 24 = .ok (.aload_n 0, 1) := dk_42 (dk_at dksX0_swings_1 0 rfl rfl)
theorem dX0_swings_25 : decode cX0_swings 25 = .ok (.getfield 10, 3) := dk_180 0 10 (dk_at dksX0_swings_1 1 rfl rfl)
theorem dX0_swings_28 : decode cX0_swings 28 = .ok (.invokevirtual 152, 3) := dk_182 0 152 (dk_at dksX0_swings_1 4 rfl rfl)
theorem dX0_swings_31 : decode cX0_swings 31 = .ok (.aload_n 0, 1) := dk_42 (dk_at dksX0_swings_1 7 rfl rfl)
theorem dX0_swings_32 : decode cX0_swings 32 = .ok (.getfield 23, 3) := dk_180 0 23 (dk_at dksX0_swings_1 8 rfl rfl)
theorem dX0_swings_35 : decode cX0_swings 35 = .ok (.getfield 173, 3) := dk_180 0 173 (dk_at dksX0_swings_1 11 rfl rfl)
theorem dX0_swings_38 : decode cX0_swings 38 = .ok (.iload_n 1, 1) := dk_27 (dk_at dksX0_swings_1 14 rfl rfl)
theorem dX0_swings_39 : decode cX0_swings 39 = .ok (.iload_n 3, 1) := dk_29 (dk_at dksX0_swings_1 15 rfl rfl)
theorem dX0_swings_40 : decode cX0_swings 40 = .ok (.iastore, 1) := dk_79 (dk_at dksX0_swings_1 16 rfl rfl)
theorem dX0_swings_41 : decode cX0_swings 41 = .ok (.aload_n 0, 1) := dk_42 (dk_at dksX0_swings_1 17 rfl rfl)
theorem dX0_swings_42 : decode cX0_swings 42 = .ok (.invokevirtual 324, 3) := dk_182 1 68 (dk_at dksX0_swings_1 18 rfl rfl)
theorem dX0_swings_45 : decode cX0_swings 45 = .ok (.ifCond .eq 9, 3) := dk_153 0 9 (dk_at dksX0_swings_1 21 rfl rfl)
theorem dX0_swings_48 : decode cX0_swings 48 = .ok (.iload_n 2, 1) := dk_28 (dk_at dksX0_swings_2 0 rfl rfl)
theorem dX0_swings_49 : decode cX0_swings 49 = .ok (.iconst 1, 1) := dk_4 (dk_at dksX0_swings_2 1 rfl rfl)
theorem dX0_swings_50 : decode cX0_swings 50 = .ok (.iload_n 3, 1) := dk_29 (dk_at dksX0_swings_2 2 rfl rfl)
theorem dX0_swings_51 : decode cX0_swings 51 = .ok (.ishl, 1) := dk_120 (dk_at dksX0_swings_2 3 rfl rfl)
theorem dX0_swings_52 : decode cX0_swings 52 = .ok (.ior, 1) := dk_128 (dk_at dksX0_swings_2 4 rfl rfl)
theorem dX0_swings_53 : decode cX0_swings 53 = .ok (.istore_n 2, 1) := dk_61 (dk_at dksX0_swings_2 5 rfl rfl)
theorem dX0_swings_54 : decode cX0_swings 54 = .ok (.iinc 3 1, 3) := dk_132 3 1 (dk_at dksX0_swings_2 6 rfl rfl)
theorem dX0_swings_57 : decode cX0_swings 57 = .ok (.goto (-43), 3) := dk_167 255 213 (dk_at dksX0_swings_2 9 rfl rfl)
theorem dX0_swings_60 : decode cX0_swings 60 = .ok (.iload_n 2, 1) := dk_28 (dk_at dksX0_swings_2 12 rfl rfl)
theorem dX0_swings_61 : decode cX0_swings 61 = .ok (.ireturn, 1) := dk_172 (dk_at dksX0_swings_2 13 rfl rfl)
abbrev cX0_look : ByteArray := prog_1_method_61_code
def yX0_look : MethodName := ⟨RX0, "look", "(II)I"⟩
def dkwX0_look_6 : List UInt8 := [167, 255, 220, 28, 154, 0, 8, 21, 4, 167, 0, 10, 42, 21, 4, 29, 182, 1, 77, 172]
abbrev dktX0_look_6 : List UInt8 := dkwX0_look_6 ++ []
def dkwX0_look_5 : List UInt8 := [42, 21, 5, 29, 182, 1, 77, 42, 21, 4, 29, 182, 1, 77, 162, 0, 7, 21, 5, 54, 4, 132, 5, 1]
abbrev dktX0_look_5 : List UInt8 := dkwX0_look_5 ++ dktX0_look_6
def dkwX0_look_4 : List UInt8 := [154, 0, 6, 16, 254, 172, 3, 54, 4, 4, 54, 5, 21, 5, 42, 180, 0, 10, 182, 0, 115, 162, 0, 30]
abbrev dktX0_look_4 : List UInt8 := dkwX0_look_4 ++ dktX0_look_5
def dkwX0_look_3 : List UInt8 := [27, 46, 79, 132, 3, 1, 132, 4, 1, 167, 255, 214, 29, 153, 0, 13, 42, 180, 0, 10, 182, 0, 115]
abbrev dktX0_look_3 : List UInt8 := dkwX0_look_3 ++ dktX0_look_4
def dkwX0_look_2 : List UInt8 := [162, 0, 36, 42, 21, 4, 182, 1, 71, 154, 0, 6, 167, 0, 18, 42, 180, 0, 103, 29, 42, 180, 0, 100]
abbrev dktX0_look_2 : List UInt8 := dkwX0_look_2 ++ dktX0_look_3
def dkwX0_look_1 : List UInt8 := [184, 0, 119, 154, 0, 5, 2, 172, 3, 62, 2, 54, 4, 21, 4, 42, 180, 0, 31, 182, 0, 162]
abbrev dktX0_look_1 : List UInt8 := dkwX0_look_1 ++ dktX0_look_2
def dkwX0_look_0 : List UInt8 := [42, 182, 0, 235, 153, 0, 25, 27, 133, 9, 20, 1, 66, 184, 0, 119, 153, 0, 13, 28, 133, 9, 10]
abbrev dktX0_look_0 : List UInt8 := dkwX0_look_0 ++ dktX0_look_1
theorem dksX0_look_0 : cX0_look.data.toList.drop 0 = dktX0_look_0 := by decide +kernel
theorem dksX0_look_1 : cX0_look.data.toList.drop 23 = dktX0_look_1 := dk_seg dksX0_look_0 23 rfl rfl
theorem dksX0_look_2 : cX0_look.data.toList.drop 45 = dktX0_look_2 := dk_seg dksX0_look_1 22 rfl rfl
theorem dksX0_look_3 : cX0_look.data.toList.drop 69 = dktX0_look_3 := dk_seg dksX0_look_2 24 rfl rfl
theorem dksX0_look_4 : cX0_look.data.toList.drop 92 = dktX0_look_4 := dk_seg dksX0_look_3 23 rfl rfl
theorem dksX0_look_5 : cX0_look.data.toList.drop 116 = dktX0_look_5 := dk_seg dksX0_look_4 24 rfl rfl
theorem dksX0_look_6 : cX0_look.data.toList.drop 140 = dktX0_look_6 := dk_seg dksX0_look_5 24 rfl rfl
theorem dX0_look_0 : decode cX0_look 0 = .ok (.aload_n 0, 1) := dk_42 (dk_at dksX0_look_0 0 rfl rfl)
theorem dX0_look_1 : decode cX0_look 1 = .ok (.invokevirtual 235, 3) := dk_182 0 235 (dk_at dksX0_look_0 1 rfl rfl)
theorem dX0_look_4 : decode cX0_look 4 = .ok (.ifCond .eq 25, 3) := dk_153 0 25 (dk_at dksX0_look_0 4 rfl rfl)
theorem dX0_look_7 : decode cX0_look 7 = .ok (.iload_n 1, 1) := dk_27 (dk_at dksX0_look_0 7 rfl rfl)
theorem dX0_look_8 : decode cX0_look 8 = .ok (.i2l, 1) := dk_133 (dk_at dksX0_look_0 8 rfl rfl)
theorem dX0_look_9 : decode cX0_look 9 = .ok (.lconst 0, 1) := dk_9 (dk_at dksX0_look_0 9 rfl rfl)
theorem dX0_look_10 : decode cX0_look 10 = .ok (.ldc2_w 322, 3) := dk_20 1 66 (dk_at dksX0_look_0 10 rfl rfl)
theorem dX0_look_13 : decode cX0_look 13 = .ok (.invokestatic 119, 3) := dk_184 0 119 (dk_at dksX0_look_0 13 rfl rfl)
theorem dX0_look_16 : decode cX0_look 16 = .ok (.ifCond .eq 13, 3) := dk_153 0 13 (dk_at dksX0_look_0 16 rfl rfl)
theorem dX0_look_19 : decode cX0_look 19 = .ok (.iload_n 2, 1) := dk_28 (dk_at dksX0_look_0 19 rfl rfl)
theorem dX0_look_20 : decode cX0_look 20 = .ok (.i2l, 1) := dk_133 (dk_at dksX0_look_0 20 rfl rfl)
theorem dX0_look_21 : decode cX0_look 21 = .ok (.lconst 0, 1) := dk_9 (dk_at dksX0_look_0 21 rfl rfl)
theorem dX0_look_22 : decode cX0_look 22 = .ok (.lconst 1, 1) := dk_10 (dk_at dksX0_look_0 22 rfl rfl)
theorem dX0_look_23 : decode cX0_look 23 = .ok (.invokestatic 119, 3) := dk_184 0 119 (dk_at dksX0_look_1 0 rfl rfl)
theorem dX0_look_26 : decode cX0_look 26 = .ok (.ifCond .ne 5, 3) := dk_154 0 5 (dk_at dksX0_look_1 3 rfl rfl)
theorem dX0_look_29 : decode cX0_look 29 = .ok (.iconst (-1), 1) := dk_2 (dk_at dksX0_look_1 6 rfl rfl)
theorem dX0_look_30 : decode cX0_look 30 = .ok (.ireturn, 1) := dk_172 (dk_at dksX0_look_1 7 rfl rfl)
theorem dX0_look_31 : decode cX0_look 31 = .ok (.iconst 0, 1) := dk_3 (dk_at dksX0_look_1 8 rfl rfl)
theorem dX0_look_32 : decode cX0_look 32 = .ok (.istore_n 3, 1) := dk_62 (dk_at dksX0_look_1 9 rfl rfl)
theorem dX0_look_33 : decode cX0_look 33 = .ok (.iconst (-1), 1) := dk_2 (dk_at dksX0_look_1 10 rfl rfl)
theorem dX0_look_34 : decode cX0_look 34 = .ok (.istore 4, 2) := dk_54 4 (dk_at dksX0_look_1 11 rfl rfl)
theorem dX0_look_36 : decode cX0_look 36 = .ok (.iload 4, 2) := dk_21 4 (dk_at dksX0_look_1 13 rfl rfl)
theorem dX0_look_38 : decode cX0_look 38 = .ok (.aload_n 0, 1) := dk_42 (dk_at dksX0_look_1 15 rfl rfl)
theorem dX0_look_39 : decode cX0_look 39 = .ok (.getfield 31, 3) := dk_180 0 31 (dk_at dksX0_look_1 16 rfl rfl)
theorem dX0_look_42 : decode cX0_look 42 = .ok (.invokevirtual 162, 3) := dk_182 0 162 (dk_at dksX0_look_1 19 rfl rfl)
theorem dX0_look_45 : decode cX0_look 45 = .ok (.if_icmp .ge 36, 3) := dk_162 0 36 (dk_at dksX0_look_2 0 rfl rfl)
theorem dX0_look_48 : decode cX0_look 48 = .ok (.aload_n 0, 1) := dk_42 (dk_at dksX0_look_2 3 rfl rfl)
theorem dX0_look_49 : decode cX0_look 49 = .ok (.iload 4, 2) := dk_21 4 (dk_at dksX0_look_2 4 rfl rfl)
theorem dX0_look_51 : decode cX0_look 51 = .ok (.invokevirtual 327, 3) := dk_182 1 71 (dk_at dksX0_look_2 6 rfl rfl)
theorem dX0_look_54 : decode cX0_look 54 = .ok (.ifCond .ne 6, 3) := dk_154 0 6 (dk_at dksX0_look_2 9 rfl rfl)
theorem dX0_look_57 : decode cX0_look 57 = .ok (.goto 18, 3) := dk_167 0 18 (dk_at dksX0_look_2 12 rfl rfl)
theorem dX0_look_60 : decode cX0_look 60 = .ok (.aload_n 0, 1) := dk_42 (dk_at dksX0_look_2 15 rfl rfl)
theorem dX0_look_61 : decode cX0_look 61 = .ok (.getfield 103, 3) := dk_180 0 103 (dk_at dksX0_look_2 16 rfl rfl)
theorem dX0_look_64 : decode cX0_look 64 = .ok (.iload_n 3, 1) := dk_29 (dk_at dksX0_look_2 19 rfl rfl)
theorem dX0_look_65 : decode cX0_look 65 = .ok (.aload_n 0, 1) := dk_42 (dk_at dksX0_look_2 20 rfl rfl)
theorem dX0_look_66 : decode cX0_look 66 = .ok (.getfield 100, 3) := dk_180 0 100 (dk_at dksX0_look_2 21 rfl rfl)
theorem dX0_look_69 : decode cX0_look 69 = .ok (.iload_n 1, 1) := dk_27 (dk_at dksX0_look_3 0 rfl rfl)
theorem dX0_look_70 : decode cX0_look 70 = .ok (.iaload, 1) := dk_46 (dk_at dksX0_look_3 1 rfl rfl)
theorem dX0_look_71 : decode cX0_look 71 = .ok (.iastore, 1) := dk_79 (dk_at dksX0_look_3 2 rfl rfl)
theorem dX0_look_72 : decode cX0_look 72 = .ok (.iinc 3 1, 3) := dk_132 3 1 (dk_at dksX0_look_3 3 rfl rfl)
theorem dX0_look_75 : decode cX0_look 75 = .ok (.iinc 4 1, 3) := dk_132 4 1 (dk_at dksX0_look_3 6 rfl rfl)
theorem dX0_look_78 : decode cX0_look 78 = .ok (.goto (-42), 3) := dk_167 255 214 (dk_at dksX0_look_3 9 rfl rfl)
theorem dX0_look_81 : decode cX0_look 81 = .ok (.iload_n 3, 1) := dk_29 (dk_at dksX0_look_3 12 rfl rfl)
theorem dX0_look_82 : decode cX0_look 82 = .ok (.ifCond .eq 13, 3) := dk_153 0 13 (dk_at dksX0_look_3 13 rfl rfl)
theorem dX0_look_85 : decode cX0_look 85 = .ok (.aload_n 0, 1) := dk_42 (dk_at dksX0_look_3 16 rfl rfl)
theorem dX0_look_86 : decode cX0_look 86 = .ok (.getfield 10, 3) := dk_180 0 10 (dk_at dksX0_look_3 17 rfl rfl)
theorem dX0_look_89 : decode cX0_look 89 = .ok (.invokevirtual 115, 3) := dk_182 0 115 (dk_at dksX0_look_3 20 rfl rfl)
theorem dX0_look_92 : decode cX0_look 92 = .ok (.ifCond .ne 6, 3) := dk_154 0 6 (dk_at dksX0_look_4 0 rfl rfl)
theorem dX0_look_95 : decode cX0_look 95 = .ok (.bipush (-2), 2) := dk_16 254 (dk_at dksX0_look_4 3 rfl rfl)
theorem dX0_look_97 : decode cX0_look 97 = .ok (.ireturn, 1) := dk_172 (dk_at dksX0_look_4 5 rfl rfl)
theorem dX0_look_98 : decode cX0_look 98 = .ok (.iconst 0, 1) := dk_3 (dk_at dksX0_look_4 6 rfl rfl)
theorem dX0_look_99 : decode cX0_look 99 = .ok (.istore 4, 2) := dk_54 4 (dk_at dksX0_look_4 7 rfl rfl)
theorem dX0_look_101 : decode cX0_look 101 = .ok (.iconst 1, 1) := dk_4 (dk_at dksX0_look_4 9 rfl rfl)
theorem dX0_look_102 : decode cX0_look 102 = .ok (.istore 5, 2) := dk_54 5 (dk_at dksX0_look_4 10 rfl rfl)
theorem dX0_look_104 : decode cX0_look 104 = .ok (.iload 5, 2) := dk_21 5 (dk_at dksX0_look_4 12 rfl rfl)
theorem dX0_look_106 : decode cX0_look 106 = .ok (.aload_n 0, 1) := dk_42 (dk_at dksX0_look_4 14 rfl rfl)
theorem dX0_look_107 : decode cX0_look 107 = .ok (.getfield 10, 3) := dk_180 0 10 (dk_at dksX0_look_4 15 rfl rfl)
theorem dX0_look_110 : decode cX0_look 110 = .ok (.invokevirtual 115, 3) := dk_182 0 115 (dk_at dksX0_look_4 18 rfl rfl)
theorem dX0_look_113 : decode cX0_look 113 = .ok (.if_icmp .ge 30, 3) := dk_162 0 30 (dk_at dksX0_look_4 21 rfl rfl)
theorem dX0_look_116 : decode cX0_look 116 = .ok (.aload_n 0, 1) := dk_42 (dk_at dksX0_look_5 0 rfl rfl)
theorem dX0_look_117 : decode cX0_look 117 = .ok (.iload 5, 2) := dk_21 5 (dk_at dksX0_look_5 1 rfl rfl)
theorem dX0_look_119 : decode cX0_look 119 = .ok (.iload_n 3, 1) := dk_29 (dk_at dksX0_look_5 3 rfl rfl)
theorem dX0_look_120 : decode cX0_look 120 = .ok (.invokevirtual 333, 3) := dk_182 1 77 (dk_at dksX0_look_5 4 rfl rfl)
theorem dX0_look_123 : decode cX0_look 123 = .ok (.aload_n 0, 1) := dk_42 (dk_at dksX0_look_5 7 rfl rfl)
theorem dX0_look_124 : decode cX0_look 124 = .ok (.iload 4, 2) := dk_21 4 (dk_at dksX0_look_5 8 rfl rfl)
theorem dX0_look_126 : decode cX0_look 126 = .ok (.iload_n 3, 1) := dk_29 (dk_at dksX0_look_5 10 rfl rfl)
theorem dX0_look_127 : decode cX0_look 127 = .ok (.invokevirtual 333, 3) := dk_182 1 77 (dk_at dksX0_look_5 11 rfl rfl)
theorem dX0_look_130 : decode cX0_look 130 = .ok (.if_icmp .ge 7, 3) := dk_162 0 7 (dk_at dksX0_look_5 14 rfl rfl)
theorem dX0_look_133 : decode cX0_look 133 = .ok (.iload 5, 2) := dk_21 5 (dk_at dksX0_look_5 17 rfl rfl)
theorem dX0_look_135 : decode cX0_look 135 = .ok (.istore 4, 2) := dk_54 4 (dk_at dksX0_look_5 19 rfl rfl)
theorem dX0_look_137 : decode cX0_look 137 = .ok (.iinc 5 1, 3) := dk_132 5 1 (dk_at dksX0_look_5 21 rfl rfl)
theorem dX0_look_140 : decode cX0_look 140 = .ok (.goto (-36), 3) := dk_167 255 220 (dk_at dksX0_look_6 0 rfl rfl)
theorem dX0_look_143 : decode cX0_look 143 = .ok (.iload_n 2, 1) := dk_28 (dk_at dksX0_look_6 3 rfl rfl)
theorem dX0_look_144 : decode cX0_look 144 = .ok (.ifCond .ne 8, 3) := dk_154 0 8 (dk_at dksX0_look_6 4 rfl rfl)
theorem dX0_look_147 : decode cX0_look 147 = .ok (.iload 4, 2) := dk_21 4 (dk_at dksX0_look_6 7 rfl rfl)
theorem dX0_look_149 : decode cX0_look 149 = .ok (.goto 10, 3) := dk_167 0 10 (dk_at dksX0_look_6 9 rfl rfl)
theorem dX0_look_152 : decode cX0_look 152 = .ok (.aload_n 0, 1) := dk_42 (dk_at dksX0_look_6 12 rfl rfl)
theorem dX0_look_153 : decode cX0_look 153 = .ok (.iload 4, 2) := dk_21 4 (dk_at dksX0_look_6 13 rfl rfl)
theorem dX0_look_155 : decode cX0_look 155 = .ok (.iload_n 3, 1) := dk_29 (dk_at dksX0_look_6 15 rfl rfl)
theorem dX0_look_156 : decode cX0_look 156 = .ok (.invokevirtual 333, 3) := dk_182 1 77 (dk_at dksX0_look_6 16 rfl rfl)
theorem dX0_look_159 : decode cX0_look 159 = .ok (.ireturn, 1) := dk_172 (dk_at dksX0_look_6 19 rfl rfl)
abbrev cX0_mostAlike : ByteArray := prog_1_method_60_code
def yX0_mostAlike : MethodName := ⟨RX0, "mostAlike", "(II)I"⟩
def dkwX0_mostAlike_1 : List UInt8 := [62, 132, 4, 1, 167, 255, 233, 29, 28, 29, 100, 184, 1, 51, 172]
abbrev dktX0_mostAlike_1 : List UInt8 := dkwX0_mostAlike_1 ++ []
def dkwX0_mostAlike_0 : List UInt8 := [3, 62, 3, 54, 4, 21, 4, 28, 162, 0, 23, 29, 42, 180, 0, 103, 21, 4, 46, 27, 122, 4, 126, 96]
abbrev dktX0_mostAlike_0 : List UInt8 := dkwX0_mostAlike_0 ++ dktX0_mostAlike_1
theorem dksX0_mostAlike_0 : cX0_mostAlike.data.toList.drop 0 = dktX0_mostAlike_0 := by decide +kernel
theorem dksX0_mostAlike_1 : cX0_mostAlike.data.toList.drop 24 = dktX0_mostAlike_1 := dk_seg dksX0_mostAlike_0 24 rfl rfl
theorem dX0_mostAlike_0 : decode cX0_mostAlike 0 = .ok (.iconst 0, 1) := dk_3 (dk_at dksX0_mostAlike_0 0 rfl rfl)
theorem dX0_mostAlike_1 : decode cX0_mostAlike 1 = .ok (.istore_n 3, 1) := dk_62 (dk_at dksX0_mostAlike_0 1 rfl rfl)
theorem dX0_mostAlike_2 : decode cX0_mostAlike 2 = .ok (.iconst 0, 1) := dk_3 (dk_at dksX0_mostAlike_0 2 rfl rfl)
theorem dX0_mostAlike_3 : decode cX0_mostAlike 3 = .ok (.istore 4, 2) := dk_54 4 (dk_at dksX0_mostAlike_0 3 rfl rfl)
theorem dX0_mostAlike_5 : decode cX0_mostAlike 5 = .ok (.iload 4, 2) := dk_21 4 (dk_at dksX0_mostAlike_0 5 rfl rfl)
theorem dX0_mostAlike_7 : decode cX0_mostAlike 7 = .ok (.iload_n 2, 1) := dk_28 (dk_at dksX0_mostAlike_0 7 rfl rfl)
theorem dX0_mostAlike_8 : decode cX0_mostAlike 8 = .ok (.if_icmp .ge 23, 3) := dk_162 0 23 (dk_at dksX0_mostAlike_0 8 rfl rfl)
theorem dX0_mostAlike_11 : decode cX0_mostAlike 11 = .ok (.iload_n 3, 1) := dk_29 (dk_at dksX0_mostAlike_0 11 rfl rfl)
theorem dX0_mostAlike_12 : decode cX0_mostAlike 12 = .ok (.aload_n 0, 1) := dk_42 (dk_at dksX0_mostAlike_0 12 rfl rfl)
theorem dX0_mostAlike_13 : decode cX0_mostAlike 13 = .ok (.getfield 103, 3) := dk_180 0 103 (dk_at dksX0_mostAlike_0 13 rfl rfl)
theorem dX0_mostAlike_16 : decode cX0_mostAlike 16 = .ok (.iload 4, 2) := dk_21 4 (dk_at dksX0_mostAlike_0 16 rfl rfl)
theorem dX0_mostAlike_18 : decode cX0_mostAlike 18 = .ok (.iaload, 1) := dk_46 (dk_at dksX0_mostAlike_0 18 rfl rfl)
theorem dX0_mostAlike_19 : decode cX0_mostAlike 19 = .ok (.iload_n 1, 1) := dk_27 (dk_at dksX0_mostAlike_0 19 rfl rfl)
theorem dX0_mostAlike_20 : decode cX0_mostAlike 20 = .ok (.ishr, 1) := dk_122 (dk_at dksX0_mostAlike_0 20 rfl rfl)
theorem dX0_mostAlike_21 : decode cX0_mostAlike 21 = .ok (.iconst 1, 1) := dk_4 (dk_at dksX0_mostAlike_0 21 rfl rfl)
theorem dX0_mostAlike_22 : decode cX0_mostAlike 22 = .ok (.iand, 1) := dk_126 (dk_at dksX0_mostAlike_0 22 rfl rfl)
theorem dX0_mostAlike_23 : decode cX0_mostAlike 23 = .ok (.iadd, 1) := dk_96 (dk_at dksX0_mostAlike_0 23 rfl rfl)
theorem dX0_mostAlike_24 : decode cX0_mostAlike 24 = .ok (.istore_n 3, 1) := dk_62 (dk_at dksX0_mostAlike_1 0 rfl rfl)
theorem dX0_mostAlike_25 : decode cX0_mostAlike 25 = .ok (.iinc 4 1, 3) := dk_132 4 1 (dk_at dksX0_mostAlike_1 1 rfl rfl)
theorem dX0_mostAlike_28 : decode cX0_mostAlike 28 = .ok (.goto (-23), 3) := dk_167 255 233 (dk_at dksX0_mostAlike_1 4 rfl rfl)
theorem dX0_mostAlike_31 : decode cX0_mostAlike 31 = .ok (.iload_n 3, 1) := dk_29 (dk_at dksX0_mostAlike_1 7 rfl rfl)
theorem dX0_mostAlike_32 : decode cX0_mostAlike 32 = .ok (.iload_n 2, 1) := dk_28 (dk_at dksX0_mostAlike_1 8 rfl rfl)
theorem dX0_mostAlike_33 : decode cX0_mostAlike 33 = .ok (.iload_n 3, 1) := dk_29 (dk_at dksX0_mostAlike_1 9 rfl rfl)
theorem dX0_mostAlike_34 : decode cX0_mostAlike 34 = .ok (.isub, 1) := dk_100 (dk_at dksX0_mostAlike_1 10 rfl rfl)
theorem dX0_mostAlike_35 : decode cX0_mostAlike 35 = .ok (.invokestatic 307, 3) := dk_184 1 51 (dk_at dksX0_mostAlike_1 11 rfl rfl)
theorem dX0_mostAlike_38 : decode cX0_mostAlike 38 = .ok (.ireturn, 1) := dk_172 (dk_at dksX0_mostAlike_1 14 rfl rfl)
abbrev cX0_seed : ByteArray := prog_1_method_62_code
def yX0_seed : MethodName := ⟨RX0, "seed", "(I)I"⟩
def dkwX0_seed_0 : List UInt8 := [27, 156, 0, 5, 2, 172, 42, 180, 1, 80, 61, 42, 27, 181, 1, 80, 28, 172]
abbrev dktX0_seed_0 : List UInt8 := dkwX0_seed_0 ++ []
theorem dksX0_seed_0 : cX0_seed.data.toList.drop 0 = dktX0_seed_0 := by decide +kernel
theorem dX0_seed_0 : decode cX0_seed 0 = .ok (.iload_n 1, 1) := dk_27 (dk_at dksX0_seed_0 0 rfl rfl)
theorem dX0_seed_1 : decode cX0_seed 1 = .ok (.ifCond .ge 5, 3) := dk_156 0 5 (dk_at dksX0_seed_0 1 rfl rfl)
theorem dX0_seed_4 : decode cX0_seed 4 = .ok (.iconst (-1), 1) := dk_2 (dk_at dksX0_seed_0 4 rfl rfl)
theorem dX0_seed_5 : decode cX0_seed 5 = .ok (.ireturn, 1) := dk_172 (dk_at dksX0_seed_0 5 rfl rfl)
theorem dX0_seed_6 : decode cX0_seed 6 = .ok (.aload_n 0, 1) := dk_42 (dk_at dksX0_seed_0 6 rfl rfl)
theorem dX0_seed_7 : decode cX0_seed 7 = .ok (.getfield 336, 3) := dk_180 1 80 (dk_at dksX0_seed_0 7 rfl rfl)
theorem dX0_seed_10 : decode cX0_seed 10 = .ok (.istore_n 2, 1) := dk_61 (dk_at dksX0_seed_0 10 rfl rfl)
theorem dX0_seed_11 : decode cX0_seed 11 = .ok (.aload_n 0, 1) := dk_42 (dk_at dksX0_seed_0 11 rfl rfl)
theorem dX0_seed_12 : decode cX0_seed 12 = .ok (.iload_n 1, 1) := dk_27 (dk_at dksX0_seed_0 12 rfl rfl)
theorem dX0_seed_13 : decode cX0_seed 13 = .ok (.putfield 336, 3) := dk_181 1 80 (dk_at dksX0_seed_0 13 rfl rfl)
theorem dX0_seed_16 : decode cX0_seed 16 = .ok (.iload_n 2, 1) := dk_28 (dk_at dksX0_seed_0 16 rfl rfl)
theorem dX0_seed_17 : decode cX0_seed 17 = .ok (.ireturn, 1) := dk_172 (dk_at dksX0_seed_0 17 rfl rfl)
abbrev cX0_frost : ByteArray := prog_1_method_65_code
def yX0_frost : MethodName := ⟨RX0, "frost", "(IIII)I"⟩
def dkwX0_frost_8 : List UInt8 := [21, 5, 181, 1, 80, 21, 4, 154, 0, 8, 21, 6, 167, 0, 5, 21, 7, 172]
abbrev dktX0_frost_8 : List UInt8 := dkwX0_frost_8 ++ []
def dkwX0_frost_7 : List UInt8 := [180, 0, 23, 42, 180, 0, 23, 180, 0, 176, 182, 1, 62, 96, 54, 7, 132, 8, 1, 167, 255, 143, 42]
abbrev dktX0_frost_7 : List UInt8 := dkwX0_frost_7 ++ dktX0_frost_8
def dkwX0_frost_6 : List UInt8 := [132, 9, 1, 167, 255, 203, 21, 6, 42, 180, 0, 23, 180, 0, 127, 184, 0, 186, 96, 54, 6, 21, 7, 42]
abbrev dktX0_frost_6 : List UInt8 := dkwX0_frost_6 ++ dktX0_frost_7
def dkwX0_frost_5 : List UInt8 := [42, 42, 42, 180, 0, 10, 182, 0, 115, 182, 1, 92, 182, 1, 95, 42, 42, 180, 0, 23, 182, 0, 219, 87]
abbrev dktX0_frost_5 : List UInt8 := dkwX0_frost_5 ++ dktX0_frost_6
def dkwX0_frost_4 : List UInt8 := [28, 162, 0, 53, 42, 16, 100, 182, 1, 92, 29, 162, 0, 28, 42, 180, 0, 10, 182, 0, 115, 158, 0, 18]
abbrev dktX0_frost_4 : List UInt8 := dkwX0_frost_4 ++ dktX0_frost_5
def dkwX0_frost_3 : List UInt8 := [54, 8, 21, 8, 27, 162, 0, 113, 42, 180, 0, 23, 42, 180, 0, 19, 182, 0, 225, 3, 54, 9, 21, 9]
abbrev dktX0_frost_3 : List UInt8 := dkwX0_frost_3 ++ dktX0_frost_4
def dkwX0_frost_2 : List UInt8 := [9, 10, 184, 0, 119, 154, 0, 5, 2, 172, 42, 180, 1, 80, 54, 5, 3, 54, 6, 3, 54, 7, 3]
abbrev dktX0_frost_2 : List UInt8 := dkwX0_frost_2 ++ dktX0_frost_3
def dkwX0_frost_1 : List UInt8 := [20, 1, 66, 184, 0, 119, 153, 0, 26, 29, 133, 9, 20, 1, 44, 184, 0, 119, 153, 0, 14, 21, 4, 133]
abbrev dktX0_frost_1 : List UInt8 := dkwX0_frost_1 ++ dktX0_frost_2
def dkwX0_frost_0 : List UInt8 := [42, 182, 0, 235, 153, 0, 50, 27, 133, 10, 20, 1, 90, 184, 0, 119, 153, 0, 38, 28, 133, 10]
abbrev dktX0_frost_0 : List UInt8 := dkwX0_frost_0 ++ dktX0_frost_1
theorem dksX0_frost_0 : cX0_frost.data.toList.drop 0 = dktX0_frost_0 := by decide +kernel
theorem dksX0_frost_1 : cX0_frost.data.toList.drop 22 = dktX0_frost_1 := dk_seg dksX0_frost_0 22 rfl rfl
theorem dksX0_frost_2 : cX0_frost.data.toList.drop 46 = dktX0_frost_2 := dk_seg dksX0_frost_1 24 rfl rfl
theorem dksX0_frost_3 : cX0_frost.data.toList.drop 69 = dktX0_frost_3 := dk_seg dksX0_frost_2 23 rfl rfl
theorem dksX0_frost_4 : cX0_frost.data.toList.drop 93 = dktX0_frost_4 := dk_seg dksX0_frost_3 24 rfl rfl
theorem dksX0_frost_5 : cX0_frost.data.toList.drop 117 = dktX0_frost_5 := dk_seg dksX0_frost_4 24 rfl rfl
theorem dksX0_frost_6 : cX0_frost.data.toList.drop 141 = dktX0_frost_6 := dk_seg dksX0_frost_5 24 rfl rfl
theorem dksX0_frost_7 : cX0_frost.data.toList.drop 165 = dktX0_frost_7 := dk_seg dksX0_frost_6 24 rfl rfl
theorem dksX0_frost_8 : cX0_frost.data.toList.drop 188 = dktX0_frost_8 := dk_seg dksX0_frost_7 23 rfl rfl
theorem dX0_frost_0 : decode cX0_frost 0 = .ok (.aload_n 0, 1) := dk_42 (dk_at dksX0_frost_0 0 rfl rfl)
theorem dX0_frost_1 : decode cX0_frost 1 = .ok (.invokevirtual 235, 3) := dk_182 0 235 (dk_at dksX0_frost_0 1 rfl rfl)
theorem dX0_frost_4 : decode cX0_frost 4 = .ok (.ifCond .eq 50, 3) := dk_153 0 50 (dk_at dksX0_frost_0 4 rfl rfl)
theorem dX0_frost_7 : decode cX0_frost 7 = .ok (.iload_n 1, 1) := dk_27 (dk_at dksX0_frost_0 7 rfl rfl)
theorem dX0_frost_8 : decode cX0_frost 8 = .ok (.i2l, 1) := dk_133 (dk_at dksX0_frost_0 8 rfl rfl)
theorem dX0_frost_9 : decode cX0_frost 9 = .ok (.lconst 1, 1) := dk_10 (dk_at dksX0_frost_0 9 rfl rfl)
theorem dX0_frost_10 : decode cX0_frost 10 = .ok (.ldc2_w 346, 3) := dk_20 1 90 (dk_at dksX0_frost_0 10 rfl rfl)
theorem dX0_frost_13 : decode cX0_frost 13 = .ok (.invokestatic 119, 3) := dk_184 0 119 (dk_at dksX0_frost_0 13 rfl rfl)
theorem dX0_frost_16 : decode cX0_frost 16 = .ok (.ifCond .eq 38, 3) := dk_153 0 38 (dk_at dksX0_frost_0 16 rfl rfl)
theorem dX0_frost_19 : decode cX0_frost 19 = .ok (.iload_n 2, 1) := dk_28 (dk_at dksX0_frost_0 19 rfl rfl)
theorem dX0_frost_20 : decode cX0_frost 20 = .ok (.i2l, 1) := dk_133 (dk_at dksX0_frost_0 20 rfl rfl)
theorem dX0_frost_21 : decode cX0_frost 21 = .ok (.lconst 1, 1) := dk_10 (dk_at dksX0_frost_0 21 rfl rfl)
theorem dX0_frost_22 : decode cX0_frost 22 = .ok (.ldc2_w 322, 3) := dk_20 1 66 (dk_at dksX0_frost_1 0 rfl rfl)
theorem dX0_frost_25 : decode cX0_frost 25 = .ok (.invokestatic 119, 3) := dk_184 0 119 (dk_at dksX0_frost_1 3 rfl rfl)
theorem dX0_frost_28 : decode cX0_frost 28 = .ok (.ifCond .eq 26, 3) := dk_153 0 26 (dk_at dksX0_frost_1 6 rfl rfl)
theorem dX0_frost_31 : decode cX0_frost 31 = .ok (.iload_n 3, 1) := dk_29 (dk_at dksX0_frost_1 9 rfl rfl)
theorem dX0_frost_32 : decode cX0_frost 32 = .ok (.i2l, 1) := dk_133 (dk_at dksX0_frost_1 10 rfl rfl)
theorem dX0_frost_33 : decode cX0_frost 33 = .ok (.lconst 0, 1) := dk_9 (dk_at dksX0_frost_1 11 rfl rfl)
theorem dX0_frost_34 : decode cX0_frost 34 = .ok (.ldc2_w 300, 3) := dk_20 1 44 (dk_at dksX0_frost_1 12 rfl rfl)
theorem dX0_frost_37 : decode cX0_frost 37 = .ok (.invokestatic 119, 3) := dk_184 0 119 (dk_at dksX0_frost_1 15 rfl rfl)
theorem dX0_frost_40 : decode cX0_frost 40 = .ok (.ifCond .eq 14, 3) := dk_153 0 14 (dk_at dksX0_frost_1 18 rfl rfl)
theorem dX0_frost_43 : decode cX0_frost 43 = .ok (.iload 4, 2) := dk_21 4 (dk_at dksX0_frost_1 21 rfl rfl)
theorem dX0_frost_45 : decode cX0_frost 45 = .ok (.i2l, 1) := dk_133 (dk_at dksX0_frost_1 23 rfl rfl)
theorem dX0_frost_46 : decode cX0_frost 46 = .ok (.lconst 0, 1) := dk_9 (dk_at dksX0_frost_2 0 rfl rfl)
theorem dX0_frost_47 : decode cX0_frost 47 = .ok (.lconst 1, 1) := dk_10 (dk_at dksX0_frost_2 1 rfl rfl)
theorem dX0_frost_48 : decode cX0_frost 48 = .ok (.invokestatic 119, 3) := dk_184 0 119 (dk_at dksX0_frost_2 2 rfl rfl)
theorem dX0_frost_51 : decode cX0_frost 51 = .ok (.ifCond .ne 5, 3) := dk_154 0 5 (dk_at dksX0_frost_2 5 rfl rfl)
theorem dX0_frost_54 : decode cX0_frost 54 = .ok (.iconst (-1), 1) := dk_2 (dk_at dksX0_frost_2 8 rfl rfl)
theorem dX0_frost_55 : decode cX0_frost 55 = .ok (.ireturn, 1) := dk_172 (dk_at dksX0_frost_2 9 rfl rfl)
theorem dX0_frost_56 : decode cX0_frost 56 = .ok (.aload_n 0, 1) := dk_42 (dk_at dksX0_frost_2 10 rfl rfl)
theorem dX0_frost_57 : decode cX0_frost 57 = .ok (.getfield 336, 3) := dk_180 1 80 (dk_at dksX0_frost_2 11 rfl rfl)
theorem dX0_frost_60 : decode cX0_frost 60 = .ok (.istore 5, 2) := dk_54 5 (dk_at dksX0_frost_2 14 rfl rfl)
theorem dX0_frost_62 : decode cX0_frost 62 = .ok (.iconst 0, 1) := dk_3 (dk_at dksX0_frost_2 16 rfl rfl)
theorem dX0_frost_63 : decode cX0_frost 63 = .ok (.istore 6, 2) := dk_54 6 (dk_at dksX0_frost_2 17 rfl rfl)
theorem dX0_frost_65 : decode cX0_frost 65 = .ok (.iconst 0, 1) := dk_3 (dk_at dksX0_frost_2 19 rfl rfl)
theorem dX0_frost_66 : decode cX0_frost 66 = .ok (.istore 7, 2) := dk_54 7 (dk_at dksX0_frost_2 20 rfl rfl)
theorem dX0_frost_68 : decode cX0_frost 68 = .ok (.iconst 0, 1) := dk_3 (dk_at dksX0_frost_2 22 rfl rfl)
theorem dX0_frost_69 : decode cX0_frost 69 = .ok (.istore 8, 2) := dk_54 8 (dk_at dksX0_frost_3 0 rfl rfl)
theorem dX0_frost_71 : decode cX0_frost 71 = .ok (.iload 8, 2) := dk_21 8 (dk_at dksX0_frost_3 2 rfl rfl)
theorem dX0_frost_73 : decode cX0_frost 73 = .ok (.iload_n 1, 1) := dk_27 (dk_at dksX0_frost_3 4 rfl rfl)
theorem dX0_frost_74 : decode cX0_frost 74 = .ok (.if_icmp .ge 113, 3) := dk_162 0 113 (dk_at dksX0_frost_3 5 rfl rfl)
theorem dX0_frost_77 : decode cX0_frost 77 = .ok (.aload_n 0, 1) := dk_42 (dk_at dksX0_frost_3 8 rfl rfl)
theorem dX0_frost_78 : decode cX0_frost 78 = .ok (.getfield 23, 3) := dk_180 0 23 (dk_at dksX0_frost_3 9 rfl rfl)
theorem dX0_frost_81 : decode cX0_frost 81 = .ok (.aload_n 0, 1) := dk_42 (dk_at dksX0_frost_3 12 rfl rfl)
theorem dX0_frost_82 : decode cX0_frost 82 = .ok (.getfield 19, 3) := dk_180 0 19 (dk_at dksX0_frost_3 13 rfl rfl)
theorem dX0_frost_85 : decode cX0_frost 85 = .ok (.invokevirtual 225, 3) := dk_182 0 225 (dk_at dksX0_frost_3 16 rfl rfl)
theorem dX0_frost_88 : decode cX0_frost 88 = .ok (.iconst 0, 1) := dk_3 (dk_at dksX0_frost_3 19 rfl rfl)
theorem dX0_frost_89 : decode cX0_frost 89 = .ok (.istore 9, 2) := dk_54 9 (dk_at dksX0_frost_3 20 rfl rfl)
theorem dX0_frost_91 : decode cX0_frost 91 = .ok (.iload 9, 2) := dk_21 9 (dk_at dksX0_frost_3 22 rfl rfl)
theorem dX0_frost_93 : decode cX0_frost 93 = .ok (.iload_n 2, 1) := dk_28 (dk_at dksX0_frost_4 0 rfl rfl)
theorem dX0_frost_94 : decode cX0_frost 94 = .ok (.if_icmp .ge 53, 3) := dk_162 0 53 (dk_at dksX0_frost_4 1 rfl rfl)
theorem dX0_frost_97 : decode cX0_frost 97 = .ok (.aload_n 0, 1) := dk_42 (dk_at dksX0_frost_4 4 rfl rfl)
theorem dX0_frost_98 : decode cX0_frost 98 = .ok (.bipush 100, 2) := dk_16 100 (dk_at dksX0_frost_4 5 rfl rfl)
theorem dX0_frost_100 : decode cX0_frost 100 = .ok (.invokevirtual 348, 3) := dk_182 1 92 (dk_at dksX0_frost_4 7 rfl rfl)
theorem dX0_frost_103 : decode cX0_frost 103 = .ok (.iload_n 3, 1) := dk_29 (dk_at dksX0_frost_4 10 rfl rfl)
theorem dX0_frost_104 : decode cX0_frost 104 = .ok (.if_icmp .ge 28, 3) := dk_162 0 28 (dk_at dksX0_frost_4 11 rfl rfl)
theorem dX0_frost_107 : decode cX0_frost 107 = .ok (.aload_n 0, 1) := dk_42 (dk_at dksX0_frost_4 14 rfl rfl)
theorem dX0_frost_108 : decode cX0_frost 108 = .ok (.getfield 10, 3) := dk_180 0 10 (dk_at dksX0_frost_4 15 rfl rfl)
theorem dX0_frost_111 : decode cX0_frost 111 = .ok (.invokevirtual 115, 3) := dk_182 0 115 (dk_at dksX0_frost_4 18 rfl rfl)
theorem dX0_frost_114 : decode cX0_frost 114 = .ok (.ifCond .le 18, 3) := dk_158 0 18 (dk_at dksX0_frost_4 21 rfl rfl)
theorem dX0_frost_117 : decode cX0_frost 117 = .ok (.aload_n 0, 1) := dk_42 (dk_at dksX0_frost_5 0 rfl rfl)
theorem dX0_frost_118 : decode cX0_frost 118 = .ok (.aload_n 0, 1) := dk_42 (dk_at dksX0_frost_5 1 rfl rfl)
theorem dX0_frost_119 : decode cX0_frost 119 = .ok (.aload_n 0, 1) := dk_42 (dk_at dksX0_frost_5 2 rfl rfl)
theorem dX0_frost_120 : decode cX0_frost 120 = .ok (.getfield 10, 3) := dk_180 0 10 (dk_at dksX0_frost_5 3 rfl rfl)
theorem dX0_frost_123 : decode cX0_frost 123 = .ok (.invokevirtual 115, 3) := dk_182 0 115 (dk_at dksX0_frost_5 6 rfl rfl)
theorem dX0_frost_126 : decode cX0_frost 126 = .ok (.invokevirtual 348, 3) := dk_182 1 92 (dk_at dksX0_frost_5 9 rfl rfl)
theorem dX0_frost_129 : decode cX0_frost 129 = .ok (.invokevirtual 351, 3) := dk_182 1 95 (dk_at dksX0_frost_5 12 rfl rfl)
theorem dX0_frost_132 : decode cX0_frost 132 = .ok (.aload_n 0, 1) := dk_42 (dk_at dksX0_frost_5 15 rfl rfl)
theorem dX0_frost_133 : decode cX0_frost 133 = .ok (.aload_n 0, 1) := dk_42 (dk_at dksX0_frost_5 16 rfl rfl)
theorem dX0_frost_134 : decode cX0_frost 134 = .ok (.getfield 23, 3) := dk_180 0 23 (dk_at dksX0_frost_5 17 rfl rfl)
theorem dX0_frost_137 : decode cX0_frost 137 = .ok (.invokevirtual 219, 3) := dk_182 0 219 (dk_at dksX0_frost_5 20 rfl rfl)
theorem dX0_frost_140 : decode cX0_frost 140 = .ok (.pop, 1) := dk_87 (dk_at dksX0_frost_5 23 rfl rfl)
theorem dX0_frost_141 : decode cX0_frost 141 = .ok (.iinc 9 1, 3) := dk_132 9 1 (dk_at dksX0_frost_6 0 rfl rfl)
theorem dX0_frost_144 : decode cX0_frost 144 = .ok (.goto (-53), 3) := dk_167 255 203 (dk_at dksX0_frost_6 3 rfl rfl)
theorem dX0_frost_147 : decode cX0_frost 147 = .ok (.iload 6, 2) := dk_21 6 (dk_at dksX0_frost_6 6 rfl rfl)
theorem dX0_frost_149 : decode cX0_frost 149 = .ok (.aload_n 0, 1) := dk_42 (dk_at dksX0_frost_6 8 rfl rfl)
theorem dX0_frost_150 : decode cX0_frost 150 = .ok (.getfield 23, 3) := dk_180 0 23 (dk_at dksX0_frost_6 9 rfl rfl)
theorem dX0_frost_153 : decode cX0_frost 153 = .ok (.getfield 127, 3) := dk_180 0 127 (dk_at dksX0_frost_6 12 rfl rfl)
theorem dX0_frost_156 : decode cX0_frost 156 = .ok (.invokestatic 186, 3) := dk_184 0 186 (dk_at dksX0_frost_6 15 rfl rfl)
theorem dX0_frost_159 : decode cX0_frost 159 = .ok (.iadd, 1) := dk_96 (dk_at dksX0_frost_6 18 rfl rfl)
theorem dX0_frost_160 : decode cX0_frost 160 = .ok (.istore 6, 2) := dk_54 6 (dk_at dksX0_frost_6 19 rfl rfl)
theorem dX0_frost_162 : decode cX0_frost 162 = .ok (.iload 7, 2) := dk_21 7 (dk_at dksX0_frost_6 21 rfl rfl)
theorem dX0_frost_164 : decode cX0_frost 164 = .ok (.aload_n 0, 1) := dk_42 (dk_at dksX0_frost_6 23 rfl rfl)
theorem dX0_frost_165 : decode cX0_frost 165 = .ok (.getfield 23, 3) := dk_180 0 23 (dk_at dksX0_frost_7 0 rfl rfl)
theorem dX0_frost_168 : decode cX0_frost 168 = .ok (.aload_n 0, 1) := dk_42 (dk_at dksX0_frost_7 3 rfl rfl)
theorem dX0_frost_169 : decode cX0_frost 169 = .ok (.getfield 23, 3) := dk_180 0 23 (dk_at dksX0_frost_7 4 rfl rfl)
theorem dX0_frost_172 : decode cX0_frost 172 = .ok (.getfield 176, 3) := dk_180 0 176 (dk_at dksX0_frost_7 7 rfl rfl)
theorem dX0_frost_175 : decode cX0_frost 175 = .ok (.invokevirtual 318, 3) := dk_182 1 62 (dk_at dksX0_frost_7 10 rfl rfl)
theorem dX0_frost_178 : decode cX0_frost 178 = .ok (.iadd, 1) := dk_96 (dk_at dksX0_frost_7 13 rfl rfl)
theorem dX0_frost_179 : decode cX0_frost 179 = .ok (.istore 7, 2) := dk_54 7 (dk_at dksX0_frost_7 14 rfl rfl)
theorem dX0_frost_181 : decode cX0_frost 181 = .ok (.iinc 8 1, 3) := dk_132 8 1 (dk_at dksX0_frost_7 16 rfl rfl)
theorem dX0_frost_184 : decode cX0_frost 184 = .ok (.goto (-113), 3) := dk_167 255 143 (dk_at dksX0_frost_7 19 rfl rfl)
theorem dX0_frost_187 : decode cX0_frost 187 = .ok (.aload_n 0, 1) := dk_42 (dk_at dksX0_frost_7 22 rfl rfl)
theorem dX0_frost_188 : decode cX0_frost 188 = .ok (.iload 5, 2) := dk_21 5 (dk_at dksX0_frost_8 0 rfl rfl)
theorem dX0_frost_190 : decode cX0_frost 190 = .ok (.putfield 336, 3) := dk_181 1 80 (dk_at dksX0_frost_8 2 rfl rfl)
theorem dX0_frost_193 : decode cX0_frost 193 = .ok (.iload 4, 2) := dk_21 4 (dk_at dksX0_frost_8 5 rfl rfl)
theorem dX0_frost_195 : decode cX0_frost 195 = .ok (.ifCond .ne 8, 3) := dk_154 0 8 (dk_at dksX0_frost_8 7 rfl rfl)
theorem dX0_frost_198 : decode cX0_frost 198 = .ok (.iload 6, 2) := dk_21 6 (dk_at dksX0_frost_8 10 rfl rfl)
theorem dX0_frost_200 : decode cX0_frost 200 = .ok (.goto 5, 3) := dk_167 0 5 (dk_at dksX0_frost_8 12 rfl rfl)
theorem dX0_frost_203 : decode cX0_frost 203 = .ok (.iload 7, 2) := dk_21 7 (dk_at dksX0_frost_8 15 rfl rfl)
theorem dX0_frost_205 : decode cX0_frost 205 = .ok (.ireturn, 1) := dk_172 (dk_at dksX0_frost_8 17 rfl rfl)
abbrev cX0_draws : ByteArray := prog_1_method_63_code
def yX0_draws : MethodName := ⟨RX0, "draws", "(I)I"⟩
def dkwX0_draws_1 : List UInt8 := [180, 1, 80, 19, 1, 89, 108, 27, 112, 172]
abbrev dktX0_draws_1 : List UInt8 := dkwX0_draws_1 ++ []
def dkwX0_draws_0 : List UInt8 := [42, 42, 180, 1, 80, 133, 20, 1, 83, 105, 20, 1, 85, 97, 20, 1, 87, 113, 136, 181, 1, 80, 42]
abbrev dktX0_draws_0 : List UInt8 := dkwX0_draws_0 ++ dktX0_draws_1
theorem dksX0_draws_0 : cX0_draws.data.toList.drop 0 = dktX0_draws_0 := by decide +kernel
theorem dksX0_draws_1 : cX0_draws.data.toList.drop 23 = dktX0_draws_1 := dk_seg dksX0_draws_0 23 rfl rfl
theorem dX0_draws_0 : decode cX0_draws 0 = .ok (.aload_n 0, 1) := dk_42 (dk_at dksX0_draws_0 0 rfl rfl)
theorem dX0_draws_1 : decode cX0_draws 1 = .ok (.aload_n 0, 1) := dk_42 (dk_at dksX0_draws_0 1 rfl rfl)
theorem dX0_draws_2 : decode cX0_draws 2 = .ok (.getfield 336, 3) := dk_180 1 80 (dk_at dksX0_draws_0 2 rfl rfl)
theorem dX0_draws_5 : decode cX0_draws 5 = .ok (.i2l, 1) := dk_133 (dk_at dksX0_draws_0 5 rfl rfl)
theorem dX0_draws_6 : decode cX0_draws 6 = .ok (.ldc2_w 339, 3) := dk_20 1 83 (dk_at dksX0_draws_0 6 rfl rfl)
theorem dX0_draws_9 : decode cX0_draws 9 = .ok (.lmul, 1) := dk_105 (dk_at dksX0_draws_0 9 rfl rfl)
theorem dX0_draws_10 : decode cX0_draws 10 = .ok (.ldc2_w 341, 3) := dk_20 1 85 (dk_at dksX0_draws_0 10 rfl rfl)
theorem dX0_draws_13 : decode cX0_draws 13 = .ok (.ladd, 1) := dk_97 (dk_at dksX0_draws_0 13 rfl rfl)
theorem dX0_draws_14 : decode cX0_draws 14 = .ok (.ldc2_w 343, 3) := dk_20 1 87 (dk_at dksX0_draws_0 14 rfl rfl)
theorem dX0_draws_17 : decode cX0_draws 17 = .ok (.lrem, 1) := dk_113 (dk_at dksX0_draws_0 17 rfl rfl)
theorem dX0_draws_18 : decode cX0_draws 18 = .ok (.l2i, 1) := dk_136 (dk_at dksX0_draws_0 18 rfl rfl)
theorem dX0_draws_19 : decode cX0_draws 19 = .ok (.putfield 336, 3) := dk_181 1 80 (dk_at dksX0_draws_0 19 rfl rfl)
theorem dX0_draws_22 : decode cX0_draws 22 = .ok (.aload_n 0, 1) := dk_42 (dk_at dksX0_draws_0 22 rfl rfl)
theorem dX0_draws_23 : decode cX0_draws 23 = .ok (.getfield 336, 3) := dk_180 1 80 (dk_at dksX0_draws_1 0 rfl rfl)
theorem dX0_draws_26 : decode cX0_draws 26 = .ok (.ldc_w 345, 3) := dk_19 1 89 (dk_at dksX0_draws_1 3 rfl rfl)
theorem dX0_draws_29 : decode cX0_draws 29 = .ok (.idiv, 1) := dk_108 (dk_at dksX0_draws_1 6 rfl rfl)
theorem dX0_draws_30 : decode cX0_draws 30 = .ok (.iload_n 1, 1) := dk_27 (dk_at dksX0_draws_1 7 rfl rfl)
theorem dX0_draws_31 : decode cX0_draws 31 = .ok (.irem, 1) := dk_112 (dk_at dksX0_draws_1 8 rfl rfl)
theorem dX0_draws_32 : decode cX0_draws 32 = .ok (.ireturn, 1) := dk_172 (dk_at dksX0_draws_1 9 rfl rfl)
abbrev cX0_freezes : ByteArray := prog_1_method_64_code
def yX0_freezes : MethodName := ⟨RX0, "freezes", "(I)V"⟩
def dkwX0_freezes_2 : List UInt8 := [79, 177]
abbrev dktX0_freezes_2 : List UInt8 := dkwX0_freezes_2 ++ []
def dkwX0_freezes_1 : List UInt8 := [180, 0, 23, 180, 0, 170, 27, 46, 4, 100, 42, 180, 0, 23, 180, 0, 176, 27, 46, 6, 96, 184, 0, 229]
abbrev dktX0_freezes_1 : List UInt8 := dkwX0_freezes_1 ++ dktX0_freezes_2
def dkwX0_freezes_0 : List UInt8 := [42, 180, 0, 23, 180, 0, 127, 27, 184, 0, 130, 153, 0, 37, 42, 180, 0, 23, 180, 0, 176, 27, 42]
abbrev dktX0_freezes_0 : List UInt8 := dkwX0_freezes_0 ++ dktX0_freezes_1
theorem dksX0_freezes_0 : cX0_freezes.data.toList.drop 0 = dktX0_freezes_0 := by decide +kernel
theorem dksX0_freezes_1 : cX0_freezes.data.toList.drop 23 = dktX0_freezes_1 := dk_seg dksX0_freezes_0 23 rfl rfl
theorem dksX0_freezes_2 : cX0_freezes.data.toList.drop 47 = dktX0_freezes_2 := dk_seg dksX0_freezes_1 24 rfl rfl
theorem dX0_freezes_0 : decode cX0_freezes 0 = .ok (.aload_n 0, 1) := dk_42 (dk_at dksX0_freezes_0 0 rfl rfl)
theorem dX0_freezes_1 : decode cX0_freezes 1 = .ok (.getfield 23, 3) := dk_180 0 23 (dk_at dksX0_freezes_0 1 rfl rfl)
theorem dX0_freezes_4 : decode cX0_freezes 4 = .ok (.getfield 127, 3) := dk_180 0 127 (dk_at dksX0_freezes_0 4 rfl rfl)
theorem dX0_freezes_7 : decode cX0_freezes 7 = .ok (.iload_n 1, 1) := dk_27 (dk_at dksX0_freezes_0 7 rfl rfl)
theorem dX0_freezes_8 : decode cX0_freezes 8 = .ok (.invokestatic 130, 3) := dk_184 0 130 (dk_at dksX0_freezes_0 8 rfl rfl)
theorem dX0_freezes_11 : decode cX0_freezes 11 = .ok (.ifCond .eq 37, 3) := dk_153 0 37 (dk_at dksX0_freezes_0 11 rfl rfl)
theorem dX0_freezes_14 : decode cX0_freezes 14 = .ok (.aload_n 0, 1) := dk_42 (dk_at dksX0_freezes_0 14 rfl rfl)
theorem dX0_freezes_15 : decode cX0_freezes 15 = .ok (.getfield 23, 3) := dk_180 0 23 (dk_at dksX0_freezes_0 15 rfl rfl)
theorem dX0_freezes_18 : decode cX0_freezes 18 = .ok (.getfield 176, 3) := dk_180 0 176 (dk_at dksX0_freezes_0 18 rfl rfl)
theorem dX0_freezes_21 : decode cX0_freezes 21 = .ok (.iload_n 1, 1) := dk_27 (dk_at dksX0_freezes_0 21 rfl rfl)
theorem dX0_freezes_22 : decode cX0_freezes 22 = .ok (.aload_n 0, 1) := dk_42 (dk_at dksX0_freezes_0 22 rfl rfl)
theorem dX0_freezes_23 : decode cX0_freezes 23 = .ok (.getfield 23, 3) := dk_180 0 23 (dk_at dksX0_freezes_1 0 rfl rfl)
theorem dX0_freezes_26 : decode cX0_freezes 26 = .ok (.getfield 170, 3) := dk_180 0 170 (dk_at dksX0_freezes_1 3 rfl rfl)
theorem dX0_freezes_29 : decode cX0_freezes 29 = .ok (.iload_n 1, 1) := dk_27 (dk_at dksX0_freezes_1 6 rfl rfl)
theorem dX0_freezes_30 : decode cX0_freezes 30 = .ok (.iaload, 1) := dk_46 (dk_at dksX0_freezes_1 7 rfl rfl)
theorem dX0_freezes_31 : decode cX0_freezes 31 = .ok (.iconst 1, 1) := dk_4 (dk_at dksX0_freezes_1 8 rfl rfl)
theorem dX0_freezes_32 : decode cX0_freezes 32 = .ok (.isub, 1) := dk_100 (dk_at dksX0_freezes_1 9 rfl rfl)
theorem dX0_freezes_33 : decode cX0_freezes 33 = .ok (.aload_n 0, 1) := dk_42 (dk_at dksX0_freezes_1 10 rfl rfl)
theorem dX0_freezes_34 : decode cX0_freezes 34 = .ok (.getfield 23, 3) := dk_180 0 23 (dk_at dksX0_freezes_1 11 rfl rfl)
theorem dX0_freezes_37 : decode cX0_freezes 37 = .ok (.getfield 176, 3) := dk_180 0 176 (dk_at dksX0_freezes_1 14 rfl rfl)
theorem dX0_freezes_40 : decode cX0_freezes 40 = .ok (.iload_n 1, 1) := dk_27 (dk_at dksX0_freezes_1 17 rfl rfl)
theorem dX0_freezes_41 : decode cX0_freezes 41 = .ok (.iaload, 1) := dk_46 (dk_at dksX0_freezes_1 18 rfl rfl)
theorem dX0_freezes_42 : decode cX0_freezes 42 = .ok (.iconst 3, 1) := dk_6 (dk_at dksX0_freezes_1 19 rfl rfl)
theorem dX0_freezes_43 : decode cX0_freezes 43 = .ok (.iadd, 1) := dk_96 (dk_at dksX0_freezes_1 20 rfl rfl)
theorem dX0_freezes_44 : decode cX0_freezes 44 = .ok (.invokestatic 229, 3) := dk_184 0 229 (dk_at dksX0_freezes_1 21 rfl rfl)
theorem dX0_freezes_47 : decode cX0_freezes 47 = .ok (.iastore, 1) := dk_79 (dk_at dksX0_freezes_2 0 rfl rfl)
theorem dX0_freezes_48 : decode cX0_freezes 48 = .ok (.return_, 1) := dk_177 (dk_at dksX0_freezes_2 1 rfl rfl)
abbrev cX0_count : ByteArray := prog_1_method_66_code
def yX0_count : MethodName := ⟨RX0, "count", "(I)I"⟩
def dkwX0_count_6 : List UInt8 := [180, 0, 137, 172, 2, 172]
abbrev dktX0_count_6 : List UInt8 := dkwX0_count_6 ++ []
def dkwX0_count_5 : List UInt8 := [180, 0, 176, 182, 1, 62, 172, 42, 180, 0, 156, 172, 42, 180, 0, 159, 172, 42, 180, 1, 80, 172, 42]
abbrev dktX0_count_5 : List UInt8 := dkwX0_count_5 ++ dktX0_count_6
def dkwX0_count_4 : List UInt8 := [180, 0, 19, 42, 180, 0, 19, 180, 0, 179, 182, 1, 62, 172, 42, 180, 0, 19, 42, 180, 0, 19]
abbrev dktX0_count_4 : List UInt8 := dkwX0_count_4 ++ dktX0_count_5
def dkwX0_count_3 : List UInt8 := [42, 180, 0, 35, 172, 42, 180, 0, 19, 180, 0, 192, 172, 42, 180, 0, 19, 180, 0, 127, 172, 42]
abbrev dktX0_count_3 : List UInt8 := dkwX0_count_3 ++ dktX0_count_4
def dkwX0_count_2 : List UInt8 := [42, 180, 0, 10, 180, 0, 112, 172, 42, 180, 0, 10, 182, 0, 115, 172, 42, 180, 0, 31, 182, 0, 162, 172]
abbrev dktX0_count_2 : List UInt8 := dkwX0_count_2 ++ dktX0_count_3
def dkwX0_count_1 : List UInt8 := [170, 0, 0, 0, 0, 0, 158, 0, 0, 0, 0, 0, 0, 0, 11, 0, 0, 0, 63, 0, 0, 0, 71, 0, 0, 0, 79, 0, 0, 0, 87, 0, 0, 0, 92, 0, 0, 0, 100, 0, 0, 0, 108, 0, 0, 0, 123, 0, 0, 0, 138, 0, 0, 0, 143, 0, 0, 0, 148, 0, 0, 0, 153]
abbrev dktX0_count_1 : List UInt8 := dkwX0_count_1 ++ dktX0_count_2
def dkwX0_count_0 : List UInt8 := [27]
abbrev dktX0_count_0 : List UInt8 := dkwX0_count_0 ++ dktX0_count_1
theorem dksX0_count_0 : cX0_count.data.toList.drop 0 = dktX0_count_0 := by decide +kernel
theorem dksX0_count_1 : cX0_count.data.toList.drop 1 = dktX0_count_1 := dk_seg dksX0_count_0 1 rfl rfl
theorem dksX0_count_2 : cX0_count.data.toList.drop 64 = dktX0_count_2 := dk_seg dksX0_count_1 63 rfl rfl
theorem dksX0_count_3 : cX0_count.data.toList.drop 88 = dktX0_count_3 := dk_seg dksX0_count_2 24 rfl rfl
theorem dksX0_count_4 : cX0_count.data.toList.drop 110 = dktX0_count_4 := dk_seg dksX0_count_3 22 rfl rfl
theorem dksX0_count_5 : cX0_count.data.toList.drop 132 = dktX0_count_5 := dk_seg dksX0_count_4 22 rfl rfl
theorem dksX0_count_6 : cX0_count.data.toList.drop 155 = dktX0_count_6 := dk_seg dksX0_count_5 23 rfl rfl
theorem dX0_count_0 : decode cX0_count 0 = .ok (.iload_n 1, 1) := dk_27 (dk_at dksX0_count_0 0 rfl rfl)
theorem dX0_count_1 : decode cX0_count 1 = .ok (.tableswitch 158 0 11 #[63, 71, 79, 87, 92, 100, 108, 123, 138, 143, 148, 153], 63) := by decide +kernel
theorem dX0_count_64 : decode cX0_count 64 = .ok (.aload_n 0, 1) := dk_42 (dk_at dksX0_count_2 0 rfl rfl)
theorem dX0_count_65 : decode cX0_count 65 = .ok (.getfield 10, 3) := dk_180 0 10 (dk_at dksX0_count_2 1 rfl rfl)
theorem dX0_count_68 : decode cX0_count 68 = .ok (.getfield 112, 3) := dk_180 0 112 (dk_at dksX0_count_2 4 rfl rfl)
theorem dX0_count_71 : decode cX0_count 71 = .ok (.ireturn, 1) := dk_172 (dk_at dksX0_count_2 7 rfl rfl)
theorem dX0_count_72 : decode cX0_count 72 = .ok (.aload_n 0, 1) := dk_42 (dk_at dksX0_count_2 8 rfl rfl)
theorem dX0_count_73 : decode cX0_count 73 = .ok (.getfield 10, 3) := dk_180 0 10 (dk_at dksX0_count_2 9 rfl rfl)
theorem dX0_count_76 : decode cX0_count 76 = .ok (.invokevirtual 115, 3) := dk_182 0 115 (dk_at dksX0_count_2 12 rfl rfl)
theorem dX0_count_79 : decode cX0_count 79 = .ok (.ireturn, 1) := dk_172 (dk_at dksX0_count_2 15 rfl rfl)
theorem dX0_count_80 : decode cX0_count 80 = .ok (.aload_n 0, 1) := dk_42 (dk_at dksX0_count_2 16 rfl rfl)
theorem dX0_count_81 : decode cX0_count 81 = .ok (.getfield 31, 3) := dk_180 0 31 (dk_at dksX0_count_2 17 rfl rfl)
theorem dX0_count_84 : decode cX0_count 84 = .ok (.invokevirtual 162, 3) := dk_182 0 162 (dk_at dksX0_count_2 20 rfl rfl)
theorem dX0_count_87 : decode cX0_count 87 = .ok (.ireturn, 1) := dk_172 (dk_at dksX0_count_2 23 rfl rfl)
theorem dX0_count_88 : decode cX0_count 88 = .ok (.aload_n 0, 1) := dk_42 (dk_at dksX0_count_3 0 rfl rfl)
theorem dX0_count_89 : decode cX0_count 89 = .ok (.getfield 35, 3) := dk_180 0 35 (dk_at dksX0_count_3 1 rfl rfl)
theorem dX0_count_92 : decode cX0_count 92 = .ok (.ireturn, 1) := dk_172 (dk_at dksX0_count_3 4 rfl rfl)
theorem dX0_count_93 : decode cX0_count 93 = .ok (.aload_n 0, 1) := dk_42 (dk_at dksX0_count_3 5 rfl rfl)
theorem dX0_count_94 : decode cX0_count 94 = .ok (.getfield 19, 3) := dk_180 0 19 (dk_at dksX0_count_3 6 rfl rfl)
theorem dX0_count_97 : decode cX0_count 97 = .ok (.getfield 192, 3) := dk_180 0 192 (dk_at dksX0_count_3 9 rfl rfl)
theorem dX0_count_100 : decode cX0_count 100 = .ok (.ireturn, 1) := dk_172 (dk_at dksX0_count_3 12 rfl rfl)
theorem dX0_count_101 : decode cX0_count 101 = .ok (.aload_n 0, 1) := dk_42 (dk_at dksX0_count_3 13 rfl rfl)
theorem dX0_count_102 : decode cX0_count 102 = .ok (.getfield 19, 3) := dk_180 0 19 (dk_at dksX0_count_3 14 rfl rfl)
theorem dX0_count_105 : decode cX0_count 105 = .ok (.getfield 127, 3) := dk_180 0 127 (dk_at dksX0_count_3 17 rfl rfl)
theorem dX0_count_108 : decode cX0_count 108 = .ok (.ireturn, 1) := dk_172 (dk_at dksX0_count_3 20 rfl rfl)
theorem dX0_count_109 : decode cX0_count 109 = .ok (.aload_n 0, 1) := dk_42 (dk_at dksX0_count_3 21 rfl rfl)
theorem dX0_count_110 : decode cX0_count 110 = .ok (.getfield 19, 3) := dk_180 0 19 (dk_at dksX0_count_4 0 rfl rfl)
theorem dX0_count_113 : decode cX0_count 113 = .ok (.aload_n 0, 1) := dk_42 (dk_at dksX0_count_4 3 rfl rfl)
theorem dX0_count_114 : decode cX0_count 114 = .ok (.getfield 19, 3) := dk_180 0 19 (dk_at dksX0_count_4 4 rfl rfl)
theorem dX0_count_117 : decode cX0_count 117 = .ok (.getfield 179, 3) := dk_180 0 179 (dk_at dksX0_count_4 7 rfl rfl)
theorem dX0_count_120 : decode cX0_count 120 = .ok (.invokevirtual 318, 3) := dk_182 1 62 (dk_at dksX0_count_4 10 rfl rfl)
theorem dX0_count_123 : decode cX0_count 123 = .ok (.ireturn, 1) := dk_172 (dk_at dksX0_count_4 13 rfl rfl)
theorem dX0_count_124 : decode cX0_count 124 = .ok (.aload_n 0, 1) := dk_42 (dk_at dksX0_count_4 14 rfl rfl)
theorem dX0_count_125 : decode cX0_count 125 = .ok (.getfield 19, 3) := dk_180 0 19 (dk_at dksX0_count_4 15 rfl rfl)
theorem dX0_count_128 : decode cX0_count 128 = .ok (.aload_n 0, 1) := dk_42 (dk_at dksX0_count_4 18 rfl rfl)
theorem dX0_count_129 : decode cX0_count 129 = .ok (.getfield 19, 3) := dk_180 0 19 (dk_at dksX0_count_4 19 rfl rfl)
theorem dX0_count_132 : decode cX0_count 132 = .ok (.getfield 176, 3) := dk_180 0 176 (dk_at dksX0_count_5 0 rfl rfl)
theorem dX0_count_135 : decode cX0_count 135 = .ok (.invokevirtual 318, 3) := dk_182 1 62 (dk_at dksX0_count_5 3 rfl rfl)
theorem dX0_count_138 : decode cX0_count 138 = .ok (.ireturn, 1) := dk_172 (dk_at dksX0_count_5 6 rfl rfl)
theorem dX0_count_139 : decode cX0_count 139 = .ok (.aload_n 0, 1) := dk_42 (dk_at dksX0_count_5 7 rfl rfl)
theorem dX0_count_140 : decode cX0_count 140 = .ok (.getfield 156, 3) := dk_180 0 156 (dk_at dksX0_count_5 8 rfl rfl)
theorem dX0_count_143 : decode cX0_count 143 = .ok (.ireturn, 1) := dk_172 (dk_at dksX0_count_5 11 rfl rfl)
theorem dX0_count_144 : decode cX0_count 144 = .ok (.aload_n 0, 1) := dk_42 (dk_at dksX0_count_5 12 rfl rfl)
theorem dX0_count_145 : decode cX0_count 145 = .ok (.getfield 159, 3) := dk_180 0 159 (dk_at dksX0_count_5 13 rfl rfl)
theorem dX0_count_148 : decode cX0_count 148 = .ok (.ireturn, 1) := dk_172 (dk_at dksX0_count_5 16 rfl rfl)
theorem dX0_count_149 : decode cX0_count 149 = .ok (.aload_n 0, 1) := dk_42 (dk_at dksX0_count_5 17 rfl rfl)
theorem dX0_count_150 : decode cX0_count 150 = .ok (.getfield 336, 3) := dk_180 1 80 (dk_at dksX0_count_5 18 rfl rfl)
theorem dX0_count_153 : decode cX0_count 153 = .ok (.ireturn, 1) := dk_172 (dk_at dksX0_count_5 21 rfl rfl)
theorem dX0_count_154 : decode cX0_count 154 = .ok (.aload_n 0, 1) := dk_42 (dk_at dksX0_count_5 22 rfl rfl)
theorem dX0_count_155 : decode cX0_count 155 = .ok (.getfield 137, 3) := dk_180 0 137 (dk_at dksX0_count_6 0 rfl rfl)
theorem dX0_count_158 : decode cX0_count 158 = .ok (.ireturn, 1) := dk_172 (dk_at dksX0_count_6 3 rfl rfl)
theorem dX0_count_159 : decode cX0_count 159 = .ok (.iconst (-1), 1) := dk_2 (dk_at dksX0_count_6 4 rfl rfl)
theorem dX0_count_160 : decode cX0_count 160 = .ok (.ireturn, 1) := dk_172 (dk_at dksX0_count_6 5 rfl rfl)
abbrev cX0_image : ByteArray := prog_1_method_67_code
def yX0_image : MethodName := ⟨RX0, "image", "(I)I"⟩
def dkwX0_image_2 : List UInt8 := [180, 0, 19, 180, 0, 192, 172]
abbrev dktX0_image_2 : List UInt8 := dkwX0_image_2 ++ []
def dkwX0_image_1 : List UInt8 := [180, 0, 108, 27, 187, 0, 106, 89, 42, 183, 1, 100, 83, 42, 180, 0, 108, 27, 50, 182, 1, 103, 42]
abbrev dktX0_image_1 : List UInt8 := dkwX0_image_1 ++ dktX0_image_2
def dkwX0_image_0 : List UInt8 := [27, 133, 9, 20, 1, 98, 184, 0, 119, 154, 0, 5, 2, 172, 42, 180, 0, 108, 27, 50, 199, 0, 17, 42]
abbrev dktX0_image_0 : List UInt8 := dkwX0_image_0 ++ dktX0_image_1
theorem dksX0_image_0 : cX0_image.data.toList.drop 0 = dktX0_image_0 := by decide +kernel
theorem dksX0_image_1 : cX0_image.data.toList.drop 24 = dktX0_image_1 := dk_seg dksX0_image_0 24 rfl rfl
theorem dksX0_image_2 : cX0_image.data.toList.drop 47 = dktX0_image_2 := dk_seg dksX0_image_1 23 rfl rfl
theorem dX0_image_0 : decode cX0_image 0 = .ok (.iload_n 1, 1) := dk_27 (dk_at dksX0_image_0 0 rfl rfl)
theorem dX0_image_1 : decode cX0_image 1 = .ok (.i2l, 1) := dk_133 (dk_at dksX0_image_0 1 rfl rfl)
theorem dX0_image_2 : decode cX0_image 2 = .ok (.lconst 0, 1) := dk_9 (dk_at dksX0_image_0 2 rfl rfl)
theorem dX0_image_3 : decode cX0_image 3 = .ok (.ldc2_w 354, 3) := dk_20 1 98 (dk_at dksX0_image_0 3 rfl rfl)
theorem dX0_image_6 : decode cX0_image 6 = .ok (.invokestatic 119, 3) := dk_184 0 119 (dk_at dksX0_image_0 6 rfl rfl)
theorem dX0_image_9 : decode cX0_image 9 = .ok (.ifCond .ne 5, 3) := dk_154 0 5 (dk_at dksX0_image_0 9 rfl rfl)
theorem dX0_image_12 : decode cX0_image 12 = .ok (.iconst (-1), 1) := dk_2 (dk_at dksX0_image_0 12 rfl rfl)
theorem dX0_image_13 : decode cX0_image 13 = .ok (.ireturn, 1) := dk_172 (dk_at dksX0_image_0 13 rfl rfl)
theorem dX0_image_14 : decode cX0_image 14 = .ok (.aload_n 0, 1) := dk_42 (dk_at dksX0_image_0 14 rfl rfl)
theorem dX0_image_15 : decode cX0_image 15 = .ok (.getfield 108, 3) := dk_180 0 108 (dk_at dksX0_image_0 15 rfl rfl)
theorem dX0_image_18 : decode cX0_image 18 = .ok (.iload_n 1, 1) := dk_27 (dk_at dksX0_image_0 18 rfl rfl)
theorem dX0_image_19 : decode cX0_image 19 = .ok (.aaload, 1) := dk_50 (dk_at dksX0_image_0 19 rfl rfl)
theorem dX0_image_20 : decode cX0_image 20 = .ok (.ifnonnull 17, 3) := dk_199 0 17 (dk_at dksX0_image_0 20 rfl rfl)
theorem dX0_image_23 : decode cX0_image 23 = .ok (.aload_n 0, 1) := dk_42 (dk_at dksX0_image_0 23 rfl rfl)
theorem dX0_image_24 : decode cX0_image 24 = .ok (.getfield 108, 3) := dk_180 0 108 (dk_at dksX0_image_1 0 rfl rfl)
theorem dX0_image_27 : decode cX0_image 27 = .ok (.iload_n 1, 1) := dk_27 (dk_at dksX0_image_1 3 rfl rfl)
theorem dX0_image_28 : decode cX0_image 28 = .ok (.new 106, 3) := dk_187 0 106 (dk_at dksX0_image_1 4 rfl rfl)
theorem dX0_image_31 : decode cX0_image 31 = .ok (.dup, 1) := dk_89 (dk_at dksX0_image_1 7 rfl rfl)
theorem dX0_image_32 : decode cX0_image 32 = .ok (.aload_n 0, 1) := dk_42 (dk_at dksX0_image_1 8 rfl rfl)
theorem dX0_image_33 : decode cX0_image 33 = .ok (.invokespecial 356, 3) := dk_183 1 100 (dk_at dksX0_image_1 9 rfl rfl)
theorem dX0_image_36 : decode cX0_image 36 = .ok (.aastore, 1) := dk_83 (dk_at dksX0_image_1 12 rfl rfl)
theorem dX0_image_37 : decode cX0_image 37 = .ok (.aload_n 0, 1) := dk_42 (dk_at dksX0_image_1 13 rfl rfl)
theorem dX0_image_38 : decode cX0_image 38 = .ok (.getfield 108, 3) := dk_180 0 108 (dk_at dksX0_image_1 14 rfl rfl)
theorem dX0_image_41 : decode cX0_image 41 = .ok (.iload_n 1, 1) := dk_27 (dk_at dksX0_image_1 17 rfl rfl)
theorem dX0_image_42 : decode cX0_image 42 = .ok (.aaload, 1) := dk_50 (dk_at dksX0_image_1 18 rfl rfl)
theorem dX0_image_43 : decode cX0_image 43 = .ok (.invokevirtual 359, 3) := dk_182 1 103 (dk_at dksX0_image_1 19 rfl rfl)
theorem dX0_image_46 : decode cX0_image 46 = .ok (.aload_n 0, 1) := dk_42 (dk_at dksX0_image_1 22 rfl rfl)
theorem dX0_image_47 : decode cX0_image 47 = .ok (.getfield 19, 3) := dk_180 0 19 (dk_at dksX0_image_2 0 rfl rfl)
theorem dX0_image_50 : decode cX0_image 50 = .ok (.getfield 192, 3) := dk_180 0 192 (dk_at dksX0_image_2 3 rfl rfl)
theorem dX0_image_53 : decode cX0_image 53 = .ok (.ireturn, 1) := dk_172 (dk_at dksX0_image_2 6 rfl rfl)
abbrev cX0_back : ByteArray := prog_1_method_68_code
def yX0_back : MethodName := ⟨RX0, "back", "(I)I"⟩
def dkwX0_back_1 : List UInt8 := [180, 0, 108, 27, 50, 182, 1, 106, 42, 180, 0, 19, 180, 0, 192, 172]
abbrev dktX0_back_1 : List UInt8 := dkwX0_back_1 ++ []
def dkwX0_back_0 : List UInt8 := [27, 133, 9, 20, 1, 98, 184, 0, 119, 153, 0, 12, 42, 180, 0, 108, 27, 50, 199, 0, 5, 2, 172, 42]
abbrev dktX0_back_0 : List UInt8 := dkwX0_back_0 ++ dktX0_back_1
theorem dksX0_back_0 : cX0_back.data.toList.drop 0 = dktX0_back_0 := by decide +kernel
theorem dksX0_back_1 : cX0_back.data.toList.drop 24 = dktX0_back_1 := dk_seg dksX0_back_0 24 rfl rfl
theorem dX0_back_0 : decode cX0_back 0 = .ok (.iload_n 1, 1) := dk_27 (dk_at dksX0_back_0 0 rfl rfl)
theorem dX0_back_1 : decode cX0_back 1 = .ok (.i2l, 1) := dk_133 (dk_at dksX0_back_0 1 rfl rfl)
theorem dX0_back_2 : decode cX0_back 2 = .ok (.lconst 0, 1) := dk_9 (dk_at dksX0_back_0 2 rfl rfl)
theorem dX0_back_3 : decode cX0_back 3 = .ok (.ldc2_w 354, 3) := dk_20 1 98 (dk_at dksX0_back_0 3 rfl rfl)
theorem dX0_back_6 : decode cX0_back 6 = .ok (.invokestatic 119, 3) := dk_184 0 119 (dk_at dksX0_back_0 6 rfl rfl)
theorem dX0_back_9 : decode cX0_back 9 = .ok (.ifCond .eq 12, 3) := dk_153 0 12 (dk_at dksX0_back_0 9 rfl rfl)
theorem dX0_back_12 : decode cX0_back 12 = .ok (.aload_n 0, 1) := dk_42 (dk_at dksX0_back_0 12 rfl rfl)
theorem dX0_back_13 : decode cX0_back 13 = .ok (.getfield 108, 3) := dk_180 0 108 (dk_at dksX0_back_0 13 rfl rfl)
theorem dX0_back_16 : decode cX0_back 16 = .ok (.iload_n 1, 1) := dk_27 (dk_at dksX0_back_0 16 rfl rfl)
theorem dX0_back_17 : decode cX0_back 17 = .ok (.aaload, 1) := dk_50 (dk_at dksX0_back_0 17 rfl rfl)
theorem dX0_back_18 : decode cX0_back 18 = .ok (.ifnonnull 5, 3) := dk_199 0 5 (dk_at dksX0_back_0 18 rfl rfl)
theorem dX0_back_21 : decode cX0_back 21 = .ok (.iconst (-1), 1) := dk_2 (dk_at dksX0_back_0 21 rfl rfl)
theorem dX0_back_22 : decode cX0_back 22 = .ok (.ireturn, 1) := dk_172 (dk_at dksX0_back_0 22 rfl rfl)
theorem dX0_back_23 : decode cX0_back 23 = .ok (.aload_n 0, 1) := dk_42 (dk_at dksX0_back_0 23 rfl rfl)
theorem dX0_back_24 : decode cX0_back 24 = .ok (.getfield 108, 3) := dk_180 0 108 (dk_at dksX0_back_1 0 rfl rfl)
theorem dX0_back_27 : decode cX0_back 27 = .ok (.iload_n 1, 1) := dk_27 (dk_at dksX0_back_1 3 rfl rfl)
theorem dX0_back_28 : decode cX0_back 28 = .ok (.aaload, 1) := dk_50 (dk_at dksX0_back_1 4 rfl rfl)
theorem dX0_back_29 : decode cX0_back 29 = .ok (.invokevirtual 362, 3) := dk_182 1 106 (dk_at dksX0_back_1 5 rfl rfl)
theorem dX0_back_32 : decode cX0_back 32 = .ok (.aload_n 0, 1) := dk_42 (dk_at dksX0_back_1 8 rfl rfl)
theorem dX0_back_33 : decode cX0_back 33 = .ok (.getfield 19, 3) := dk_180 0 19 (dk_at dksX0_back_1 9 rfl rfl)
theorem dX0_back_36 : decode cX0_back 36 = .ok (.getfield 192, 3) := dk_180 0 192 (dk_at dksX0_back_1 12 rfl rfl)
theorem dX0_back_39 : decode cX0_back 39 = .ok (.ireturn, 1) := dk_172 (dk_at dksX0_back_1 15 rfl rfl)
theorem q127 : (Jvm.Cond.initialized "ConkerYard") ∈ lw_all := lw_g (lw_at lw_m1 1 rfl) rfl
theorem q162 : (Jvm.Cond.instantiable "ConkerYard" (29 : Nat)) ∈ lw_all := lw_g (lw_at lw_m1 36 rfl) rfl
theorem q164 : (Jvm.Cond.instanceMethod ({ cls := "ConkerYard", name := "<init>", desc := "()V" } : Jvm.MethodName)) ∈ lw_all := lw_g (lw_at lw_m1 38 rfl) rfl
theorem q165 : (Jvm.Cond.code ({ cls := "ConkerYard", name := "<init>", desc := "()V" } : Jvm.MethodName) prog_1_method_4_code (1 : Nat) (Option.none : Option Jvm.ClassFile.FieldType)) ∈ lw_all := lw_g (lw_at lw_m1 39 rfl) rfl
theorem q166 : (Jvm.Cond.methodLink "ConkerYard" (1 : Nat) ({ cls := "java/lang/Object", name := "<init>", desc := "()V" } : Jvm.MethodName)) ∈ lw_all := lw_g (lw_at lw_m1 40 rfl) rfl
theorem q169 : (Jvm.Cond.classLink "ConkerYard" (7 : Nat) "ConkerYard$Yard") ∈ lw_all := lw_g (lw_at lw_m1 43 rfl) rfl
theorem q171 : (Jvm.Cond.methodLinkNest "ConkerYard" (9 : Nat) ({ cls := "ConkerYard$Yard", name := "<init>", desc := "()V" } : Jvm.MethodName) "ConkerYard") ∈ lw_tbl := lw_at lw_m1 45 rfl
theorem q209 : (Jvm.Cond.fieldLinkNest "ConkerYard" (330 : Nat) "ConkerYard$Yard" "cracked" "[I" "ConkerYard") ∈ lw_tbl := lw_at lw_m1 83 rfl
theorem q210 : (Jvm.Cond.fieldLinkNest "ConkerYard" (112 : Nat) "ConkerYard$Yard" "strikes" "I" "ConkerYard") ∈ lw_tbl := lw_at lw_m1 84 rfl
theorem q220 : (Jvm.Cond.classLink "ConkerYard" (16 : Nat) "ConkerYard$State") ∈ lw_all := lw_g (lw_at lw_m1 94 rfl) rfl
theorem q222 : (Jvm.Cond.methodLinkNest "ConkerYard" (18 : Nat) ({ cls := "ConkerYard$State", name := "<init>", desc := "()V" } : Jvm.MethodName) "ConkerYard") ∈ lw_tbl := lw_at lw_m1 96 rfl
theorem q227 : (Jvm.Cond.fieldLinkNest "ConkerYard" (170 : Nat) "ConkerYard$State" "hard" "[I" "ConkerYard") ∈ lw_tbl := lw_at lw_m1 101 rfl
theorem q229 : (Jvm.Cond.fieldLinkNest "ConkerYard" (173 : Nat) "ConkerYard$State" "swing" "[I" "ConkerYard") ∈ lw_tbl := lw_at lw_m1 103 rfl
theorem q231 : (Jvm.Cond.fieldLinkNest "ConkerYard" (176 : Nat) "ConkerYard$State" "cracks" "[I" "ConkerYard") ∈ lw_tbl := lw_at lw_m1 105 rfl
theorem q233 : (Jvm.Cond.fieldLinkNest "ConkerYard" (179 : Nat) "ConkerYard$State" "score" "[I" "ConkerYard") ∈ lw_tbl := lw_at lw_m1 107 rfl
theorem q235 : (Jvm.Cond.fieldLinkNest "ConkerYard" (127 : Nat) "ConkerYard$State" "whole" "I" "ConkerYard") ∈ lw_tbl := lw_at lw_m1 109 rfl
theorem q237 : (Jvm.Cond.fieldLinkNest "ConkerYard" (192 : Nat) "ConkerYard$State" "round" "I" "ConkerYard") ∈ lw_tbl := lw_at lw_m1 111 rfl
theorem q251 : (Jvm.Cond.classLink "ConkerYard" (26 : Nat) "java/util/ArrayList") ∈ lw_all := lw_g (lw_at lw_m1 125 rfl) rfl
theorem q252 : (Jvm.Cond.methodLink "ConkerYard" (28 : Nat) ({ cls := "java/util/ArrayList", name := "<init>", desc := "(I)V" } : Jvm.MethodName)) ∈ lw_all := lw_g (lw_at lw_m1 126 rfl) rfl
theorem q253 : (Jvm.Cond.classLink "ConkerYard" (39 : Nat) "ConkerYard$Wrong") ∈ lw_all := lw_g (lw_at lw_m1 127 rfl) rfl
theorem q290 : (Jvm.Cond.methodLinkNest "ConkerYard" (41 : Nat) ({ cls := "ConkerYard$Wrong", name := "<init>", desc := "()V" } : Jvm.MethodName) "ConkerYard") ∈ lw_tbl := lw_at lw_m1 164 rfl
theorem q297 : (Jvm.Cond.fieldLinkNest "ConkerYard" (134 : Nat) "ConkerYard$Wrong" "number" "I" "ConkerYard") ∈ lw_tbl := lw_at lw_m1 171 rfl
theorem q312 : (Jvm.Cond.fieldLink "ConkerYard" (60 : Nat) "ConkerYard" "NAMES" "[Ljava/lang/String;") ∈ lw_all := lw_g (lw_at lw_m1 186 rfl) rfl
theorem q313 : (Jvm.Cond.laysStatic "ConkerYard" "NAMES" "[Ljava/lang/String;") ∈ lw_tbl := lw_at lw_m1 187 rfl
theorem q314 : (Jvm.Cond.methodLink "ConkerYard" (68 : Nat) ({ cls := "ConkerYard", name := "newStates", desc := "(I)[LConkerYard$State;" } : Jvm.MethodName)) ∈ lw_all := lw_g (lw_at lw_m1 188 rfl) rfl
theorem q315 : (Jvm.Cond.static ({ cls := "ConkerYard", name := "newStates", desc := "(I)[LConkerYard$State;" } : Jvm.MethodName)) ∈ lw_all := lw_g (lw_at lw_m1 189 rfl) rfl
theorem q316 : (Jvm.Cond.code ({ cls := "ConkerYard", name := "newStates", desc := "(I)[LConkerYard$State;" } : Jvm.MethodName) prog_1_method_20_code (3 : Nat) (Option.some (Jvm.ClassFile.FieldType.array (Jvm.ClassFile.FieldType.object "ConkerYard$State")))) ∈ lw_all := lw_g (lw_at lw_m1 190 rfl) rfl
theorem q318 : (Jvm.Cond.classLink "ConkerYard" (106 : Nat) "ConkerYard$Image") ∈ lw_all := lw_g (lw_at lw_m1 192 rfl) rfl
theorem q321 : (Jvm.Cond.fieldLink "ConkerYard" (10 : Nat) "ConkerYard" "yard" "LConkerYard$Yard;") ∈ lw_all := lw_g (lw_at lw_m1 195 rfl) rfl
theorem q323 : (Jvm.Cond.fieldLink "ConkerYard" (19 : Nat) "ConkerYard" "state" "LConkerYard$State;") ∈ lw_all := lw_g (lw_at lw_m1 197 rfl) rfl
theorem q324 : (Jvm.Cond.fieldLink "ConkerYard" (23 : Nat) "ConkerYard" "kept" "LConkerYard$State;") ∈ lw_all := lw_g (lw_at lw_m1 198 rfl) rfl
theorem q325 : (Jvm.Cond.fieldLink "ConkerYard" (31 : Nat) "ConkerYard" "rules" "Ljava/util/ArrayList;") ∈ lw_all := lw_g (lw_at lw_m1 199 rfl) rfl
theorem q328 : (Jvm.Cond.fieldLink "ConkerYard" (35 : Nat) "ConkerYard" "inForce" "I") ∈ lw_all := lw_g (lw_at lw_m1 202 rfl) rfl
theorem q329 : (Jvm.Cond.fieldLink "ConkerYard" (42 : Nat) "ConkerYard" "wrong" "LConkerYard$Wrong;") ∈ lw_all := lw_g (lw_at lw_m1 203 rfl) rfl
theorem q331 : (Jvm.Cond.fieldLink "ConkerYard" (46 : Nat) "ConkerYard" "tape" "[B") ∈ lw_all := lw_g (lw_at lw_m1 205 rfl) rfl
theorem q333 : (Jvm.Cond.fieldLink "ConkerYard" (137 : Nat) "ConkerYard" "taped" "I") ∈ lw_all := lw_g (lw_at lw_m1 207 rfl) rfl
theorem q335 : (Jvm.Cond.fieldLink "ConkerYard" (50 : Nat) "ConkerYard" "noteWhen" "[I") ∈ lw_all := lw_g (lw_at lw_m1 209 rfl) rfl
theorem q337 : (Jvm.Cond.fieldLink "ConkerYard" (54 : Nat) "ConkerYard" "noteWho" "[I") ∈ lw_all := lw_g (lw_at lw_m1 211 rfl) rfl
theorem q339 : (Jvm.Cond.fieldLink "ConkerYard" (57 : Nat) "ConkerYard" "noteWhole" "[I") ∈ lw_all := lw_g (lw_at lw_m1 213 rfl) rfl
theorem q341 : (Jvm.Cond.fieldLink "ConkerYard" (156 : Nat) "ConkerYard" "notes" "I") ∈ lw_all := lw_g (lw_at lw_m1 215 rfl) rfl
theorem q343 : (Jvm.Cond.fieldLink "ConkerYard" (336 : Nat) "ConkerYard" "draw" "I") ∈ lw_all := lw_g (lw_at lw_m1 217 rfl) rfl
theorem q344 : (Jvm.Cond.fieldLink "ConkerYard" (64 : Nat) "ConkerYard" "words" "[J") ∈ lw_all := lw_g (lw_at lw_m1 218 rfl) rfl
theorem q345 : (Jvm.Cond.fieldLink "ConkerYard" (72 : Nat) "ConkerYard" "past" "[LConkerYard$State;") ∈ lw_all := lw_g (lw_at lw_m1 219 rfl) rfl
theorem q347 : (Jvm.Cond.fieldLink "ConkerYard" (159 : Nat) "ConkerYard" "pastMany" "I") ∈ lw_all := lw_g (lw_at lw_m1 221 rfl) rfl
theorem q348 : (Jvm.Cond.fieldLink "ConkerYard" (222 : Nat) "ConkerYard" "pastAt" "I") ∈ lw_all := lw_g (lw_at lw_m1 222 rfl) rfl
theorem q349 : (Jvm.Cond.fieldLink "ConkerYard" (76 : Nat) "ConkerYard" "beaten" "[I") ∈ lw_all := lw_g (lw_at lw_m1 223 rfl) rfl
theorem q350 : (Jvm.Cond.fieldLink "ConkerYard" (79 : Nat) "ConkerYard" "lasts" "[I") ∈ lw_all := lw_g (lw_at lw_m1 224 rfl) rfl
theorem q351 : (Jvm.Cond.fieldLink "ConkerYard" (82 : Nat) "ConkerYard" "bouts" "[I") ∈ lw_all := lw_g (lw_at lw_m1 225 rfl) rfl
theorem q352 : (Jvm.Cond.fieldLink "ConkerYard" (85 : Nat) "ConkerYard" "cupsOf" "[I") ∈ lw_all := lw_g (lw_at lw_m1 226 rfl) rfl
theorem q353 : (Jvm.Cond.fieldLink "ConkerYard" (88 : Nat) "ConkerYard" "rungs" "[I") ∈ lw_all := lw_g (lw_at lw_m1 227 rfl) rfl
theorem q354 : (Jvm.Cond.fieldLink "ConkerYard" (91 : Nat) "ConkerYard" "bestRungs" "[I") ∈ lw_all := lw_g (lw_at lw_m1 228 rfl) rfl
theorem q355 : (Jvm.Cond.fieldLink "ConkerYard" (295 : Nat) "ConkerYard" "longest" "I") ∈ lw_all := lw_g (lw_at lw_m1 229 rfl) rfl
theorem q356 : (Jvm.Cond.fieldLink "ConkerYard" (94 : Nat) "ConkerYard" "firstHas" "[I") ∈ lw_all := lw_g (lw_at lw_m1 230 rfl) rfl
theorem q357 : (Jvm.Cond.fieldLink "ConkerYard" (97 : Nat) "ConkerYard" "secondHas" "[I") ∈ lw_all := lw_g (lw_at lw_m1 231 rfl) rfl
theorem q358 : (Jvm.Cond.fieldLink "ConkerYard" (100 : Nat) "ConkerYard" "course" "[I") ∈ lw_all := lw_g (lw_at lw_m1 232 rfl) rfl
theorem q359 : (Jvm.Cond.fieldLink "ConkerYard" (103 : Nat) "ConkerYard" "shows" "[I") ∈ lw_all := lw_g (lw_at lw_m1 233 rfl) rfl
theorem q360 : (Jvm.Cond.fieldLink "ConkerYard" (108 : Nat) "ConkerYard" "images" "[LConkerYard$Image;") ∈ lw_all := lw_g (lw_at lw_m1 234 rfl) rfl
theorem q361 : (Jvm.Cond.lays "ConkerYard" "ConkerYard" "yard" "LConkerYard$Yard;") ∈ lw_all := lw_g (lw_at lw_m1 235 rfl) rfl
theorem q362 : (Jvm.Cond.soleField "ConkerYard" "yard") ∈ lw_all := lw_g (lw_at lw_m1 236 rfl) rfl
theorem q363 : (Jvm.Cond.laysFinal "ConkerYard" "ConkerYard" "state" "LConkerYard$State;") ∈ lw_all := lw_g (lw_at lw_m1 237 rfl) rfl
theorem q364 : (Jvm.Cond.soleField "ConkerYard" "state") ∈ lw_all := lw_g (lw_at lw_m1 238 rfl) rfl
theorem q365 : (Jvm.Cond.laysFinal "ConkerYard" "ConkerYard" "kept" "LConkerYard$State;") ∈ lw_all := lw_g (lw_at lw_m1 239 rfl) rfl
theorem q366 : (Jvm.Cond.soleField "ConkerYard" "kept") ∈ lw_all := lw_g (lw_at lw_m2 0 rfl) rfl
theorem q367 : (Jvm.Cond.laysFinal "ConkerYard" "ConkerYard" "rules" "Ljava/util/ArrayList;") ∈ lw_all := lw_g (lw_at lw_m2 1 rfl) rfl
theorem q368 : (Jvm.Cond.soleField "ConkerYard" "rules") ∈ lw_all := lw_g (lw_at lw_m2 2 rfl) rfl
theorem q369 : (Jvm.Cond.lays "ConkerYard" "ConkerYard" "inForce" "I") ∈ lw_all := lw_g (lw_at lw_m2 3 rfl) rfl
theorem q370 : (Jvm.Cond.soleField "ConkerYard" "inForce") ∈ lw_all := lw_g (lw_at lw_m2 4 rfl) rfl
theorem q371 : (Jvm.Cond.laysFinal "ConkerYard" "ConkerYard" "wrong" "LConkerYard$Wrong;") ∈ lw_all := lw_g (lw_at lw_m2 5 rfl) rfl
theorem q372 : (Jvm.Cond.soleField "ConkerYard" "wrong") ∈ lw_all := lw_g (lw_at lw_m2 6 rfl) rfl
theorem q373 : (Jvm.Cond.laysFinal "ConkerYard" "ConkerYard" "tape" "[B") ∈ lw_all := lw_g (lw_at lw_m2 7 rfl) rfl
theorem q374 : (Jvm.Cond.soleField "ConkerYard" "tape") ∈ lw_all := lw_g (lw_at lw_m2 8 rfl) rfl
theorem q375 : (Jvm.Cond.lays "ConkerYard" "ConkerYard" "taped" "I") ∈ lw_all := lw_g (lw_at lw_m2 9 rfl) rfl
theorem q376 : (Jvm.Cond.soleField "ConkerYard" "taped") ∈ lw_all := lw_g (lw_at lw_m2 10 rfl) rfl
theorem q377 : (Jvm.Cond.laysFinal "ConkerYard" "ConkerYard" "noteWhen" "[I") ∈ lw_all := lw_g (lw_at lw_m2 11 rfl) rfl
theorem q378 : (Jvm.Cond.soleField "ConkerYard" "noteWhen") ∈ lw_all := lw_g (lw_at lw_m2 12 rfl) rfl
theorem q379 : (Jvm.Cond.laysFinal "ConkerYard" "ConkerYard" "noteWho" "[I") ∈ lw_all := lw_g (lw_at lw_m2 13 rfl) rfl
theorem q380 : (Jvm.Cond.soleField "ConkerYard" "noteWho") ∈ lw_all := lw_g (lw_at lw_m2 14 rfl) rfl
theorem q381 : (Jvm.Cond.laysFinal "ConkerYard" "ConkerYard" "noteWhole" "[I") ∈ lw_all := lw_g (lw_at lw_m2 15 rfl) rfl
theorem q382 : (Jvm.Cond.soleField "ConkerYard" "noteWhole") ∈ lw_all := lw_g (lw_at lw_m2 16 rfl) rfl
theorem q383 : (Jvm.Cond.lays "ConkerYard" "ConkerYard" "notes" "I") ∈ lw_all := lw_g (lw_at lw_m2 17 rfl) rfl
theorem q384 : (Jvm.Cond.soleField "ConkerYard" "notes") ∈ lw_all := lw_g (lw_at lw_m2 18 rfl) rfl
theorem q385 : (Jvm.Cond.lays "ConkerYard" "ConkerYard" "draw" "I") ∈ lw_all := lw_g (lw_at lw_m2 19 rfl) rfl
theorem q386 : (Jvm.Cond.soleField "ConkerYard" "draw") ∈ lw_all := lw_g (lw_at lw_m2 20 rfl) rfl
theorem q387 : (Jvm.Cond.laysFinal "ConkerYard" "ConkerYard" "words" "[J") ∈ lw_all := lw_g (lw_at lw_m2 21 rfl) rfl
theorem q388 : (Jvm.Cond.soleField "ConkerYard" "words") ∈ lw_all := lw_g (lw_at lw_m2 22 rfl) rfl
theorem q389 : (Jvm.Cond.laysFinal "ConkerYard" "ConkerYard" "past" "[LConkerYard$State;") ∈ lw_all := lw_g (lw_at lw_m2 23 rfl) rfl
theorem q390 : (Jvm.Cond.soleField "ConkerYard" "past") ∈ lw_all := lw_g (lw_at lw_m2 24 rfl) rfl
theorem q391 : (Jvm.Cond.lays "ConkerYard" "ConkerYard" "pastMany" "I") ∈ lw_all := lw_g (lw_at lw_m2 25 rfl) rfl
theorem q392 : (Jvm.Cond.soleField "ConkerYard" "pastMany") ∈ lw_all := lw_g (lw_at lw_m2 26 rfl) rfl
theorem q393 : (Jvm.Cond.lays "ConkerYard" "ConkerYard" "pastAt" "I") ∈ lw_all := lw_g (lw_at lw_m2 27 rfl) rfl
theorem q394 : (Jvm.Cond.soleField "ConkerYard" "pastAt") ∈ lw_all := lw_g (lw_at lw_m2 28 rfl) rfl
theorem q395 : (Jvm.Cond.laysFinal "ConkerYard" "ConkerYard" "beaten" "[I") ∈ lw_all := lw_g (lw_at lw_m2 29 rfl) rfl
theorem q396 : (Jvm.Cond.soleField "ConkerYard" "beaten") ∈ lw_all := lw_g (lw_at lw_m2 30 rfl) rfl
theorem q397 : (Jvm.Cond.laysFinal "ConkerYard" "ConkerYard" "lasts" "[I") ∈ lw_all := lw_g (lw_at lw_m2 31 rfl) rfl
theorem q398 : (Jvm.Cond.soleField "ConkerYard" "lasts") ∈ lw_all := lw_g (lw_at lw_m2 32 rfl) rfl
theorem q399 : (Jvm.Cond.laysFinal "ConkerYard" "ConkerYard" "bouts" "[I") ∈ lw_all := lw_g (lw_at lw_m2 33 rfl) rfl
theorem q400 : (Jvm.Cond.soleField "ConkerYard" "bouts") ∈ lw_all := lw_g (lw_at lw_m2 34 rfl) rfl
theorem q401 : (Jvm.Cond.laysFinal "ConkerYard" "ConkerYard" "cupsOf" "[I") ∈ lw_all := lw_g (lw_at lw_m2 35 rfl) rfl
theorem q402 : (Jvm.Cond.soleField "ConkerYard" "cupsOf") ∈ lw_all := lw_g (lw_at lw_m2 36 rfl) rfl
theorem q403 : (Jvm.Cond.laysFinal "ConkerYard" "ConkerYard" "rungs" "[I") ∈ lw_all := lw_g (lw_at lw_m2 37 rfl) rfl
theorem q404 : (Jvm.Cond.soleField "ConkerYard" "rungs") ∈ lw_all := lw_g (lw_at lw_m2 38 rfl) rfl
theorem q405 : (Jvm.Cond.laysFinal "ConkerYard" "ConkerYard" "bestRungs" "[I") ∈ lw_all := lw_g (lw_at lw_m2 39 rfl) rfl
theorem q406 : (Jvm.Cond.soleField "ConkerYard" "bestRungs") ∈ lw_all := lw_g (lw_at lw_m2 40 rfl) rfl
theorem q407 : (Jvm.Cond.lays "ConkerYard" "ConkerYard" "longest" "I") ∈ lw_all := lw_g (lw_at lw_m2 41 rfl) rfl
theorem q408 : (Jvm.Cond.soleField "ConkerYard" "longest") ∈ lw_all := lw_g (lw_at lw_m2 42 rfl) rfl
theorem q409 : (Jvm.Cond.laysFinal "ConkerYard" "ConkerYard" "firstHas" "[I") ∈ lw_all := lw_g (lw_at lw_m2 43 rfl) rfl
theorem q410 : (Jvm.Cond.soleField "ConkerYard" "firstHas") ∈ lw_all := lw_g (lw_at lw_m2 44 rfl) rfl
theorem q411 : (Jvm.Cond.laysFinal "ConkerYard" "ConkerYard" "secondHas" "[I") ∈ lw_all := lw_g (lw_at lw_m2 45 rfl) rfl
theorem q412 : (Jvm.Cond.soleField "ConkerYard" "secondHas") ∈ lw_all := lw_g (lw_at lw_m2 46 rfl) rfl
theorem q413 : (Jvm.Cond.laysFinal "ConkerYard" "ConkerYard" "course" "[I") ∈ lw_all := lw_g (lw_at lw_m2 47 rfl) rfl
theorem q414 : (Jvm.Cond.soleField "ConkerYard" "course") ∈ lw_all := lw_g (lw_at lw_m2 48 rfl) rfl
theorem q415 : (Jvm.Cond.laysFinal "ConkerYard" "ConkerYard" "shows" "[I") ∈ lw_all := lw_g (lw_at lw_m2 49 rfl) rfl
theorem q416 : (Jvm.Cond.soleField "ConkerYard" "shows") ∈ lw_all := lw_g (lw_at lw_m2 50 rfl) rfl
theorem q417 : (Jvm.Cond.laysFinal "ConkerYard" "ConkerYard" "images" "[LConkerYard$Image;") ∈ lw_all := lw_g (lw_at lw_m2 51 rfl) rfl
theorem q418 : (Jvm.Cond.soleField "ConkerYard" "images") ∈ lw_all := lw_g (lw_at lw_m2 52 rfl) rfl
theorem q419 : (Jvm.Cond.superclass "ConkerYard" "java/lang/Object") ∈ lw_all := lw_g (lw_at lw_m2 53 rfl) rfl
theorem q423 : (Jvm.Cond.instanceMethod ({ cls := "ConkerYard", name := "feed", desc := "(IIIII)I" } : Jvm.MethodName)) ∈ lw_all := lw_g (lw_at lw_m2 57 rfl) rfl
theorem q424 : (Jvm.Cond.selects "ConkerYard" ({ cls := "ConkerYard", name := "feed", desc := "(IIIII)I" } : Jvm.MethodName) ({ cls := "ConkerYard", name := "feed", desc := "(IIIII)I" } : Jvm.MethodName)) ∈ lw_all := lw_g (lw_at lw_m2 58 rfl) rfl
theorem q425 : (Jvm.Cond.code ({ cls := "ConkerYard", name := "feed", desc := "(IIIII)I" } : Jvm.MethodName) prog_1_method_9_code (6 : Nat) (Option.some Jvm.ClassFile.FieldType.int)) ∈ lw_all := lw_g (lw_at lw_m2 59 rfl) rfl
theorem q426 : (Jvm.Cond.methodLink "ConkerYard" (140 : Nat) ({ cls := "ConkerYard", name := "tapes", desc := "(I)V" } : Jvm.MethodName)) ∈ lw_all := lw_g (lw_at lw_m2 60 rfl) rfl
theorem q427 : (Jvm.Cond.privateMethod ({ cls := "ConkerYard", name := "tapes", desc := "(I)V" } : Jvm.MethodName)) ∈ lw_tbl := lw_at lw_m2 61 rfl
theorem q428 : (Jvm.Cond.instanceMethod ({ cls := "ConkerYard", name := "tapes", desc := "(I)V" } : Jvm.MethodName)) ∈ lw_all := lw_g (lw_at lw_m2 62 rfl) rfl
theorem q429 : (Jvm.Cond.code ({ cls := "ConkerYard", name := "tapes", desc := "(I)V" } : Jvm.MethodName) prog_1_method_10_code (3 : Nat) (Option.none : Option Jvm.ClassFile.FieldType)) ∈ lw_all := lw_g (lw_at lw_m2 63 rfl) rfl
theorem q431 : (Jvm.Cond.instanceMethod ({ cls := "ConkerYard", name := "end", desc := "(I)I" } : Jvm.MethodName)) ∈ lw_all := lw_g (lw_at lw_m2 65 rfl) rfl
theorem q432 : (Jvm.Cond.selects "ConkerYard" ({ cls := "ConkerYard", name := "end", desc := "(I)I" } : Jvm.MethodName) ({ cls := "ConkerYard", name := "end", desc := "(I)I" } : Jvm.MethodName)) ∈ lw_all := lw_g (lw_at lw_m2 66 rfl) rfl
theorem q433 : (Jvm.Cond.code ({ cls := "ConkerYard", name := "end", desc := "(I)I" } : Jvm.MethodName) prog_1_method_11_code (2 : Nat) (Option.some Jvm.ClassFile.FieldType.int)) ∈ lw_all := lw_g (lw_at lw_m2 67 rfl) rfl
theorem q435 : (Jvm.Cond.instanceMethod ({ cls := "ConkerYard", name := "yard", desc := "()I" } : Jvm.MethodName)) ∈ lw_all := lw_g (lw_at lw_m2 69 rfl) rfl
theorem q436 : (Jvm.Cond.selects "ConkerYard" ({ cls := "ConkerYard", name := "yard", desc := "()I" } : Jvm.MethodName) ({ cls := "ConkerYard", name := "yard", desc := "()I" } : Jvm.MethodName)) ∈ lw_all := lw_g (lw_at lw_m2 70 rfl) rfl
theorem q437 : (Jvm.Cond.codeWith ({ cls := "ConkerYard", name := "yard", desc := "()I" } : Jvm.MethodName) prog_1_method_12_code (4 : Nat) (Option.some Jvm.ClassFile.FieldType.int) [((0 : Nat), (49 : Nat), (56 : Nat), (39 : Nat)), ((0 : Nat), (49 : Nat), (72 : Nat), (0 : Nat)), ((56 : Nat), (65 : Nat), (72 : Nat), (0 : Nat))]) ∈ lw_all := lw_g (lw_at lw_m2 71 rfl) rfl
theorem q438 : (Jvm.Cond.classLink "ConkerYard" (143 : Nat) "ConkerYard$Parser") ∈ lw_all := lw_g (lw_at lw_m2 72 rfl) rfl
theorem q440 : (Jvm.Cond.methodLink "ConkerYard" (145 : Nat) ({ cls := "ConkerYard$Parser", name := "<init>", desc := "(LConkerYard;[Ljava/lang/String;I)V" } : Jvm.MethodName)) ∈ lw_all := lw_g (lw_at lw_m2 74 rfl) rfl
theorem q466 : (Jvm.Cond.methodLink "ConkerYard" (148 : Nat) ({ cls := "ConkerYard$Parser", name := "wholeYard", desc := "()LConkerYard$Yard;" } : Jvm.MethodName)) ∈ lw_all := lw_g (lw_at lw_m2 100 rfl) rfl
theorem q496 : (Jvm.Cond.static ({ cls := "ConkerYard", name := "in", desc := "(JJJ)Z" } : Jvm.MethodName)) ∈ lw_all := lw_g (lw_at lw_m2 130 rfl) rfl
theorem q497 : (Jvm.Cond.code ({ cls := "ConkerYard", name := "in", desc := "(JJJ)Z" } : Jvm.MethodName) prog_1_method_1_code (6 : Nat) (Option.some Jvm.ClassFile.FieldType.boolean)) ∈ lw_all := lw_g (lw_at lw_m2 131 rfl) rfl
theorem q547 : (Jvm.Cond.privateMethod ({ cls := "ConkerYard", name := "fails", desc := "(II)LConkerYard$Wrong;" } : Jvm.MethodName)) ∈ lw_tbl := lw_at lw_m2 181 rfl
theorem q548 : (Jvm.Cond.instanceMethod ({ cls := "ConkerYard", name := "fails", desc := "(II)LConkerYard$Wrong;" } : Jvm.MethodName)) ∈ lw_all := lw_g (lw_at lw_m2 182 rfl) rfl
theorem q549 : (Jvm.Cond.code ({ cls := "ConkerYard", name := "fails", desc := "(II)LConkerYard$Wrong;" } : Jvm.MethodName) prog_1_method_8_code (3 : Nat) (Option.some (Jvm.ClassFile.FieldType.object "ConkerYard$Wrong"))) ∈ lw_all := lw_g (lw_at lw_m2 183 rfl) rfl
theorem q630 : (Jvm.Cond.selects "ConkerYard" ({ cls := "java/lang/Object", name := "getClass", desc := "()Ljava/lang/Class;" } : Jvm.MethodName) ({ cls := "java/lang/Object", name := "getClass", desc := "()Ljava/lang/Class;" } : Jvm.MethodName)) ∈ lw_all := lw_g (lw_at lw_m3 24 rfl) rfl
theorem q677 : (Jvm.Cond.methodLink "ConkerYard" (152 : Nat) ({ cls := "ConkerYard$State", name := "begin", desc := "(LConkerYard$Yard;)V" } : Jvm.MethodName)) ∈ lw_all := lw_g (lw_at lw_m3 71 rfl) rfl
theorem q684 : (Jvm.Cond.methodLink "ConkerYard" (115 : Nat) ({ cls := "ConkerYard$Yard", name := "many", desc := "()I" } : Jvm.MethodName)) ∈ lw_all := lw_g (lw_at lw_m3 78 rfl) rfl
theorem q686 : (Jvm.Cond.instanceMethod ({ cls := "ConkerYard", name := "rule", desc := "()I" } : Jvm.MethodName)) ∈ lw_all := lw_g (lw_at lw_m3 80 rfl) rfl
theorem q687 : (Jvm.Cond.selects "ConkerYard" ({ cls := "ConkerYard", name := "rule", desc := "()I" } : Jvm.MethodName) ({ cls := "ConkerYard", name := "rule", desc := "()I" } : Jvm.MethodName)) ∈ lw_all := lw_g (lw_at lw_m3 81 rfl) rfl
theorem q688 : (Jvm.Cond.codeWith ({ cls := "ConkerYard", name := "rule", desc := "()I" } : Jvm.MethodName) prog_1_method_13_code (4 : Nat) (Option.some Jvm.ClassFile.FieldType.int) [((14 : Nat), (31 : Nat), (38 : Nat), (39 : Nat)), ((14 : Nat), (31 : Nat), (54 : Nat), (0 : Nat)), ((38 : Nat), (47 : Nat), (54 : Nat), (0 : Nat))]) ∈ lw_all := lw_g (lw_at lw_m3 82 rfl) rfl
theorem q689 : (Jvm.Cond.methodLink "ConkerYard" (162 : Nat) ({ cls := "java/util/ArrayList", name := "size", desc := "()I" } : Jvm.MethodName)) ∈ lw_all := lw_g (lw_at lw_m3 83 rfl) rfl
theorem q690 : (Jvm.Cond.methodLink "ConkerYard" (165 : Nat) ({ cls := "ConkerYard$Parser", name := "wholeRule", desc := "()I" } : Jvm.MethodName)) ∈ lw_all := lw_g (lw_at lw_m3 84 rfl) rfl
theorem q856 : (Jvm.Cond.instanceMethod ({ cls := "ConkerYard", name := "force", desc := "(I)I" } : Jvm.MethodName)) ∈ lw_all := lw_g (lw_at lw_m4 10 rfl) rfl
theorem q857 : (Jvm.Cond.selects "ConkerYard" ({ cls := "ConkerYard", name := "force", desc := "(I)I" } : Jvm.MethodName) ({ cls := "ConkerYard", name := "force", desc := "(I)I" } : Jvm.MethodName)) ∈ lw_all := lw_g (lw_at lw_m4 11 rfl) rfl
theorem q858 : (Jvm.Cond.code ({ cls := "ConkerYard", name := "force", desc := "(I)I" } : Jvm.MethodName) prog_1_method_14_code (3 : Nat) (Option.some Jvm.ClassFile.FieldType.int)) ∈ lw_all := lw_g (lw_at lw_m4 12 rfl) rfl
theorem q859 : (Jvm.Cond.constantLong "ConkerYard" (168 : Nat) (-1 : Int64)) ∈ lw_all := lw_g (lw_at lw_m4 13 rfl) rfl
theorem q860 : (Jvm.Cond.methodLink "ConkerYard" (119 : Nat) ({ cls := "ConkerYard", name := "in", desc := "(JJJ)Z" } : Jvm.MethodName)) ∈ lw_all := lw_g (lw_at lw_m4 14 rfl) rfl
theorem q862 : (Jvm.Cond.instanceMethod ({ cls := "ConkerYard", name := "conker", desc := "(II)I" } : Jvm.MethodName)) ∈ lw_all := lw_g (lw_at lw_m4 16 rfl) rfl
theorem q863 : (Jvm.Cond.selects "ConkerYard" ({ cls := "ConkerYard", name := "conker", desc := "(II)I" } : Jvm.MethodName) ({ cls := "ConkerYard", name := "conker", desc := "(II)I" } : Jvm.MethodName)) ∈ lw_all := lw_g (lw_at lw_m4 17 rfl) rfl
theorem q864 : (Jvm.Cond.code ({ cls := "ConkerYard", name := "conker", desc := "(II)I" } : Jvm.MethodName) prog_1_method_15_code (3 : Nat) (Option.some Jvm.ClassFile.FieldType.int)) ∈ lw_all := lw_g (lw_at lw_m4 18 rfl) rfl
theorem q865 : (Jvm.Cond.methodLink "ConkerYard" (123 : Nat) ({ cls := "ConkerYard", name := "isConker", desc := "(I)Z" } : Jvm.MethodName)) ∈ lw_all := lw_g (lw_at lw_m4 19 rfl) rfl
theorem q866 : (Jvm.Cond.privateMethod ({ cls := "ConkerYard", name := "isConker", desc := "(I)Z" } : Jvm.MethodName)) ∈ lw_tbl := lw_at lw_m4 20 rfl
theorem q867 : (Jvm.Cond.instanceMethod ({ cls := "ConkerYard", name := "isConker", desc := "(I)Z" } : Jvm.MethodName)) ∈ lw_all := lw_g (lw_at lw_m4 21 rfl) rfl
theorem q868 : (Jvm.Cond.code ({ cls := "ConkerYard", name := "isConker", desc := "(I)Z" } : Jvm.MethodName) prog_1_method_6_code (2 : Nat) (Option.some Jvm.ClassFile.FieldType.boolean)) ∈ lw_all := lw_g (lw_at lw_m4 22 rfl) rfl
theorem q869 : (Jvm.Cond.methodLink "ConkerYard" (130 : Nat) ({ cls := "ConkerYard", name := "has", desc := "(II)Z" } : Jvm.MethodName)) ∈ lw_all := lw_g (lw_at lw_m4 23 rfl) rfl
theorem q870 : (Jvm.Cond.static ({ cls := "ConkerYard", name := "has", desc := "(II)Z" } : Jvm.MethodName)) ∈ lw_all := lw_g (lw_at lw_m4 24 rfl) rfl
theorem q871 : (Jvm.Cond.code ({ cls := "ConkerYard", name := "has", desc := "(II)Z" } : Jvm.MethodName) prog_1_method_2_code (2 : Nat) (Option.some Jvm.ClassFile.FieldType.boolean)) ∈ lw_all := lw_g (lw_at lw_m4 25 rfl) rfl
theorem q872 : (Jvm.Cond.methodLink "ConkerYard" (182 : Nat) ({ cls := "ConkerYard", name := "bit", desc := "(Z)I" } : Jvm.MethodName)) ∈ lw_all := lw_g (lw_at lw_m4 26 rfl) rfl
theorem q873 : (Jvm.Cond.static ({ cls := "ConkerYard", name := "bit", desc := "(Z)I" } : Jvm.MethodName)) ∈ lw_all := lw_g (lw_at lw_m4 27 rfl) rfl
theorem q874 : (Jvm.Cond.code ({ cls := "ConkerYard", name := "bit", desc := "(Z)I" } : Jvm.MethodName) prog_1_method_3_code (1 : Nat) (Option.some Jvm.ClassFile.FieldType.int)) ∈ lw_all := lw_g (lw_at lw_m4 28 rfl) rfl
theorem q876 : (Jvm.Cond.instanceMethod ({ cls := "ConkerYard", name := "undo", desc := "()I" } : Jvm.MethodName)) ∈ lw_all := lw_g (lw_at lw_m4 30 rfl) rfl
theorem q877 : (Jvm.Cond.selects "ConkerYard" ({ cls := "ConkerYard", name := "undo", desc := "()I" } : Jvm.MethodName) ({ cls := "ConkerYard", name := "undo", desc := "()I" } : Jvm.MethodName)) ∈ lw_all := lw_g (lw_at lw_m4 31 rfl) rfl
theorem q878 : (Jvm.Cond.code ({ cls := "ConkerYard", name := "undo", desc := "()I" } : Jvm.MethodName) prog_1_method_22_code (1 : Nat) (Option.some Jvm.ClassFile.FieldType.int)) ∈ lw_all := lw_g (lw_at lw_m4 32 rfl) rfl
theorem q879 : (Jvm.Cond.methodLink "ConkerYard" (225 : Nat) ({ cls := "ConkerYard$State", name := "copyFrom", desc := "(LConkerYard$State;)V" } : Jvm.MethodName)) ∈ lw_all := lw_g (lw_at lw_m4 33 rfl) rfl
theorem q884 : (Jvm.Cond.instanceMethod ({ cls := "ConkerYard", name := "round", desc := "()I" } : Jvm.MethodName)) ∈ lw_all := lw_g (lw_at lw_m4 38 rfl) rfl
theorem q885 : (Jvm.Cond.selects "ConkerYard" ({ cls := "ConkerYard", name := "round", desc := "()I" } : Jvm.MethodName) ({ cls := "ConkerYard", name := "round", desc := "()I" } : Jvm.MethodName)) ∈ lw_all := lw_g (lw_at lw_m4 39 rfl) rfl
theorem q886 : (Jvm.Cond.code ({ cls := "ConkerYard", name := "round", desc := "()I" } : Jvm.MethodName) prog_1_method_23_code (2 : Nat) (Option.some Jvm.ClassFile.FieldType.int)) ∈ lw_all := lw_g (lw_at lw_m4 40 rfl) rfl
theorem q887 : (Jvm.Cond.methodLink "ConkerYard" (235 : Nat) ({ cls := "ConkerYard", name := "isYard", desc := "()Z" } : Jvm.MethodName)) ∈ lw_all := lw_g (lw_at lw_m4 41 rfl) rfl
theorem q888 : (Jvm.Cond.privateMethod ({ cls := "ConkerYard", name := "isYard", desc := "()Z" } : Jvm.MethodName)) ∈ lw_tbl := lw_at lw_m4 42 rfl
theorem q889 : (Jvm.Cond.instanceMethod ({ cls := "ConkerYard", name := "isYard", desc := "()Z" } : Jvm.MethodName)) ∈ lw_all := lw_g (lw_at lw_m4 43 rfl) rfl
theorem q890 : (Jvm.Cond.code ({ cls := "ConkerYard", name := "isYard", desc := "()Z" } : Jvm.MethodName) prog_1_method_5_code (1 : Nat) (Option.some Jvm.ClassFile.FieldType.boolean)) ∈ lw_all := lw_g (lw_at lw_m4 44 rfl) rfl
theorem q891 : (Jvm.Cond.methodLink "ConkerYard" (239 : Nat) ({ cls := "ConkerYard", name := "keeps", desc := "()V" } : Jvm.MethodName)) ∈ lw_all := lw_g (lw_at lw_m4 45 rfl) rfl
theorem q892 : (Jvm.Cond.privateMethod ({ cls := "ConkerYard", name := "keeps", desc := "()V" } : Jvm.MethodName)) ∈ lw_tbl := lw_at lw_m4 46 rfl
theorem q893 : (Jvm.Cond.instanceMethod ({ cls := "ConkerYard", name := "keeps", desc := "()V" } : Jvm.MethodName)) ∈ lw_all := lw_g (lw_at lw_m4 47 rfl) rfl
theorem q894 : (Jvm.Cond.code ({ cls := "ConkerYard", name := "keeps", desc := "()V" } : Jvm.MethodName) prog_1_method_21_code (1 : Nat) (Option.none : Option Jvm.ClassFile.FieldType)) ∈ lw_all := lw_g (lw_at lw_m4 48 rfl) rfl
theorem q895 : (Jvm.Cond.methodLink "ConkerYard" (229 : Nat) ({ cls := "java/lang/Math", name := "min", desc := "(II)I" } : Jvm.MethodName)) ∈ lw_all := lw_g (lw_at lw_m4 49 rfl) rfl
theorem q896 : (Jvm.Cond.methodLink "ConkerYard" (219 : Nat) ({ cls := "ConkerYard", name := "goesOn", desc := "(LConkerYard$State;)I" } : Jvm.MethodName)) ∈ lw_all := lw_g (lw_at lw_m4 50 rfl) rfl
theorem q897 : (Jvm.Cond.privateMethod ({ cls := "ConkerYard", name := "goesOn", desc := "(LConkerYard$State;)I" } : Jvm.MethodName)) ∈ lw_tbl := lw_at lw_m4 51 rfl
theorem q898 : (Jvm.Cond.instanceMethod ({ cls := "ConkerYard", name := "goesOn", desc := "(LConkerYard$State;)I" } : Jvm.MethodName)) ∈ lw_all := lw_g (lw_at lw_m4 52 rfl) rfl
theorem q899 : (Jvm.Cond.code ({ cls := "ConkerYard", name := "goesOn", desc := "(LConkerYard$State;)I" } : Jvm.MethodName) prog_1_method_18_code (5 : Nat) (Option.some Jvm.ClassFile.FieldType.int)) ∈ lw_all := lw_g (lw_at lw_m4 53 rfl) rfl
theorem q900 : (Jvm.Cond.methodLink "ConkerYard" (208 : Nat) ({ cls := "ConkerYard", name := "choiceOf", desc := "(LConkerYard$State;)I" } : Jvm.MethodName)) ∈ lw_all := lw_g (lw_at lw_m4 54 rfl) rfl
theorem q901 : (Jvm.Cond.privateMethod ({ cls := "ConkerYard", name := "choiceOf", desc := "(LConkerYard$State;)I" } : Jvm.MethodName)) ∈ lw_tbl := lw_at lw_m4 55 rfl
theorem q902 : (Jvm.Cond.instanceMethod ({ cls := "ConkerYard", name := "choiceOf", desc := "(LConkerYard$State;)I" } : Jvm.MethodName)) ∈ lw_all := lw_g (lw_at lw_m4 56 rfl) rfl
theorem q903 : (Jvm.Cond.code ({ cls := "ConkerYard", name := "choiceOf", desc := "(LConkerYard$State;)I" } : Jvm.MethodName) prog_1_method_17_code (10 : Nat) (Option.some Jvm.ClassFile.FieldType.int)) ∈ lw_all := lw_g (lw_at lw_m4 57 rfl) rfl
theorem q904 : (Jvm.Cond.methodLink "ConkerYard" (205 : Nat) ({ cls := "ConkerYard", name := "wants", desc := "(LConkerYard$State;II)J" } : Jvm.MethodName)) ∈ lw_all := lw_g (lw_at lw_m4 58 rfl) rfl
theorem q905 : (Jvm.Cond.privateMethod ({ cls := "ConkerYard", name := "wants", desc := "(LConkerYard$State;II)J" } : Jvm.MethodName)) ∈ lw_tbl := lw_at lw_m4 59 rfl
theorem q906 : (Jvm.Cond.instanceMethod ({ cls := "ConkerYard", name := "wants", desc := "(LConkerYard$State;II)J" } : Jvm.MethodName)) ∈ lw_all := lw_g (lw_at lw_m4 60 rfl) rfl
theorem q907 : (Jvm.Cond.code ({ cls := "ConkerYard", name := "wants", desc := "(LConkerYard$State;II)J" } : Jvm.MethodName) prog_1_method_16_code (4 : Nat) (Option.some Jvm.ClassFile.FieldType.long)) ∈ lw_all := lw_g (lw_at lw_m4 61 rfl) rfl
theorem q908 : (Jvm.Cond.methodLink "ConkerYard" (186 : Nat) ({ cls := "java/lang/Integer", name := "bitCount", desc := "(I)I" } : Jvm.MethodName)) ∈ lw_all := lw_g (lw_at lw_m4 62 rfl) rfl
theorem q914 : (Jvm.Cond.methodLink "ConkerYard" (195 : Nat) ({ cls := "java/util/ArrayList", name := "get", desc := "(I)Ljava/lang/Object;" } : Jvm.MethodName)) ∈ lw_all := lw_g (lw_at lw_m4 68 rfl) rfl
theorem q915 : (Jvm.Cond.classLink "ConkerYard" (199 : Nat) "ConkerYard$Rule") ∈ lw_all := lw_g (lw_at lw_m4 69 rfl) rfl
theorem q916 : (Jvm.Cond.methodLink "ConkerYard" (201 : Nat) ({ cls := "ConkerYard$Rule", name := "wants", desc := "([J)J" } : Jvm.MethodName)) ∈ lw_all := lw_g (lw_at lw_m4 70 rfl) rfl
theorem q955 : (Jvm.Cond.methodLink "ConkerYard" (212 : Nat) ({ cls := "ConkerYard$State", name := "heals", desc := "(I)V" } : Jvm.MethodName)) ∈ lw_all := lw_g (lw_at lw_m4 109 rfl) rfl
theorem q961 : (Jvm.Cond.methodLink "ConkerYard" (215 : Nat) ({ cls := "ConkerYard$State", name := "fights", desc := "(III)I" } : Jvm.MethodName)) ∈ lw_all := lw_g (lw_at lw_m4 115 rfl) rfl
theorem q971 : (Jvm.Cond.instanceMethod ({ cls := "ConkerYard", name := "bout", desc := "(II)I" } : Jvm.MethodName)) ∈ lw_all := lw_g (lw_at lw_m4 125 rfl) rfl
theorem q972 : (Jvm.Cond.selects "ConkerYard" ({ cls := "ConkerYard", name := "bout", desc := "(II)I" } : Jvm.MethodName) ({ cls := "ConkerYard", name := "bout", desc := "(II)I" } : Jvm.MethodName)) ∈ lw_all := lw_g (lw_at lw_m4 126 rfl) rfl
theorem q973 : (Jvm.Cond.code ({ cls := "ConkerYard", name := "bout", desc := "(II)I" } : Jvm.MethodName) prog_1_method_24_code (4 : Nat) (Option.some Jvm.ClassFile.FieldType.int)) ∈ lw_all := lw_g (lw_at lw_m4 127 rfl) rfl
theorem q974 : (Jvm.Cond.methodLink "ConkerYard" (242 : Nat) ({ cls := "ConkerYard", name := "isWhole", desc := "(I)Z" } : Jvm.MethodName)) ∈ lw_all := lw_g (lw_at lw_m4 128 rfl) rfl
theorem q975 : (Jvm.Cond.privateMethod ({ cls := "ConkerYard", name := "isWhole", desc := "(I)Z" } : Jvm.MethodName)) ∈ lw_tbl := lw_at lw_m4 129 rfl
theorem q976 : (Jvm.Cond.instanceMethod ({ cls := "ConkerYard", name := "isWhole", desc := "(I)Z" } : Jvm.MethodName)) ∈ lw_all := lw_g (lw_at lw_m4 130 rfl) rfl
theorem q977 : (Jvm.Cond.code ({ cls := "ConkerYard", name := "isWhole", desc := "(I)Z" } : Jvm.MethodName) prog_1_method_7_code (2 : Nat) (Option.some Jvm.ClassFile.FieldType.boolean)) ∈ lw_all := lw_g (lw_at lw_m4 131 rfl) rfl
theorem q979 : (Jvm.Cond.instanceMethod ({ cls := "ConkerYard", name := "pickle", desc := "(II)I" } : Jvm.MethodName)) ∈ lw_all := lw_g (lw_at lw_m4 133 rfl) rfl
theorem q980 : (Jvm.Cond.selects "ConkerYard" ({ cls := "ConkerYard", name := "pickle", desc := "(II)I" } : Jvm.MethodName) ({ cls := "ConkerYard", name := "pickle", desc := "(II)I" } : Jvm.MethodName)) ∈ lw_all := lw_g (lw_at lw_m4 134 rfl) rfl
theorem q981 : (Jvm.Cond.code ({ cls := "ConkerYard", name := "pickle", desc := "(II)I" } : Jvm.MethodName) prog_1_method_25_code (3 : Nat) (Option.some Jvm.ClassFile.FieldType.int)) ∈ lw_all := lw_g (lw_at lw_m4 135 rfl) rfl
theorem q982 : (Jvm.Cond.constantLong "ConkerYard" (245 : Nat) (9 : Int64)) ∈ lw_all := lw_g (lw_at lw_m4 136 rfl) rfl
theorem q983 : (Jvm.Cond.methodLink "ConkerYard" (247 : Nat) ({ cls := "ConkerYard$State", name := "hardens", desc := "(II)V" } : Jvm.MethodName)) ∈ lw_all := lw_g (lw_at lw_m4 137 rfl) rfl
theorem q988 : (Jvm.Cond.instanceMethod ({ cls := "ConkerYard", name := "mend", desc := "(I)I" } : Jvm.MethodName)) ∈ lw_all := lw_g (lw_at lw_m4 142 rfl) rfl
theorem q989 : (Jvm.Cond.selects "ConkerYard" ({ cls := "ConkerYard", name := "mend", desc := "(I)I" } : Jvm.MethodName) ({ cls := "ConkerYard", name := "mend", desc := "(I)I" } : Jvm.MethodName)) ∈ lw_all := lw_g (lw_at lw_m4 143 rfl) rfl
theorem q990 : (Jvm.Cond.code ({ cls := "ConkerYard", name := "mend", desc := "(I)I" } : Jvm.MethodName) prog_1_method_26_code (3 : Nat) (Option.some Jvm.ClassFile.FieldType.int)) ∈ lw_all := lw_g (lw_at lw_m4 144 rfl) rfl
theorem q992 : (Jvm.Cond.instanceMethod ({ cls := "ConkerYard", name := "string", desc := "(II)I" } : Jvm.MethodName)) ∈ lw_all := lw_g (lw_at lw_m4 146 rfl) rfl
theorem q993 : (Jvm.Cond.selects "ConkerYard" ({ cls := "ConkerYard", name := "string", desc := "(II)I" } : Jvm.MethodName) ({ cls := "ConkerYard", name := "string", desc := "(II)I" } : Jvm.MethodName)) ∈ lw_all := lw_g (lw_at lw_m4 147 rfl) rfl
theorem q994 : (Jvm.Cond.code ({ cls := "ConkerYard", name := "string", desc := "(II)I" } : Jvm.MethodName) prog_1_method_27_code (4 : Nat) (Option.some Jvm.ClassFile.FieldType.int)) ∈ lw_all := lw_g (lw_at lw_m4 148 rfl) rfl
theorem q995 : (Jvm.Cond.constantLong "ConkerYard" (251 : Nat) (20 : Int64)) ∈ lw_all := lw_g (lw_at lw_m4 149 rfl) rfl
theorem q997 : (Jvm.Cond.instanceMethod ({ cls := "ConkerYard", name := "would", desc := "(III)I" } : Jvm.MethodName)) ∈ lw_all := lw_g (lw_at lw_m4 151 rfl) rfl
theorem q998 : (Jvm.Cond.selects "ConkerYard" ({ cls := "ConkerYard", name := "would", desc := "(III)I" } : Jvm.MethodName) ({ cls := "ConkerYard", name := "would", desc := "(III)I" } : Jvm.MethodName)) ∈ lw_all := lw_g (lw_at lw_m4 152 rfl) rfl
theorem q999 : (Jvm.Cond.code ({ cls := "ConkerYard", name := "would", desc := "(III)I" } : Jvm.MethodName) prog_1_method_28_code (5 : Nat) (Option.some Jvm.ClassFile.FieldType.int)) ∈ lw_all := lw_g (lw_at lw_m4 153 rfl) rfl
theorem q1000 : (Jvm.Cond.methodLink "ConkerYard" (253 : Nat) ({ cls := "ConkerYard$State", name := "strikesOf", desc := "(III)I" } : Jvm.MethodName)) ∈ lw_all := lw_g (lw_at lw_m4 154 rfl) rfl
theorem q1001 : (Jvm.Cond.methodLink "ConkerYard" (256 : Nat) ({ cls := "ConkerYard$State", name := "winnerOf", desc := "(III)I" } : Jvm.MethodName)) ∈ lw_all := lw_g (lw_at lw_m4 155 rfl) rfl
theorem q1006 : (Jvm.Cond.instanceMethod ({ cls := "ConkerYard", name := "beats", desc := "(I)I" } : Jvm.MethodName)) ∈ lw_all := lw_g (lw_at lw_m4 160 rfl) rfl
theorem q1007 : (Jvm.Cond.selects "ConkerYard" ({ cls := "ConkerYard", name := "beats", desc := "(I)I" } : Jvm.MethodName) ({ cls := "ConkerYard", name := "beats", desc := "(I)I" } : Jvm.MethodName)) ∈ lw_all := lw_g (lw_at lw_m4 161 rfl) rfl
theorem q1008 : (Jvm.Cond.code ({ cls := "ConkerYard", name := "beats", desc := "(I)I" } : Jvm.MethodName) prog_1_method_31_code (2 : Nat) (Option.some Jvm.ClassFile.FieldType.int)) ∈ lw_all := lw_g (lw_at lw_m4 162 rfl) rfl
theorem q1009 : (Jvm.Cond.methodLink "ConkerYard" (259 : Nat) ({ cls := "ConkerYard", name := "beatenBy", desc := "(I)I" } : Jvm.MethodName)) ∈ lw_all := lw_g (lw_at lw_m4 163 rfl) rfl
theorem q1010 : (Jvm.Cond.privateMethod ({ cls := "ConkerYard", name := "beatenBy", desc := "(I)I" } : Jvm.MethodName)) ∈ lw_tbl := lw_at lw_m4 164 rfl
theorem q1011 : (Jvm.Cond.instanceMethod ({ cls := "ConkerYard", name := "beatenBy", desc := "(I)I" } : Jvm.MethodName)) ∈ lw_all := lw_g (lw_at lw_m4 165 rfl) rfl
theorem q1012 : (Jvm.Cond.code ({ cls := "ConkerYard", name := "beatenBy", desc := "(I)I" } : Jvm.MethodName) prog_1_method_29_code (4 : Nat) (Option.some Jvm.ClassFile.FieldType.int)) ∈ lw_all := lw_g (lw_at lw_m4 166 rfl) rfl
theorem q1014 : (Jvm.Cond.instanceMethod ({ cls := "ConkerYard", name := "last", desc := "(I)I" } : Jvm.MethodName)) ∈ lw_all := lw_g (lw_at lw_m4 168 rfl) rfl
theorem q1015 : (Jvm.Cond.selects "ConkerYard" ({ cls := "ConkerYard", name := "last", desc := "(I)I" } : Jvm.MethodName) ({ cls := "ConkerYard", name := "last", desc := "(I)I" } : Jvm.MethodName)) ∈ lw_all := lw_g (lw_at lw_m4 169 rfl) rfl
theorem q1016 : (Jvm.Cond.code ({ cls := "ConkerYard", name := "last", desc := "(I)I" } : Jvm.MethodName) prog_1_method_33_code (2 : Nat) (Option.some Jvm.ClassFile.FieldType.int)) ∈ lw_all := lw_g (lw_at lw_m4 170 rfl) rfl
theorem q1017 : (Jvm.Cond.methodLink "ConkerYard" (262 : Nat) ({ cls := "ConkerYard", name := "laysBeaten", desc := "()V" } : Jvm.MethodName)) ∈ lw_all := lw_g (lw_at lw_m4 171 rfl) rfl
theorem q1018 : (Jvm.Cond.privateMethod ({ cls := "ConkerYard", name := "laysBeaten", desc := "()V" } : Jvm.MethodName)) ∈ lw_tbl := lw_at lw_m4 172 rfl
theorem q1019 : (Jvm.Cond.instanceMethod ({ cls := "ConkerYard", name := "laysBeaten", desc := "()V" } : Jvm.MethodName)) ∈ lw_all := lw_g (lw_at lw_m4 173 rfl) rfl
theorem q1020 : (Jvm.Cond.code ({ cls := "ConkerYard", name := "laysBeaten", desc := "()V" } : Jvm.MethodName) prog_1_method_30_code (2 : Nat) (Option.none : Option Jvm.ClassFile.FieldType)) ∈ lw_all := lw_g (lw_at lw_m4 174 rfl) rfl
theorem q1021 : (Jvm.Cond.methodLink "ConkerYard" (265 : Nat) ({ cls := "ConkerYard", name := "reachedFrom", desc := "(II)I" } : Jvm.MethodName)) ∈ lw_all := lw_g (lw_at lw_m4 175 rfl) rfl
theorem q1022 : (Jvm.Cond.privateMethod ({ cls := "ConkerYard", name := "reachedFrom", desc := "(II)I" } : Jvm.MethodName)) ∈ lw_tbl := lw_at lw_m4 176 rfl
theorem q1023 : (Jvm.Cond.instanceMethod ({ cls := "ConkerYard", name := "reachedFrom", desc := "(II)I" } : Jvm.MethodName)) ∈ lw_all := lw_g (lw_at lw_m4 177 rfl) rfl
theorem q1024 : (Jvm.Cond.code ({ cls := "ConkerYard", name := "reachedFrom", desc := "(II)I" } : Jvm.MethodName) prog_1_method_32_code (7 : Nat) (Option.some Jvm.ClassFile.FieldType.int)) ∈ lw_all := lw_g (lw_at lw_m4 178 rfl) rfl
theorem q1026 : (Jvm.Cond.instanceMethod ({ cls := "ConkerYard", name := "own", desc := "(I)I" } : Jvm.MethodName)) ∈ lw_all := lw_g (lw_at lw_m4 180 rfl) rfl
theorem q1027 : (Jvm.Cond.selects "ConkerYard" ({ cls := "ConkerYard", name := "own", desc := "(I)I" } : Jvm.MethodName) ({ cls := "ConkerYard", name := "own", desc := "(I)I" } : Jvm.MethodName)) ∈ lw_all := lw_g (lw_at lw_m4 181 rfl) rfl
theorem q1028 : (Jvm.Cond.code ({ cls := "ConkerYard", name := "own", desc := "(I)I" } : Jvm.MethodName) prog_1_method_36_code (2 : Nat) (Option.some Jvm.ClassFile.FieldType.int)) ∈ lw_all := lw_g (lw_at lw_m4 182 rfl) rfl
theorem q1029 : (Jvm.Cond.methodLink "ConkerYard" (268 : Nat) ({ cls := "ConkerYard", name := "laysLasts", desc := "()V" } : Jvm.MethodName)) ∈ lw_all := lw_g (lw_at lw_m4 183 rfl) rfl
theorem q1030 : (Jvm.Cond.privateMethod ({ cls := "ConkerYard", name := "laysLasts", desc := "()V" } : Jvm.MethodName)) ∈ lw_tbl := lw_at lw_m4 184 rfl
theorem q1031 : (Jvm.Cond.instanceMethod ({ cls := "ConkerYard", name := "laysLasts", desc := "()V" } : Jvm.MethodName)) ∈ lw_all := lw_g (lw_at lw_m4 185 rfl) rfl
theorem q1032 : (Jvm.Cond.code ({ cls := "ConkerYard", name := "laysLasts", desc := "()V" } : Jvm.MethodName) prog_1_method_34_code (3 : Nat) (Option.none : Option Jvm.ClassFile.FieldType)) ∈ lw_all := lw_g (lw_at lw_m4 186 rfl) rfl
theorem q1033 : (Jvm.Cond.methodLink "ConkerYard" (271 : Nat) ({ cls := "ConkerYard", name := "laysBouts", desc := "(I)V" } : Jvm.MethodName)) ∈ lw_all := lw_g (lw_at lw_m4 187 rfl) rfl
theorem q1034 : (Jvm.Cond.privateMethod ({ cls := "ConkerYard", name := "laysBouts", desc := "(I)V" } : Jvm.MethodName)) ∈ lw_tbl := lw_at lw_m4 188 rfl
theorem q1035 : (Jvm.Cond.instanceMethod ({ cls := "ConkerYard", name := "laysBouts", desc := "(I)V" } : Jvm.MethodName)) ∈ lw_all := lw_g (lw_at lw_m4 189 rfl) rfl
theorem q1036 : (Jvm.Cond.code ({ cls := "ConkerYard", name := "laysBouts", desc := "(I)V" } : Jvm.MethodName) prog_1_method_35_code (6 : Nat) (Option.none : Option Jvm.ClassFile.FieldType)) ∈ lw_all := lw_g (lw_at lw_m4 190 rfl) rfl
theorem q1038 : (Jvm.Cond.instanceMethod ({ cls := "ConkerYard", name := "cups", desc := "(I)I" } : Jvm.MethodName)) ∈ lw_all := lw_g (lw_at lw_m4 192 rfl) rfl
theorem q1039 : (Jvm.Cond.selects "ConkerYard" ({ cls := "ConkerYard", name := "cups", desc := "(I)I" } : Jvm.MethodName) ({ cls := "ConkerYard", name := "cups", desc := "(I)I" } : Jvm.MethodName)) ∈ lw_all := lw_g (lw_at lw_m4 193 rfl) rfl
theorem q1040 : (Jvm.Cond.code ({ cls := "ConkerYard", name := "cups", desc := "(I)I" } : Jvm.MethodName) prog_1_method_40_code (5 : Nat) (Option.some Jvm.ClassFile.FieldType.int)) ∈ lw_all := lw_g (lw_at lw_m4 194 rfl) rfl
theorem q1041 : (Jvm.Cond.constantLong "ConkerYard" (283 : Nat) (7 : Int64)) ∈ lw_all := lw_g (lw_at lw_m4 195 rfl) rfl
theorem q1042 : (Jvm.Cond.methodLink "ConkerYard" (285 : Nat) ({ cls := "ConkerYard", name := "laysCups", desc := "()V" } : Jvm.MethodName)) ∈ lw_all := lw_g (lw_at lw_m4 196 rfl) rfl
theorem q1043 : (Jvm.Cond.privateMethod ({ cls := "ConkerYard", name := "laysCups", desc := "()V" } : Jvm.MethodName)) ∈ lw_tbl := lw_at lw_m4 197 rfl
theorem q1044 : (Jvm.Cond.instanceMethod ({ cls := "ConkerYard", name := "laysCups", desc := "()V" } : Jvm.MethodName)) ∈ lw_all := lw_g (lw_at lw_m4 198 rfl) rfl
theorem q1045 : (Jvm.Cond.code ({ cls := "ConkerYard", name := "laysCups", desc := "()V" } : Jvm.MethodName) prog_1_method_39_code (5 : Nat) (Option.none : Option Jvm.ClassFile.FieldType)) ∈ lw_all := lw_g (lw_at lw_m4 199 rfl) rfl
theorem q1046 : (Jvm.Cond.methodLink "ConkerYard" (277 : Nat) ({ cls := "java/lang/Integer", name := "numberOfTrailingZeros", desc := "(I)I" } : Jvm.MethodName)) ∈ lw_all := lw_g (lw_at lw_m4 200 rfl) rfl
theorem q1050 : (Jvm.Cond.methodLink "ConkerYard" (280 : Nat) ({ cls := "ConkerYard", name := "cupsFrom", desc := "(II)V" } : Jvm.MethodName)) ∈ lw_all := lw_g (lw_at lw_m4 204 rfl) rfl
theorem q1051 : (Jvm.Cond.privateMethod ({ cls := "ConkerYard", name := "cupsFrom", desc := "(II)V" } : Jvm.MethodName)) ∈ lw_tbl := lw_at lw_m4 205 rfl
theorem q1052 : (Jvm.Cond.instanceMethod ({ cls := "ConkerYard", name := "cupsFrom", desc := "(II)V" } : Jvm.MethodName)) ∈ lw_all := lw_g (lw_at lw_m4 206 rfl) rfl
theorem q1053 : (Jvm.Cond.code ({ cls := "ConkerYard", name := "cupsFrom", desc := "(II)V" } : Jvm.MethodName) prog_1_method_38_code (6 : Nat) (Option.none : Option Jvm.ClassFile.FieldType)) ∈ lw_all := lw_g (lw_at lw_m4 207 rfl) rfl
theorem q1054 : (Jvm.Cond.methodLink "ConkerYard" (274 : Nat) ({ cls := "ConkerYard", name := "goesOnOf", desc := "(II)I" } : Jvm.MethodName)) ∈ lw_all := lw_g (lw_at lw_m4 208 rfl) rfl
theorem q1055 : (Jvm.Cond.privateMethod ({ cls := "ConkerYard", name := "goesOnOf", desc := "(II)I" } : Jvm.MethodName)) ∈ lw_tbl := lw_at lw_m4 209 rfl
theorem q1056 : (Jvm.Cond.instanceMethod ({ cls := "ConkerYard", name := "goesOnOf", desc := "(II)I" } : Jvm.MethodName)) ∈ lw_all := lw_g (lw_at lw_m4 210 rfl) rfl
theorem q1057 : (Jvm.Cond.code ({ cls := "ConkerYard", name := "goesOnOf", desc := "(II)I" } : Jvm.MethodName) prog_1_method_37_code (5 : Nat) (Option.some Jvm.ClassFile.FieldType.int)) ∈ lw_all := lw_g (lw_at lw_m4 211 rfl) rfl
theorem q1059 : (Jvm.Cond.instanceMethod ({ cls := "ConkerYard", name := "ladder", desc := "(I)I" } : Jvm.MethodName)) ∈ lw_all := lw_g (lw_at lw_m4 213 rfl) rfl
theorem q1060 : (Jvm.Cond.selects "ConkerYard" ({ cls := "ConkerYard", name := "ladder", desc := "(I)I" } : Jvm.MethodName) ({ cls := "ConkerYard", name := "ladder", desc := "(I)I" } : Jvm.MethodName)) ∈ lw_all := lw_g (lw_at lw_m4 214 rfl) rfl
theorem q1061 : (Jvm.Cond.code ({ cls := "ConkerYard", name := "ladder", desc := "(I)I" } : Jvm.MethodName) prog_1_method_43_code (2 : Nat) (Option.some Jvm.ClassFile.FieldType.int)) ∈ lw_all := lw_g (lw_at lw_m4 215 rfl) rfl
theorem q1062 : (Jvm.Cond.methodLink "ConkerYard" (291 : Nat) ({ cls := "ConkerYard", name := "ladderFrom", desc := "(LConkerYard;III)V" } : Jvm.MethodName)) ∈ lw_all := lw_g (lw_at lw_m4 216 rfl) rfl
theorem q1063 : (Jvm.Cond.static ({ cls := "ConkerYard", name := "ladderFrom", desc := "(LConkerYard;III)V" } : Jvm.MethodName)) ∈ lw_all := lw_g (lw_at lw_m4 217 rfl) rfl
theorem q1064 : (Jvm.Cond.code ({ cls := "ConkerYard", name := "ladderFrom", desc := "(LConkerYard;III)V" } : Jvm.MethodName) prog_1_method_41_code (5 : Nat) (Option.none : Option Jvm.ClassFile.FieldType)) ∈ lw_all := lw_g (lw_at lw_m4 218 rfl) rfl
theorem q1065 : (Jvm.Cond.methodLink "ConkerYard" (288 : Nat) ({ cls := "ConkerYard", name := "isLadder", desc := "(I)V" } : Jvm.MethodName)) ∈ lw_all := lw_g (lw_at lw_m4 219 rfl) rfl
theorem q1066 : (Jvm.Cond.privateMethod ({ cls := "ConkerYard", name := "isLadder", desc := "(I)V" } : Jvm.MethodName)) ∈ lw_tbl := lw_at lw_m4 220 rfl
theorem q1067 : (Jvm.Cond.instanceMethod ({ cls := "ConkerYard", name := "isLadder", desc := "(I)V" } : Jvm.MethodName)) ∈ lw_all := lw_g (lw_at lw_m4 221 rfl) rfl
theorem q1068 : (Jvm.Cond.code ({ cls := "ConkerYard", name := "isLadder", desc := "(I)V" } : Jvm.MethodName) prog_1_method_42_code (3 : Nat) (Option.none : Option Jvm.ClassFile.FieldType)) ∈ lw_all := lw_g (lw_at lw_m4 222 rfl) rfl
theorem q1070 : (Jvm.Cond.instanceMethod ({ cls := "ConkerYard", name := "rings", desc := "()I" } : Jvm.MethodName)) ∈ lw_all := lw_g (lw_at lw_m4 224 rfl) rfl
theorem q1071 : (Jvm.Cond.selects "ConkerYard" ({ cls := "ConkerYard", name := "rings", desc := "()I" } : Jvm.MethodName) ({ cls := "ConkerYard", name := "rings", desc := "()I" } : Jvm.MethodName)) ∈ lw_all := lw_g (lw_at lw_m4 225 rfl) rfl
theorem q1072 : (Jvm.Cond.code ({ cls := "ConkerYard", name := "rings", desc := "()I" } : Jvm.MethodName) prog_1_method_44_code (3 : Nat) (Option.some Jvm.ClassFile.FieldType.int)) ∈ lw_all := lw_g (lw_at lw_m4 226 rfl) rfl
theorem q1074 : (Jvm.Cond.instanceMethod ({ cls := "ConkerYard", name := "kings", desc := "()I" } : Jvm.MethodName)) ∈ lw_all := lw_g (lw_at lw_m4 228 rfl) rfl
theorem q1075 : (Jvm.Cond.selects "ConkerYard" ({ cls := "ConkerYard", name := "kings", desc := "()I" } : Jvm.MethodName) ({ cls := "ConkerYard", name := "kings", desc := "()I" } : Jvm.MethodName)) ∈ lw_all := lw_g (lw_at lw_m4 229 rfl) rfl
theorem q1076 : (Jvm.Cond.code ({ cls := "ConkerYard", name := "kings", desc := "()I" } : Jvm.MethodName) prog_1_method_45_code (5 : Nat) (Option.some Jvm.ClassFile.FieldType.int)) ∈ lw_all := lw_g (lw_at lw_m4 230 rfl) rfl
theorem q1078 : (Jvm.Cond.instanceMethod ({ cls := "ConkerYard", name := "ahead", desc := "(III)I" } : Jvm.MethodName)) ∈ lw_all := lw_g (lw_at lw_m4 232 rfl) rfl
theorem q1079 : (Jvm.Cond.selects "ConkerYard" ({ cls := "ConkerYard", name := "ahead", desc := "(III)I" } : Jvm.MethodName) ({ cls := "ConkerYard", name := "ahead", desc := "(III)I" } : Jvm.MethodName)) ∈ lw_all := lw_g (lw_at lw_m4 233 rfl) rfl
theorem q1080 : (Jvm.Cond.code ({ cls := "ConkerYard", name := "ahead", desc := "(III)I" } : Jvm.MethodName) prog_1_method_46_code (4 : Nat) (Option.some Jvm.ClassFile.FieldType.int)) ∈ lw_all := lw_g (lw_at lw_m4 234 rfl) rfl
theorem q1081 : (Jvm.Cond.constantLong "ConkerYard" (298 : Nat) (2 : Int64)) ∈ lw_all := lw_g (lw_at lw_m4 235 rfl) rfl
theorem q1082 : (Jvm.Cond.constantLong "ConkerYard" (300 : Nat) (100 : Int64)) ∈ lw_all := lw_g (lw_at lw_m4 236 rfl) rfl
theorem q1083 : (Jvm.Cond.methodLink "ConkerYard" (302 : Nat) ({ cls := "ConkerYard", name := "goesTill", desc := "(I)V" } : Jvm.MethodName)) ∈ lw_all := lw_g (lw_at lw_m4 237 rfl) rfl
theorem q1084 : (Jvm.Cond.privateMethod ({ cls := "ConkerYard", name := "goesTill", desc := "(I)V" } : Jvm.MethodName)) ∈ lw_tbl := lw_at lw_m4 238 rfl
theorem q1085 : (Jvm.Cond.instanceMethod ({ cls := "ConkerYard", name := "goesTill", desc := "(I)V" } : Jvm.MethodName)) ∈ lw_all := lw_g (lw_at lw_m4 239 rfl) rfl
theorem q1086 : (Jvm.Cond.code ({ cls := "ConkerYard", name := "goesTill", desc := "(I)V" } : Jvm.MethodName) prog_1_method_19_code (3 : Nat) (Option.none : Option Jvm.ClassFile.FieldType)) ∈ lw_all := lw_g (lw_at lw_m5 0 rfl) rfl
theorem q1088 : (Jvm.Cond.instanceMethod ({ cls := "ConkerYard", name := "smashed", desc := "(I)I" } : Jvm.MethodName)) ∈ lw_all := lw_g (lw_at lw_m5 2 rfl) rfl
theorem q1089 : (Jvm.Cond.selects "ConkerYard" ({ cls := "ConkerYard", name := "smashed", desc := "(I)I" } : Jvm.MethodName) ({ cls := "ConkerYard", name := "smashed", desc := "(I)I" } : Jvm.MethodName)) ∈ lw_all := lw_g (lw_at lw_m5 3 rfl) rfl
theorem q1090 : (Jvm.Cond.code ({ cls := "ConkerYard", name := "smashed", desc := "(I)I" } : Jvm.MethodName) prog_1_method_47_code (3 : Nat) (Option.some Jvm.ClassFile.FieldType.int)) ∈ lw_all := lw_g (lw_at lw_m5 4 rfl) rfl
theorem q1092 : (Jvm.Cond.instanceMethod ({ cls := "ConkerYard", name := "alone", desc := "()I" } : Jvm.MethodName)) ∈ lw_all := lw_g (lw_at lw_m5 6 rfl) rfl
theorem q1093 : (Jvm.Cond.selects "ConkerYard" ({ cls := "ConkerYard", name := "alone", desc := "()I" } : Jvm.MethodName) ({ cls := "ConkerYard", name := "alone", desc := "()I" } : Jvm.MethodName)) ∈ lw_all := lw_g (lw_at lw_m5 7 rfl) rfl
theorem q1094 : (Jvm.Cond.code ({ cls := "ConkerYard", name := "alone", desc := "()I" } : Jvm.MethodName) prog_1_method_48_code (2 : Nat) (Option.some Jvm.ClassFile.FieldType.int)) ∈ lw_all := lw_g (lw_at lw_m5 8 rfl) rfl
theorem q1096 : (Jvm.Cond.instanceMethod ({ cls := "ConkerYard", name := "best", desc := "(II)I" } : Jvm.MethodName)) ∈ lw_all := lw_g (lw_at lw_m5 10 rfl) rfl
theorem q1097 : (Jvm.Cond.selects "ConkerYard" ({ cls := "ConkerYard", name := "best", desc := "(II)I" } : Jvm.MethodName) ({ cls := "ConkerYard", name := "best", desc := "(II)I" } : Jvm.MethodName)) ∈ lw_all := lw_g (lw_at lw_m5 11 rfl) rfl
theorem q1098 : (Jvm.Cond.code ({ cls := "ConkerYard", name := "best", desc := "(II)I" } : Jvm.MethodName) prog_1_method_49_code (7 : Nat) (Option.some Jvm.ClassFile.FieldType.int)) ∈ lw_all := lw_g (lw_at lw_m5 12 rfl) rfl
theorem q1099 : (Jvm.Cond.constantLong "ConkerYard" (305 : Nat) (40 : Int64)) ∈ lw_all := lw_g (lw_at lw_m5 13 rfl) rfl
theorem q1100 : (Jvm.Cond.methodLink "ConkerYard" (307 : Nat) ({ cls := "java/lang/Math", name := "max", desc := "(II)I" } : Jvm.MethodName)) ∈ lw_all := lw_g (lw_at lw_m5 14 rfl) rfl
theorem q1102 : (Jvm.Cond.instanceMethod ({ cls := "ConkerYard", name := "rests", desc := "(IIII)I" } : Jvm.MethodName)) ∈ lw_all := lw_g (lw_at lw_m5 16 rfl) rfl
theorem q1103 : (Jvm.Cond.selects "ConkerYard" ({ cls := "ConkerYard", name := "rests", desc := "(IIII)I" } : Jvm.MethodName) ({ cls := "ConkerYard", name := "rests", desc := "(IIII)I" } : Jvm.MethodName)) ∈ lw_all := lw_g (lw_at lw_m5 17 rfl) rfl
theorem q1104 : (Jvm.Cond.code ({ cls := "ConkerYard", name := "rests", desc := "(IIII)I" } : Jvm.MethodName) prog_1_method_52_code (8 : Nat) (Option.some Jvm.ClassFile.FieldType.int)) ∈ lw_all := lw_g (lw_at lw_m5 18 rfl) rfl
theorem q1105 : (Jvm.Cond.methodLink "ConkerYard" (310 : Nat) ({ cls := "ConkerYard", name := "worthTo", desc := "(I)I" } : Jvm.MethodName)) ∈ lw_all := lw_g (lw_at lw_m5 19 rfl) rfl
theorem q1106 : (Jvm.Cond.privateMethod ({ cls := "ConkerYard", name := "worthTo", desc := "(I)I" } : Jvm.MethodName)) ∈ lw_tbl := lw_at lw_m5 20 rfl
theorem q1107 : (Jvm.Cond.instanceMethod ({ cls := "ConkerYard", name := "worthTo", desc := "(I)I" } : Jvm.MethodName)) ∈ lw_all := lw_g (lw_at lw_m5 21 rfl) rfl
theorem q1108 : (Jvm.Cond.code ({ cls := "ConkerYard", name := "worthTo", desc := "(I)I" } : Jvm.MethodName) prog_1_method_50_code (2 : Nat) (Option.some Jvm.ClassFile.FieldType.int)) ∈ lw_all := lw_g (lw_at lw_m5 22 rfl) rfl
theorem q1109 : (Jvm.Cond.methodLink "ConkerYard" (313 : Nat) ({ cls := "ConkerYard", name := "isRest", desc := "(I)Z" } : Jvm.MethodName)) ∈ lw_all := lw_g (lw_at lw_m5 23 rfl) rfl
theorem q1110 : (Jvm.Cond.privateMethod ({ cls := "ConkerYard", name := "isRest", desc := "(I)Z" } : Jvm.MethodName)) ∈ lw_tbl := lw_at lw_m5 24 rfl
theorem q1111 : (Jvm.Cond.instanceMethod ({ cls := "ConkerYard", name := "isRest", desc := "(I)Z" } : Jvm.MethodName)) ∈ lw_all := lw_g (lw_at lw_m5 25 rfl) rfl
theorem q1112 : (Jvm.Cond.code ({ cls := "ConkerYard", name := "isRest", desc := "(I)Z" } : Jvm.MethodName) prog_1_method_51_code (3 : Nat) (Option.some Jvm.ClassFile.FieldType.boolean)) ∈ lw_all := lw_g (lw_at lw_m5 26 rfl) rfl
theorem q1114 : (Jvm.Cond.instanceMethod ({ cls := "ConkerYard", name := "pence", desc := "(II)I" } : Jvm.MethodName)) ∈ lw_all := lw_g (lw_at lw_m5 28 rfl) rfl
theorem q1115 : (Jvm.Cond.selects "ConkerYard" ({ cls := "ConkerYard", name := "pence", desc := "(II)I" } : Jvm.MethodName) ({ cls := "ConkerYard", name := "pence", desc := "(II)I" } : Jvm.MethodName)) ∈ lw_all := lw_g (lw_at lw_m5 29 rfl) rfl
theorem q1116 : (Jvm.Cond.code ({ cls := "ConkerYard", name := "pence", desc := "(II)I" } : Jvm.MethodName) prog_1_method_53_code (9 : Nat) (Option.some Jvm.ClassFile.FieldType.int)) ∈ lw_all := lw_g (lw_at lw_m5 30 rfl) rfl
theorem q1117 : (Jvm.Cond.constantLong "ConkerYard" (316 : Nat) (9999 : Int64)) ∈ lw_all := lw_g (lw_at lw_m5 31 rfl) rfl
theorem q1118 : (Jvm.Cond.methodLink "ConkerYard" (318 : Nat) ({ cls := "ConkerYard$State", name := "sumOf", desc := "([I)I" } : Jvm.MethodName)) ∈ lw_all := lw_g (lw_at lw_m5 32 rfl) rfl
theorem q1123 : (Jvm.Cond.instanceMethod ({ cls := "ConkerYard", name := "note", desc := "(III)I" } : Jvm.MethodName)) ∈ lw_all := lw_g (lw_at lw_m5 37 rfl) rfl
theorem q1124 : (Jvm.Cond.selects "ConkerYard" ({ cls := "ConkerYard", name := "note", desc := "(III)I" } : Jvm.MethodName) ({ cls := "ConkerYard", name := "note", desc := "(III)I" } : Jvm.MethodName)) ∈ lw_all := lw_g (lw_at lw_m5 38 rfl) rfl
theorem q1125 : (Jvm.Cond.code ({ cls := "ConkerYard", name := "note", desc := "(III)I" } : Jvm.MethodName) prog_1_method_54_code (4 : Nat) (Option.some Jvm.ClassFile.FieldType.int)) ∈ lw_all := lw_g (lw_at lw_m5 39 rfl) rfl
theorem q1126 : (Jvm.Cond.constantLong "ConkerYard" (322 : Nat) (60 : Int64)) ∈ lw_all := lw_g (lw_at lw_m5 40 rfl) rfl
theorem q1128 : (Jvm.Cond.instanceMethod ({ cls := "ConkerYard", name := "ruled", desc := "(I)I" } : Jvm.MethodName)) ∈ lw_all := lw_g (lw_at lw_m5 42 rfl) rfl
theorem q1129 : (Jvm.Cond.selects "ConkerYard" ({ cls := "ConkerYard", name := "ruled", desc := "(I)I" } : Jvm.MethodName) ({ cls := "ConkerYard", name := "ruled", desc := "(I)I" } : Jvm.MethodName)) ∈ lw_all := lw_g (lw_at lw_m5 43 rfl) rfl
theorem q1130 : (Jvm.Cond.code ({ cls := "ConkerYard", name := "ruled", desc := "(I)I" } : Jvm.MethodName) prog_1_method_57_code (5 : Nat) (Option.some Jvm.ClassFile.FieldType.int)) ∈ lw_all := lw_g (lw_at lw_m5 44 rfl) rfl
theorem q1131 : (Jvm.Cond.methodLink "ConkerYard" (327 : Nat) ({ cls := "ConkerYard", name := "couldRule", desc := "(I)Z" } : Jvm.MethodName)) ∈ lw_all := lw_g (lw_at lw_m5 45 rfl) rfl
theorem q1132 : (Jvm.Cond.privateMethod ({ cls := "ConkerYard", name := "couldRule", desc := "(I)Z" } : Jvm.MethodName)) ∈ lw_tbl := lw_at lw_m5 46 rfl
theorem q1133 : (Jvm.Cond.instanceMethod ({ cls := "ConkerYard", name := "couldRule", desc := "(I)Z" } : Jvm.MethodName)) ∈ lw_all := lw_g (lw_at lw_m5 47 rfl) rfl
theorem q1134 : (Jvm.Cond.code ({ cls := "ConkerYard", name := "couldRule", desc := "(I)Z" } : Jvm.MethodName) prog_1_method_56_code (4 : Nat) (Option.some Jvm.ClassFile.FieldType.boolean)) ∈ lw_all := lw_g (lw_at lw_m5 48 rfl) rfl
theorem q1135 : (Jvm.Cond.methodLink "ConkerYard" (324 : Nat) ({ cls := "ConkerYard", name := "doNotesFit", desc := "()Z" } : Jvm.MethodName)) ∈ lw_all := lw_g (lw_at lw_m5 49 rfl) rfl
theorem q1136 : (Jvm.Cond.privateMethod ({ cls := "ConkerYard", name := "doNotesFit", desc := "()Z" } : Jvm.MethodName)) ∈ lw_tbl := lw_at lw_m5 50 rfl
theorem q1137 : (Jvm.Cond.instanceMethod ({ cls := "ConkerYard", name := "doNotesFit", desc := "()Z" } : Jvm.MethodName)) ∈ lw_all := lw_g (lw_at lw_m5 51 rfl) rfl
theorem q1138 : (Jvm.Cond.code ({ cls := "ConkerYard", name := "doNotesFit", desc := "()Z" } : Jvm.MethodName) prog_1_method_55_code (2 : Nat) (Option.some Jvm.ClassFile.FieldType.boolean)) ∈ lw_all := lw_g (lw_at lw_m5 52 rfl) rfl
theorem q1140 : (Jvm.Cond.instanceMethod ({ cls := "ConkerYard", name := "hards", desc := "(II)I" } : Jvm.MethodName)) ∈ lw_all := lw_g (lw_at lw_m5 54 rfl) rfl
theorem q1141 : (Jvm.Cond.selects "ConkerYard" ({ cls := "ConkerYard", name := "hards", desc := "(II)I" } : Jvm.MethodName) ({ cls := "ConkerYard", name := "hards", desc := "(II)I" } : Jvm.MethodName)) ∈ lw_all := lw_g (lw_at lw_m5 55 rfl) rfl
theorem q1142 : (Jvm.Cond.code ({ cls := "ConkerYard", name := "hards", desc := "(II)I" } : Jvm.MethodName) prog_1_method_58_code (6 : Nat) (Option.some Jvm.ClassFile.FieldType.int)) ∈ lw_all := lw_g (lw_at lw_m5 56 rfl) rfl
theorem q1144 : (Jvm.Cond.instanceMethod ({ cls := "ConkerYard", name := "swings", desc := "(I)I" } : Jvm.MethodName)) ∈ lw_all := lw_g (lw_at lw_m5 58 rfl) rfl
theorem q1145 : (Jvm.Cond.selects "ConkerYard" ({ cls := "ConkerYard", name := "swings", desc := "(I)I" } : Jvm.MethodName) ({ cls := "ConkerYard", name := "swings", desc := "(I)I" } : Jvm.MethodName)) ∈ lw_all := lw_g (lw_at lw_m5 59 rfl) rfl
theorem q1146 : (Jvm.Cond.code ({ cls := "ConkerYard", name := "swings", desc := "(I)I" } : Jvm.MethodName) prog_1_method_59_code (4 : Nat) (Option.some Jvm.ClassFile.FieldType.int)) ∈ lw_all := lw_g (lw_at lw_m5 60 rfl) rfl
theorem q1148 : (Jvm.Cond.instanceMethod ({ cls := "ConkerYard", name := "look", desc := "(II)I" } : Jvm.MethodName)) ∈ lw_all := lw_g (lw_at lw_m5 62 rfl) rfl
theorem q1149 : (Jvm.Cond.selects "ConkerYard" ({ cls := "ConkerYard", name := "look", desc := "(II)I" } : Jvm.MethodName) ({ cls := "ConkerYard", name := "look", desc := "(II)I" } : Jvm.MethodName)) ∈ lw_all := lw_g (lw_at lw_m5 63 rfl) rfl
theorem q1150 : (Jvm.Cond.code ({ cls := "ConkerYard", name := "look", desc := "(II)I" } : Jvm.MethodName) prog_1_method_61_code (6 : Nat) (Option.some Jvm.ClassFile.FieldType.int)) ∈ lw_all := lw_g (lw_at lw_m5 64 rfl) rfl
theorem q1151 : (Jvm.Cond.methodLink "ConkerYard" (333 : Nat) ({ cls := "ConkerYard", name := "mostAlike", desc := "(II)I" } : Jvm.MethodName)) ∈ lw_all := lw_g (lw_at lw_m5 65 rfl) rfl
theorem q1152 : (Jvm.Cond.privateMethod ({ cls := "ConkerYard", name := "mostAlike", desc := "(II)I" } : Jvm.MethodName)) ∈ lw_tbl := lw_at lw_m5 66 rfl
theorem q1153 : (Jvm.Cond.instanceMethod ({ cls := "ConkerYard", name := "mostAlike", desc := "(II)I" } : Jvm.MethodName)) ∈ lw_all := lw_g (lw_at lw_m5 67 rfl) rfl
theorem q1154 : (Jvm.Cond.code ({ cls := "ConkerYard", name := "mostAlike", desc := "(II)I" } : Jvm.MethodName) prog_1_method_60_code (5 : Nat) (Option.some Jvm.ClassFile.FieldType.int)) ∈ lw_all := lw_g (lw_at lw_m5 68 rfl) rfl
theorem q1156 : (Jvm.Cond.instanceMethod ({ cls := "ConkerYard", name := "seed", desc := "(I)I" } : Jvm.MethodName)) ∈ lw_all := lw_g (lw_at lw_m5 70 rfl) rfl
theorem q1157 : (Jvm.Cond.selects "ConkerYard" ({ cls := "ConkerYard", name := "seed", desc := "(I)I" } : Jvm.MethodName) ({ cls := "ConkerYard", name := "seed", desc := "(I)I" } : Jvm.MethodName)) ∈ lw_all := lw_g (lw_at lw_m5 71 rfl) rfl
theorem q1158 : (Jvm.Cond.code ({ cls := "ConkerYard", name := "seed", desc := "(I)I" } : Jvm.MethodName) prog_1_method_62_code (3 : Nat) (Option.some Jvm.ClassFile.FieldType.int)) ∈ lw_all := lw_g (lw_at lw_m5 72 rfl) rfl
theorem q1160 : (Jvm.Cond.instanceMethod ({ cls := "ConkerYard", name := "frost", desc := "(IIII)I" } : Jvm.MethodName)) ∈ lw_all := lw_g (lw_at lw_m5 74 rfl) rfl
theorem q1161 : (Jvm.Cond.selects "ConkerYard" ({ cls := "ConkerYard", name := "frost", desc := "(IIII)I" } : Jvm.MethodName) ({ cls := "ConkerYard", name := "frost", desc := "(IIII)I" } : Jvm.MethodName)) ∈ lw_all := lw_g (lw_at lw_m5 75 rfl) rfl
theorem q1162 : (Jvm.Cond.code ({ cls := "ConkerYard", name := "frost", desc := "(IIII)I" } : Jvm.MethodName) prog_1_method_65_code (10 : Nat) (Option.some Jvm.ClassFile.FieldType.int)) ∈ lw_all := lw_g (lw_at lw_m5 76 rfl) rfl
theorem q1163 : (Jvm.Cond.constantLong "ConkerYard" (346 : Nat) (10 : Int64)) ∈ lw_all := lw_g (lw_at lw_m5 77 rfl) rfl
theorem q1164 : (Jvm.Cond.methodLink "ConkerYard" (348 : Nat) ({ cls := "ConkerYard", name := "draws", desc := "(I)I" } : Jvm.MethodName)) ∈ lw_all := lw_g (lw_at lw_m5 78 rfl) rfl
theorem q1165 : (Jvm.Cond.privateMethod ({ cls := "ConkerYard", name := "draws", desc := "(I)I" } : Jvm.MethodName)) ∈ lw_tbl := lw_at lw_m5 79 rfl
theorem q1166 : (Jvm.Cond.instanceMethod ({ cls := "ConkerYard", name := "draws", desc := "(I)I" } : Jvm.MethodName)) ∈ lw_all := lw_g (lw_at lw_m5 80 rfl) rfl
theorem q1167 : (Jvm.Cond.code ({ cls := "ConkerYard", name := "draws", desc := "(I)I" } : Jvm.MethodName) prog_1_method_63_code (2 : Nat) (Option.some Jvm.ClassFile.FieldType.int)) ∈ lw_all := lw_g (lw_at lw_m5 81 rfl) rfl
theorem q1168 : (Jvm.Cond.constantLong "ConkerYard" (339 : Nat) (1103515245 : Int64)) ∈ lw_all := lw_g (lw_at lw_m5 82 rfl) rfl
theorem q1169 : (Jvm.Cond.constantLong "ConkerYard" (341 : Nat) (12345 : Int64)) ∈ lw_all := lw_g (lw_at lw_m5 83 rfl) rfl
theorem q1170 : (Jvm.Cond.constantLong "ConkerYard" (343 : Nat) (2147483648 : Int64)) ∈ lw_all := lw_g (lw_at lw_m5 84 rfl) rfl
theorem q1171 : (Jvm.Cond.constant "ConkerYard" (345 : Nat) (65536 : Int32)) ∈ lw_all := lw_g (lw_at lw_m5 85 rfl) rfl
theorem q1172 : (Jvm.Cond.methodLink "ConkerYard" (351 : Nat) ({ cls := "ConkerYard", name := "freezes", desc := "(I)V" } : Jvm.MethodName)) ∈ lw_all := lw_g (lw_at lw_m5 86 rfl) rfl
theorem q1173 : (Jvm.Cond.privateMethod ({ cls := "ConkerYard", name := "freezes", desc := "(I)V" } : Jvm.MethodName)) ∈ lw_tbl := lw_at lw_m5 87 rfl
theorem q1174 : (Jvm.Cond.instanceMethod ({ cls := "ConkerYard", name := "freezes", desc := "(I)V" } : Jvm.MethodName)) ∈ lw_all := lw_g (lw_at lw_m5 88 rfl) rfl
theorem q1175 : (Jvm.Cond.code ({ cls := "ConkerYard", name := "freezes", desc := "(I)V" } : Jvm.MethodName) prog_1_method_64_code (2 : Nat) (Option.none : Option Jvm.ClassFile.FieldType)) ∈ lw_all := lw_g (lw_at lw_m5 89 rfl) rfl
theorem q1177 : (Jvm.Cond.instanceMethod ({ cls := "ConkerYard", name := "count", desc := "(I)I" } : Jvm.MethodName)) ∈ lw_all := lw_g (lw_at lw_m5 91 rfl) rfl
theorem q1178 : (Jvm.Cond.selects "ConkerYard" ({ cls := "ConkerYard", name := "count", desc := "(I)I" } : Jvm.MethodName) ({ cls := "ConkerYard", name := "count", desc := "(I)I" } : Jvm.MethodName)) ∈ lw_all := lw_g (lw_at lw_m5 92 rfl) rfl
theorem q1179 : (Jvm.Cond.code ({ cls := "ConkerYard", name := "count", desc := "(I)I" } : Jvm.MethodName) prog_1_method_66_code (2 : Nat) (Option.some Jvm.ClassFile.FieldType.int)) ∈ lw_all := lw_g (lw_at lw_m5 93 rfl) rfl
theorem q1181 : (Jvm.Cond.instanceMethod ({ cls := "ConkerYard", name := "image", desc := "(I)I" } : Jvm.MethodName)) ∈ lw_all := lw_g (lw_at lw_m5 95 rfl) rfl
theorem q1182 : (Jvm.Cond.selects "ConkerYard" ({ cls := "ConkerYard", name := "image", desc := "(I)I" } : Jvm.MethodName) ({ cls := "ConkerYard", name := "image", desc := "(I)I" } : Jvm.MethodName)) ∈ lw_all := lw_g (lw_at lw_m5 96 rfl) rfl
theorem q1183 : (Jvm.Cond.code ({ cls := "ConkerYard", name := "image", desc := "(I)I" } : Jvm.MethodName) prog_1_method_67_code (2 : Nat) (Option.some Jvm.ClassFile.FieldType.int)) ∈ lw_all := lw_g (lw_at lw_m5 97 rfl) rfl
theorem q1184 : (Jvm.Cond.constantLong "ConkerYard" (354 : Nat) (3 : Int64)) ∈ lw_all := lw_g (lw_at lw_m5 98 rfl) rfl
theorem q1186 : (Jvm.Cond.methodLinkNest "ConkerYard" (356 : Nat) ({ cls := "ConkerYard$Image", name := "<init>", desc := "(LConkerYard;)V" } : Jvm.MethodName) "ConkerYard") ∈ lw_tbl := lw_at lw_m5 100 rfl
theorem q1220 : (Jvm.Cond.methodLink "ConkerYard" (359 : Nat) ({ cls := "ConkerYard$Image", name := "holds", desc := "()V" } : Jvm.MethodName)) ∈ lw_all := lw_g (lw_at lw_m5 134 rfl) rfl
theorem q1226 : (Jvm.Cond.instanceMethod ({ cls := "ConkerYard", name := "back", desc := "(I)I" } : Jvm.MethodName)) ∈ lw_all := lw_g (lw_at lw_m5 140 rfl) rfl
theorem q1227 : (Jvm.Cond.selects "ConkerYard" ({ cls := "ConkerYard", name := "back", desc := "(I)I" } : Jvm.MethodName) ({ cls := "ConkerYard", name := "back", desc := "(I)I" } : Jvm.MethodName)) ∈ lw_all := lw_g (lw_at lw_m5 141 rfl) rfl
theorem q1228 : (Jvm.Cond.code ({ cls := "ConkerYard", name := "back", desc := "(I)I" } : Jvm.MethodName) prog_1_method_68_code (2 : Nat) (Option.some Jvm.ClassFile.FieldType.int)) ∈ lw_all := lw_g (lw_at lw_m5 142 rfl) rfl
theorem q1229 : (Jvm.Cond.methodLink "ConkerYard" (362 : Nat) ({ cls := "ConkerYard$Image", name := "laysBack", desc := "()V" } : Jvm.MethodName)) ∈ lw_all := lw_g (lw_at lw_m5 143 rfl) rfl
theorem q1883 : (Jvm.Cond.castable "ConkerYard" "java/lang/Object") ∈ lw_tbl := lw_at lw_m8 77 rfl
theorem q1912 : (Jvm.Cond.stringRef "ConkerYard" (367 : Nat) "striker") ∈ lw_tbl := lw_at lw_m8 106 rfl
theorem q1913 : (Jvm.Cond.stringRef "ConkerYard" (369 : Nat) "struck") ∈ lw_tbl := lw_at lw_m8 107 rfl
theorem q1914 : (Jvm.Cond.stringRef "ConkerYard" (371 : Nat) "hard") ∈ lw_tbl := lw_at lw_m8 108 rfl
theorem q1915 : (Jvm.Cond.stringRef "ConkerYard" (372 : Nat) "swing") ∈ lw_tbl := lw_at lw_m8 109 rfl
theorem q1916 : (Jvm.Cond.stringRef "ConkerYard" (373 : Nat) "cracks") ∈ lw_tbl := lw_at lw_m8 110 rfl
theorem q1917 : (Jvm.Cond.stringRef "ConkerYard" (374 : Nat) "score") ∈ lw_tbl := lw_at lw_m8 111 rfl
theorem q1918 : (Jvm.Cond.stringRef "ConkerYard" (375 : Nat) "armour") ∈ lw_tbl := lw_at lw_m8 112 rfl
theorem q1919 : (Jvm.Cond.stringRef "ConkerYard" (377 : Nat) "blow") ∈ lw_tbl := lw_at lw_m8 113 rfl
theorem q1920 : (Jvm.Cond.stringRef "ConkerYard" (379 : Nat) "gaps") ∈ lw_tbl := lw_at lw_m8 114 rfl
theorem q1921 : (Jvm.Cond.stringRef "ConkerYard" (381 : Nat) "worth") ∈ lw_tbl := lw_at lw_m8 115 rfl
theorem q1922 : (Jvm.Cond.stringRef "ConkerYard" (383 : Nat) "whole") ∈ lw_tbl := lw_at lw_m8 116 rfl
theorem q1923 : (Jvm.Cond.stringRef "ConkerYard" (384 : Nat) "strikes") ∈ lw_tbl := lw_at lw_m8 117 rfl
theorem q1924 : (Jvm.Cond.stringRef "ConkerYard" (385 : Nat) "round") ∈ lw_tbl := lw_at lw_m8 118 rfl
theorem in_X0 : ∀ w ∈ wsX00, w ∈ lw_all := lw_in wsX00 [361, 363, 365, 367, 369, 371, 373, 375, 377, 379, 381, 383, 385, 387, 389, 391, 393, 395, 397, 399, 401, 403, 405, 407, 409, 411, 413, 415, 417] (by decide +kernel) (by decide +kernel)
