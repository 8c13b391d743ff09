/-! ConkerYard$Yard -/
set_option maxRecDepth 100000
def RX1 : String := "ConkerYard$Yard"
def TX1 : u_T := fun k => match k with
  | 0 => ("ConkerYard$Yard", "conkers", "Ljava/util/ArrayList;", true)
  | 1 => ("ConkerYard$Yard", "cracked", "[I", true)
  | _ => ("ConkerYard$Yard", "strikes", "I", false)
def tyX1 : Nat → FieldType := fun k => match k with
  | 0 => .object "java/util/ArrayList"
  | 1 => .array .int
  | _ => .int
abbrev wsX10 : List Cond := u_ws RX1 TX1 3
theorem nmX1 : ∀ a, a < 3 → ∀ b, b < 3 → a ≠ b → (TX1 a).2.1 ≠ (TX1 b).2.1 := by decide +kernel
theorem tyX1_ok : ∀ k, k < 3 → parseFieldDescriptor (TX1 k).2.2.1 = some (tyX1 k) := by decide +kernel
abbrev cX1_init : ByteArray := prog_17_method_1_code
def yX1_init : MethodName := ⟨RX1, "<init>", "()V"⟩
def dkwX1_init_1 : List UInt8 := [177]
abbrev dktX1_init_1 : List UInt8 := dkwX1_init_1 ++ []
def dkwX1_init_0 : List UInt8 := [42, 183, 0, 3, 42, 187, 0, 9, 89, 5, 183, 0, 11, 181, 0, 14, 42, 16, 8, 188, 10, 181, 0, 20]
abbrev dktX1_init_0 : List UInt8 := dkwX1_init_0 ++ dktX1_init_1
theorem dksX1_init_0 : cX1_init.data.toList.drop 0 = dktX1_init_0 := by decide +kernel
theorem dksX1_init_1 : cX1_init.data.toList.drop 24 = dktX1_init_1 := dk_seg dksX1_init_0 24 rfl rfl
theorem dX1_init_0 : decode cX1_init 0 = .ok (.aload_n 0, 1) := dk_42 (dk_at dksX1_init_0 0 rfl rfl)
theorem dX1_init_1 : decode cX1_init 1 = .ok (.invokespecial 3, 3) := dk_183 0 3 (dk_at dksX1_init_0 1 rfl rfl)
theorem dX1_init_4 : decode cX1_init 4 = .ok (.aload_n 0, 1) := dk_42 (dk_at dksX1_init_0 4 rfl rfl)
theorem dX1_init_5 : decode cX1_init 5 = .ok (.new 9, 3) := dk_187 0 9 (dk_at dksX1_init_0 5 rfl rfl)
theorem dX1_init_8 : decode cX1_init 8 = .ok (.dup, 1) := dk_89 (dk_at dksX1_init_0 8 rfl rfl)
theorem dX1_init_9 : decode cX1_init 9 = .ok (.iconst 2, 1) := dk_5 (dk_at dksX1_init_0 9 rfl rfl)
theorem dX1_init_10 : decode cX1_init 10 = .ok (.invokespecial 11, 3) := dk_183 0 11 (dk_at dksX1_init_0 10 rfl rfl)
theorem dX1_init_13 : decode cX1_init 13 = .ok (.putfield 14, 3) := dk_181 0 14 (dk_at dksX1_init_0 13 rfl rfl)
theorem dX1_init_16 : decode cX1_init 16 = .ok (.aload_n 0, 1) := dk_42 (dk_at dksX1_init_0 16 rfl rfl)
theorem dX1_init_17 : decode cX1_init 17 = .ok (.bipush 8, 2) := dk_16 8 (dk_at dksX1_init_0 17 rfl rfl)
theorem dX1_init_19 : decode cX1_init 19 = .ok (.newarray .int, 2) := dk_188_10 (dk_at dksX1_init_0 19 rfl rfl)
theorem dX1_init_21 : decode cX1_init 21 = .ok (.putfield 20, 3) := dk_181 0 20 (dk_at dksX1_init_0 21 rfl rfl)
theorem dX1_init_24 : decode cX1_init 24 = .ok (.return_, 1) := dk_177 (dk_at dksX1_init_1 0 rfl rfl)
abbrev cX1_many : ByteArray := prog_17_method_2_code
def yX1_many : MethodName := ⟨RX1, "many", "()I"⟩
def dkwX1_many_0 : List UInt8 := [42, 180, 0, 14, 182, 0, 24, 172]
abbrev dktX1_many_0 : List UInt8 := dkwX1_many_0 ++ []
theorem dksX1_many_0 : cX1_many.data.toList.drop 0 = dktX1_many_0 := by decide +kernel
theorem dX1_many_0 : decode cX1_many 0 = .ok (.aload_n 0, 1) := dk_42 (dk_at dksX1_many_0 0 rfl rfl)
theorem dX1_many_1 : decode cX1_many 1 = .ok (.getfield 14, 3) := dk_180 0 14 (dk_at dksX1_many_0 1 rfl rfl)
theorem dX1_many_4 : decode cX1_many 4 = .ok (.invokevirtual 24, 3) := dk_182 0 24 (dk_at dksX1_many_0 4 rfl rfl)
theorem dX1_many_7 : decode cX1_many 7 = .ok (.ireturn, 1) := dk_172 (dk_at dksX1_many_0 7 rfl rfl)
theorem q128 : (Jvm.Cond.initialized "ConkerYard$Yard") ∈ lw_all := lw_g (lw_at lw_m1 2 rfl) rfl
theorem q170 : (Jvm.Cond.instantiable "ConkerYard$Yard" (3 : Nat)) ∈ lw_all := lw_g (lw_at lw_m1 44 rfl) rfl
theorem q172 : (Jvm.Cond.instanceMethod ({ cls := "ConkerYard$Yard", name := "<init>", desc := "()V" } : Jvm.MethodName)) ∈ lw_all := lw_g (lw_at lw_m1 46 rfl) rfl
theorem q173 : (Jvm.Cond.code ({ cls := "ConkerYard$Yard", name := "<init>", desc := "()V" } : Jvm.MethodName) prog_17_method_1_code (1 : Nat) (Option.none : Option Jvm.ClassFile.FieldType)) ∈ lw_all := lw_g (lw_at lw_m1 47 rfl) rfl
theorem q174 : (Jvm.Cond.methodLink "ConkerYard$Yard" (3 : Nat) ({ cls := "java/lang/Object", name := "<init>", desc := "()V" } : Jvm.MethodName)) ∈ lw_all := lw_g (lw_at lw_m1 48 rfl) rfl
theorem q175 : (Jvm.Cond.classLink "ConkerYard$Yard" (9 : Nat) "java/util/ArrayList") ∈ lw_all := lw_g (lw_at lw_m1 49 rfl) rfl
theorem q177 : (Jvm.Cond.methodLink "ConkerYard$Yard" (11 : Nat) ({ cls := "java/util/ArrayList", name := "<init>", desc := "(I)V" } : Jvm.MethodName)) ∈ lw_all := lw_g (lw_at lw_m1 51 rfl) rfl
theorem q203 : (Jvm.Cond.fieldLink "ConkerYard$Yard" (14 : Nat) "ConkerYard$Yard" "conkers" "Ljava/util/ArrayList;") ∈ lw_all := lw_g (lw_at lw_m1 77 rfl) rfl
theorem q206 : (Jvm.Cond.fieldLink "ConkerYard$Yard" (20 : Nat) "ConkerYard$Yard" "cracked" "[I") ∈ lw_all := lw_g (lw_at lw_m1 80 rfl) rfl
theorem q212 : (Jvm.Cond.laysFinal "ConkerYard$Yard" "ConkerYard$Yard" "conkers" "Ljava/util/ArrayList;") ∈ lw_all := lw_g (lw_at lw_m1 86 rfl) rfl
theorem q213 : (Jvm.Cond.soleField "ConkerYard$Yard" "conkers") ∈ lw_all := lw_g (lw_at lw_m1 87 rfl) rfl
theorem q214 : (Jvm.Cond.laysFinal "ConkerYard$Yard" "ConkerYard$Yard" "cracked" "[I") ∈ lw_all := lw_g (lw_at lw_m1 88 rfl) rfl
theorem q215 : (Jvm.Cond.soleField "ConkerYard$Yard" "cracked") ∈ lw_all := lw_g (lw_at lw_m1 89 rfl) rfl
theorem q216 : (Jvm.Cond.lays "ConkerYard$Yard" "ConkerYard$Yard" "strikes" "I") ∈ lw_all := lw_g (lw_at lw_m1 90 rfl) rfl
theorem q217 : (Jvm.Cond.soleField "ConkerYard$Yard" "strikes") ∈ lw_all := lw_g (lw_at lw_m1 91 rfl) rfl
theorem q218 : (Jvm.Cond.superclass "ConkerYard$Yard" "java/lang/Object") ∈ lw_all := lw_g (lw_at lw_m1 92 rfl) rfl
theorem q562 : (Jvm.Cond.instanceMethod ({ cls := "ConkerYard$Yard", name := "many", desc := "()I" } : Jvm.MethodName)) ∈ lw_all := lw_g (lw_at lw_m2 196 rfl) rfl
theorem q563 : (Jvm.Cond.selects "ConkerYard$Yard" ({ cls := "ConkerYard$Yard", name := "many", desc := "()I" } : Jvm.MethodName) ({ cls := "ConkerYard$Yard", name := "many", desc := "()I" } : Jvm.MethodName)) ∈ lw_all := lw_g (lw_at lw_m2 197 rfl) rfl
theorem q564 : (Jvm.Cond.code ({ cls := "ConkerYard$Yard", name := "many", desc := "()I" } : Jvm.MethodName) prog_17_method_2_code (1 : Nat) (Option.some Jvm.ClassFile.FieldType.int)) ∈ lw_all := lw_g (lw_at lw_m2 198 rfl) rfl
theorem q565 : (Jvm.Cond.methodLink "ConkerYard$Yard" (24 : Nat) ({ cls := "java/util/ArrayList", name := "size", desc := "()I" } : Jvm.MethodName)) ∈ lw_all := lw_g (lw_at lw_m2 199 rfl) rfl
theorem q644 : (Jvm.Cond.selects "ConkerYard$Yard" ({ cls := "java/lang/Object", name := "getClass", desc := "()Ljava/lang/Class;" } : Jvm.MethodName) ({ cls := "java/lang/Object", name := "getClass", desc := "()Ljava/lang/Class;" } : Jvm.MethodName)) ∈ lw_all := lw_g (lw_at lw_m3 38 rfl) rfl
theorem q1884 : (Jvm.Cond.castable "ConkerYard$Yard" "java/lang/Object") ∈ lw_tbl := lw_at lw_m8 78 rfl
theorem in_X1 : ∀ w ∈ wsX10, w ∈ lw_all := lw_in wsX10 [212, 214, 216] (by decide +kernel) (by decide +kernel)
/-! ConkerYard$State -/
set_option maxRecDepth 100000
def RX2 : String := "ConkerYard$State"
def TX2 : u_T := fun k => match k with
  | 0 => ("ConkerYard$State", "hard", "[I", true)
  | 1 => ("ConkerYard$State", "swing", "[I", true)
  | 2 => ("ConkerYard$State", "cracks", "[I", true)
  | 3 => ("ConkerYard$State", "score", "[I", true)
  | 4 => ("ConkerYard$State", "whole", "I", false)
  | _ => ("ConkerYard$State", "round", "I", false)
def tyX2 : Nat → FieldType := fun k => match k with
  | 0 => .array .int
  | 1 => .array .int
  | 2 => .array .int
  | 3 => .array .int
  | 4 => .int
  | _ => .int
abbrev wsX20 : List Cond := u_ws RX2 TX2 6
theorem nmX2 : ∀ a, a < 6 → ∀ b, b < 6 → a ≠ b → (TX2 a).2.1 ≠ (TX2 b).2.1 := by decide +kernel
theorem tyX2_ok : ∀ k, k < 6 → parseFieldDescriptor (TX2 k).2.2.1 = some (tyX2 k) := by decide +kernel
abbrev cX2_init : ByteArray := prog_13_method_1_code
def yX2_init : MethodName := ⟨RX2, "<init>", "()V"⟩
def dkwX2_init_1 : List UInt8 := [188, 10, 181, 0, 18, 42, 16, 8, 188, 10, 181, 0, 21, 177]
abbrev dktX2_init_1 : List UInt8 := dkwX2_init_1 ++ []
def dkwX2_init_0 : List UInt8 := [42, 183, 0, 3, 42, 16, 8, 188, 10, 181, 0, 9, 42, 16, 8, 188, 10, 181, 0, 15, 42, 16, 8]
abbrev dktX2_init_0 : List UInt8 := dkwX2_init_0 ++ dktX2_init_1
theorem dksX2_init_0 : cX2_init.data.toList.drop 0 = dktX2_init_0 := by decide +kernel
theorem dksX2_init_1 : cX2_init.data.toList.drop 23 = dktX2_init_1 := dk_seg dksX2_init_0 23 rfl rfl
theorem dX2_init_0 : decode cX2_init 0 = .ok (.aload_n 0, 1) := dk_42 (dk_at dksX2_init_0 0 rfl rfl)
theorem dX2_init_1 : decode cX2_init 1 = .ok (.invokespecial 3, 3) := dk_183 0 3 (dk_at dksX2_init_0 1 rfl rfl)
theorem dX2_init_4 : decode cX2_init 4 = .ok (.aload_n 0, 1) := dk_42 (dk_at dksX2_init_0 4 rfl rfl)
theorem dX2_init_5 : decode cX2_init 5 = .ok (.bipush 8, 2) := dk_16 8 (dk_at dksX2_init_0 5 rfl rfl)
theorem dX2_init_7 : decode cX2_init 7 = .ok (.newarray .int, 2) := dk_188_10 (dk_at dksX2_init_0 7 rfl rfl)
theorem dX2_init_9 : decode cX2_init 9 = .ok (.putfield 9, 3) := dk_181 0 9 (dk_at dksX2_init_0 9 rfl rfl)
theorem dX2_init_12 : decode cX2_init 12 = .ok (.aload_n 0, 1) := dk_42 (dk_at dksX2_init_0 12 rfl rfl)
theorem dX2_init_13 : decode cX2_init 13 = .ok (.bipush 8, 2) := dk_16 8 (dk_at dksX2_init_0 13 rfl rfl)
theorem dX2_init_15 : decode cX2_init 15 = .ok (.newarray .int, 2) := dk_188_10 (dk_at dksX2_init_0 15 rfl rfl)
theorem dX2_init_17 : decode cX2_init 17 = .ok (.putfield 15, 3) := dk_181 0 15 (dk_at dksX2_init_0 17 rfl rfl)
theorem dX2_init_20 : decode cX2_init 20 = .ok (.aload_n 0, 1) := dk_42 (dk_at dksX2_init_0 20 rfl rfl)
theorem dX2_init_21 : decode cX2_init 21 = .ok (.bipush 8, 2) := dk_16 8 (dk_at dksX2_init_0 21 rfl rfl)
theorem dX2_init_23 : decode cX2_init 23 = .ok (.newarray .int, 2) := dk_188_10 (dk_at dksX2_init_1 0 rfl rfl)
theorem dX2_init_25 : decode cX2_init 25 = .ok (.putfield 18, 3) := dk_181 0 18 (dk_at dksX2_init_1 2 rfl rfl)
theorem dX2_init_28 : decode cX2_init 28 = .ok (.aload_n 0, 1) := dk_42 (dk_at dksX2_init_1 5 rfl rfl)
theorem dX2_init_29 : decode cX2_init 29 = .ok (.bipush 8, 2) := dk_16 8 (dk_at dksX2_init_1 6 rfl rfl)
theorem dX2_init_31 : decode cX2_init 31 = .ok (.newarray .int, 2) := dk_188_10 (dk_at dksX2_init_1 8 rfl rfl)
theorem dX2_init_33 : decode cX2_init 33 = .ok (.putfield 21, 3) := dk_181 0 21 (dk_at dksX2_init_1 10 rfl rfl)
theorem dX2_init_36 : decode cX2_init 36 = .ok (.return_, 1) := dk_177 (dk_at dksX2_init_1 13 rfl rfl)
abbrev cX2_begin : ByteArray := prog_13_method_3_code
def yX2_begin : MethodName := ⟨RX2, "begin", "(LConkerYard$Yard;)V"⟩
def dkwX2_begin_6 : List UInt8 := [181, 0, 28, 177]
abbrev dktX2_begin_6 : List UInt8 := dkwX2_begin_6 ++ []
def dkwX2_begin_5 : List UInt8 := [28, 46, 79, 132, 2, 1, 167, 255, 137, 42, 4, 43, 182, 0, 31, 120, 4, 100, 181, 0, 24, 42, 3]
abbrev dktX2_begin_5 : List UInt8 := dkwX2_begin_5 ++ dktX2_begin_6
def dkwX2_begin_4 : List UInt8 := [28, 182, 0, 41, 192, 0, 47, 180, 0, 53, 167, 0, 4, 3, 79, 42, 180, 0, 18, 28, 43, 180, 0, 55]
abbrev dktX2_begin_4 : List UInt8 := dkwX2_begin_4 ++ dktX2_begin_5
def dkwX2_begin_3 : List UInt8 := [192, 0, 47, 180, 0, 51, 167, 0, 4, 3, 79, 42, 180, 0, 21, 28, 29, 153, 0, 20, 43, 180, 0, 37]
abbrev dktX2_begin_3 : List UInt8 := dkwX2_begin_3 ++ dktX2_begin_4
def dkwX2_begin_2 : List UInt8 := [167, 0, 4, 3, 79, 42, 180, 0, 15, 28, 29, 153, 0, 20, 43, 180, 0, 37, 28, 182, 0, 41]
abbrev dktX2_begin_2 : List UInt8 := dkwX2_begin_2 ++ dktX2_begin_3
def dkwX2_begin_1 : List UInt8 := [180, 0, 9, 28, 29, 153, 0, 20, 43, 180, 0, 37, 28, 182, 0, 41, 192, 0, 47, 180, 0, 49]
abbrev dktX2_begin_1 : List UInt8 := dkwX2_begin_1 ++ dktX2_begin_2
def dkwX2_begin_0 : List UInt8 := [3, 61, 28, 16, 8, 162, 0, 119, 28, 43, 182, 0, 31, 162, 0, 7, 4, 167, 0, 4, 3, 62, 42]
abbrev dktX2_begin_0 : List UInt8 := dkwX2_begin_0 ++ dktX2_begin_1
theorem dksX2_begin_0 : cX2_begin.data.toList.drop 0 = dktX2_begin_0 := by decide +kernel
theorem dksX2_begin_1 : cX2_begin.data.toList.drop 23 = dktX2_begin_1 := dk_seg dksX2_begin_0 23 rfl rfl
theorem dksX2_begin_2 : cX2_begin.data.toList.drop 45 = dktX2_begin_2 := dk_seg dksX2_begin_1 22 rfl rfl
theorem dksX2_begin_3 : cX2_begin.data.toList.drop 67 = dktX2_begin_3 := dk_seg dksX2_begin_2 22 rfl rfl
theorem dksX2_begin_4 : cX2_begin.data.toList.drop 91 = dktX2_begin_4 := dk_seg dksX2_begin_3 24 rfl rfl
theorem dksX2_begin_5 : cX2_begin.data.toList.drop 115 = dktX2_begin_5 := dk_seg dksX2_begin_4 24 rfl rfl
theorem dksX2_begin_6 : cX2_begin.data.toList.drop 138 = dktX2_begin_6 := dk_seg dksX2_begin_5 23 rfl rfl
theorem dX2_begin_0 : decode cX2_begin 0 = .ok (.iconst 0, 1) := dk_3 (dk_at dksX2_begin_0 0 rfl rfl)
theorem dX2_begin_1 : decode cX2_begin 1 = .ok (.istore_n 2, 1) := dk_61 (dk_at dksX2_begin_0 1 rfl rfl)
theorem dX2_begin_2 : decode cX2_begin 2 = .ok (.iload_n 2, 1) := dk_28 (dk_at dksX2_begin_0 2 rfl rfl)
theorem dX2_begin_3 : decode cX2_begin 3 = .ok (.bipush 8, 2) := dk_16 8 (dk_at dksX2_begin_0 3 rfl rfl)
theorem dX2_begin_5 : decode cX2_begin 5 = .ok (.if_icmp .ge 119, 3) := dk_162 0 119 (dk_at dksX2_begin_0 5 rfl rfl)
theorem dX2_begin_8 : decode cX2_begin 8 = .ok (.iload_n 2, 1) := dk_28 (dk_at dksX2_begin_0 8 rfl rfl)
theorem dX2_begin_9 : decode cX2_begin 9 = .ok (.aload_n 1, 1) := dk_43 (dk_at dksX2_begin_0 9 rfl rfl)
theorem dX2_begin_10 : decode cX2_begin 10 = .ok (.invokevirtual 31, 3) := dk_182 0 31 (dk_at dksX2_begin_0 10 rfl rfl)
theorem dX2_begin_13 : decode cX2_begin 13 = .ok (.if_icmp .ge 7, 3) := dk_162 0 7 (dk_at dksX2_begin_0 13 rfl rfl)
theorem dX2_begin_16 : decode cX2_begin 16 = .ok (.iconst 1, 1) := dk_4 (dk_at dksX2_begin_0 16 rfl rfl)
theorem dX2_begin_17 : decode cX2_begin 17 = .ok (.goto 4, 3) := dk_167 0 4 (dk_at dksX2_begin_0 17 rfl rfl)
theorem dX2_begin_20 : decode cX2_begin 20 = .ok (.iconst 0, 1) := dk_3 (dk_at dksX2_begin_0 20 rfl rfl)
theorem dX2_begin_21 : decode cX2_begin 21 = .ok (.istore_n 3, 1) := dk_62 (dk_at dksX2_begin_0 21 rfl rfl)
theorem dX2_begin_22 : decode cX2_begin 22 = .ok (.aload_n 0, 1) := dk_42 (dk_at dksX2_begin_0 22 rfl rfl)
theorem dX2_begin_23 : decode cX2_begin 23 = .ok (.getfield 9, 3) := dk_180 0 9 (dk_at dksX2_begin_1 0 rfl rfl)
theorem dX2_begin_26 : decode cX2_begin 26 = .ok (.iload_n 2, 1) := dk_28 (dk_at dksX2_begin_1 3 rfl rfl)
theorem dX2_begin_27 : decode cX2_begin 27 = .ok (.iload_n 3, 1) := dk_29 (dk_at dksX2_begin_1 4 rfl rfl)
theorem dX2_begin_28 : decode cX2_begin 28 = .ok (.ifCond .eq 20, 3) := dk_153 0 20 (dk_at dksX2_begin_1 5 rfl rfl)
theorem dX2_begin_31 : decode cX2_begin 31 = .ok (.aload_n 1, 1) := dk_43 (dk_at dksX2_begin_1 8 rfl rfl)
theorem dX2_begin_32 : decode cX2_begin 32 = .ok (.getfield 37, 3) := dk_180 0 37 (dk_at dksX2_begin_1 9 rfl rfl)
theorem dX2_begin_35 : decode cX2_begin 35 = .ok (.iload_n 2, 1) := dk_28 (dk_at dksX2_begin_1 12 rfl rfl)
theorem dX2_begin_36 : decode cX2_begin 36 = .ok (.invokevirtual 41, 3) := dk_182 0 41 (dk_at dksX2_begin_1 13 rfl rfl)
theorem dX2_begin_39 : decode cX2_begin 39 = .ok (.checkcast 47, 3) := dk_192 0 47 (dk_at dksX2_begin_1 16 rfl rfl)
theorem dX2_begin_42 : decode cX2_begin 42 = .ok (.getfield 49, 3) := dk_180 0 49 (dk_at dksX2_begin_1 19 rfl rfl)
theorem dX2_begin_45 : decode cX2_begin 45 = .ok (.goto 4, 3) := dk_167 0 4 (dk_at dksX2_begin_2 0 rfl rfl)
theorem dX2_begin_48 : decode cX2_begin 48 = .ok (.iconst 0, 1) := dk_3 (dk_at dksX2_begin_2 3 rfl rfl)
theorem dX2_begin_49 : decode cX2_begin 49 = .ok (.iastore, 1) := dk_79 (dk_at dksX2_begin_2 4 rfl rfl)
theorem dX2_begin_50 : decode cX2_begin 50 = .ok (.aload_n 0, 1) := dk_42 (dk_at dksX2_begin_2 5 rfl rfl)
theorem dX2_begin_51 : decode cX2_begin 51 = .ok (.getfield 15, 3) := dk_180 0 15 (dk_at dksX2_begin_2 6 rfl rfl)
theorem dX2_begin_54 : decode cX2_begin 54 = .ok (.iload_n 2, 1) := dk_28 (dk_at dksX2_begin_2 9 rfl rfl)
theorem dX2_begin_55 : decode cX2_begin 55 = .ok (.iload_n 3, 1) := dk_29 (dk_at dksX2_begin_2 10 rfl rfl)
theorem dX2_begin_56 : decode cX2_begin 56 = .ok (.ifCond .eq 20, 3) := dk_153 0 20 (dk_at dksX2_begin_2 11 rfl rfl)
theorem dX2_begin_59 : decode cX2_begin 59 = .ok (.aload_n 1, 1) := dk_43 (dk_at dksX2_begin_2 14 rfl rfl)
theorem dX2_begin_60 : decode cX2_begin 60 = .ok (.getfield 37, 3) := dk_180 0 37 (dk_at dksX2_begin_2 15 rfl rfl)
theorem dX2_begin_63 : decode cX2_begin 63 = .ok (.iload_n 2, 1) := dk_28 (dk_at dksX2_begin_2 18 rfl rfl)
theorem dX2_begin_64 : decode cX2_begin 64 = .ok (.invokevirtual 41, 3) := dk_182 0 41 (dk_at dksX2_begin_2 19 rfl rfl)
theorem dX2_begin_67 : decode cX2_begin 67 = .ok (.checkcast 47, 3) := dk_192 0 47 (dk_at dksX2_begin_3 0 rfl rfl)
theorem dX2_begin_70 : decode cX2_begin 70 = .ok (.getfield 51, 3) := dk_180 0 51 (dk_at dksX2_begin_3 3 rfl rfl)
theorem dX2_begin_73 : decode cX2_begin 73 = .ok (.goto 4, 3) := dk_167 0 4 (dk_at dksX2_begin_3 6 rfl rfl)
theorem dX2_begin_76 : decode cX2_begin 76 = .ok (.iconst 0, 1) := dk_3 (dk_at dksX2_begin_3 9 rfl rfl)
theorem dX2_begin_77 : decode cX2_begin 77 = .ok (.iastore, 1) := dk_79 (dk_at dksX2_begin_3 10 rfl rfl)
theorem dX2_begin_78 : decode cX2_begin 78 = .ok (.aload_n 0, 1) := dk_42 (dk_at dksX2_begin_3 11 rfl rfl)
theorem dX2_begin_79 : decode cX2_begin 79 = .ok (.getfield 21, 3) := dk_180 0 21 (dk_at dksX2_begin_3 12 rfl rfl)
theorem dX2_begin_82 : decode cX2_begin 82 = .ok (.iload_n 2, 1) := dk_28 (dk_at dksX2_begin_3 15 rfl rfl)
theorem dX2_begin_83 : decode cX2_begin 83 = .ok (.iload_n 3, 1) := dk_29 (dk_at dksX2_begin_3 16 rfl rfl)
theorem dX2_begin_84 : decode cX2_begin 84 = .ok (.ifCond .eq 20, 3) := dk_153 0 20 (dk_at dksX2_begin_3 17 rfl rfl)
theorem dX2_begin_87 : decode cX2_begin 87 = .ok (.aload_n 1, 1) := dk_43 (dk_at dksX2_begin_3 20 rfl rfl)
theorem dX2_begin_88 : decode cX2_begin 88 = .ok (.getfield 37, 3) := dk_180 0 37 (dk_at dksX2_begin_3 21 rfl rfl)
theorem dX2_begin_91 : decode cX2_begin 91 = .ok (.iload_n 2, 1) := dk_28 (dk_at dksX2_begin_4 0 rfl rfl)
theorem dX2_begin_92 : decode cX2_begin 92 = .ok (.invokevirtual 41, 3) := dk_182 0 41 (dk_at dksX2_begin_4 1 rfl rfl)
theorem dX2_begin_95 : decode cX2_begin 95 = .ok (.checkcast 47, 3) := dk_192 0 47 (dk_at dksX2_begin_4 4 rfl rfl)
theorem dX2_begin_98 : decode cX2_begin 98 = .ok (.getfield 53, 3) := dk_180 0 53 (dk_at dksX2_begin_4 7 rfl rfl)
theorem dX2_begin_101 : decode cX2_begin 101 = .ok (.goto 4, 3) := dk_167 0 4 (dk_at dksX2_begin_4 10 rfl rfl)
theorem dX2_begin_104 : decode cX2_begin 104 = .ok (.iconst 0, 1) := dk_3 (dk_at dksX2_begin_4 13 rfl rfl)
theorem dX2_begin_105 : decode cX2_begin 105 = .ok (.iastore, 1) := dk_79 (dk_at dksX2_begin_4 14 rfl rfl)
theorem dX2_begin_106 : decode cX2_begin 106 = .ok (.aload_n 0, 1) := dk_42 (dk_at dksX2_begin_4 15 rfl rfl)
theorem dX2_begin_107 : decode cX2_begin 107 = .ok (.getfield 18, 3) := dk_180 0 18 (dk_at dksX2_begin_4 16 rfl rfl)
theorem dX2_begin_110 : decode cX2_begin 110 = .ok (.iload_n 2, 1) := dk_28 (dk_at dksX2_begin_4 19 rfl rfl)
theorem dX2_begin_111 : decode cX2_begin 111 = .ok (.aload_n 1, 1) := dk_43 (dk_at dksX2_begin_4 20 rfl rfl)
theorem dX2_begin_112 : decode cX2_begin 112 = .ok (.getfield 55, 3) := dk_180 0 55 (dk_at dksX2_begin_4 21 rfl rfl)
theorem dX2_begin_115 : decode cX2_begin 115 = .ok (.iload_n 2, 1) := dk_28 (dk_at dksX2_begin_5 0 rfl rfl)
theorem dX2_begin_116 : decode cX2_begin 116 = .ok (.iaload, 1) := dk_46 (dk_at dksX2_begin_5 1 rfl rfl)
theorem dX2_begin_117 : decode cX2_begin 117 = .ok (.iastore, 1) := dk_79 (dk_at dksX2_begin_5 2 rfl rfl)
theorem dX2_begin_118 : decode cX2_begin 118 = .ok (.iinc 2 1, 3) := dk_132 2 1 (dk_at dksX2_begin_5 3 rfl rfl)
theorem dX2_begin_121 : decode cX2_begin 121 = .ok (.goto (-119), 3) := dk_167 255 137 (dk_at dksX2_begin_5 6 rfl rfl)
theorem dX2_begin_124 : decode cX2_begin 124 = .ok (.aload_n 0, 1) := dk_42 (dk_at dksX2_begin_5 9 rfl rfl)
theorem dX2_begin_125 : decode cX2_begin 125 = .ok (.iconst 1, 1) := dk_4 (dk_at dksX2_begin_5 10 rfl rfl)
theorem dX2_begin_126 : decode cX2_begin 126 = .ok (.aload_n 1, 1) := dk_43 (dk_at dksX2_begin_5 11 rfl rfl)
theorem dX2_begin_127 : decode cX2_begin 127 = .ok (.invokevirtual 31, 3) := dk_182 0 31 (dk_at dksX2_begin_5 12 rfl rfl)
theorem dX2_begin_130 : decode cX2_begin 130 = .ok (.ishl, 1) := dk_120 (dk_at dksX2_begin_5 15 rfl rfl)
theorem dX2_begin_131 : decode cX2_begin 131 = .ok (.iconst 1, 1) := dk_4 (dk_at dksX2_begin_5 16 rfl rfl)
theorem dX2_begin_132 : decode cX2_begin 132 = .ok (.isub, 1) := dk_100 (dk_at dksX2_begin_5 17 rfl rfl)
theorem dX2_begin_133 : decode cX2_begin 133 = .ok (.putfield 24, 3) := dk_181 0 24 (dk_at dksX2_begin_5 18 rfl rfl)
theorem dX2_begin_136 : decode cX2_begin 136 = .ok (.aload_n 0, 1) := dk_42 (dk_at dksX2_begin_5 21 rfl rfl)
theorem dX2_begin_137 : decode cX2_begin 137 = .ok (.iconst 0, 1) := dk_3 (dk_at dksX2_begin_5 22 rfl rfl)
theorem dX2_begin_138 : decode cX2_begin 138 = .ok (.putfield 28, 3) := dk_181 0 28 (dk_at dksX2_begin_6 0 rfl rfl)
theorem dX2_begin_141 : decode cX2_begin 141 = .ok (.return_, 1) := dk_177 (dk_at dksX2_begin_6 3 rfl rfl)
abbrev cX2_copyFrom : ByteArray := prog_13_method_2_code
def yX2_copyFrom : MethodName := ⟨RX2, "copyFrom", "(LConkerYard$State;)V"⟩
def dkwX2_copyFrom_3 : List UInt8 := [180, 0, 28, 181, 0, 28, 177]
abbrev dktX2_copyFrom_3 : List UInt8 := dkwX2_copyFrom_3 ++ []
def dkwX2_copyFrom_2 : List UInt8 := [28, 43, 180, 0, 21, 28, 46, 79, 132, 2, 1, 167, 255, 199, 42, 43, 180, 0, 24, 181, 0, 24, 42, 43]
abbrev dktX2_copyFrom_2 : List UInt8 := dkwX2_copyFrom_2 ++ dktX2_copyFrom_3
def dkwX2_copyFrom_1 : List UInt8 := [28, 43, 180, 0, 15, 28, 46, 79, 42, 180, 0, 18, 28, 43, 180, 0, 18, 28, 46, 79, 42, 180, 0, 21]
abbrev dktX2_copyFrom_1 : List UInt8 := dkwX2_copyFrom_1 ++ dktX2_copyFrom_2
def dkwX2_copyFrom_0 : List UInt8 := [3, 61, 28, 16, 8, 162, 0, 57, 42, 180, 0, 9, 28, 43, 180, 0, 9, 28, 46, 79, 42, 180, 0, 15]
abbrev dktX2_copyFrom_0 : List UInt8 := dkwX2_copyFrom_0 ++ dktX2_copyFrom_1
theorem dksX2_copyFrom_0 : cX2_copyFrom.data.toList.drop 0 = dktX2_copyFrom_0 := by decide +kernel
theorem dksX2_copyFrom_1 : cX2_copyFrom.data.toList.drop 24 = dktX2_copyFrom_1 := dk_seg dksX2_copyFrom_0 24 rfl rfl
theorem dksX2_copyFrom_2 : cX2_copyFrom.data.toList.drop 48 = dktX2_copyFrom_2 := dk_seg dksX2_copyFrom_1 24 rfl rfl
theorem dksX2_copyFrom_3 : cX2_copyFrom.data.toList.drop 72 = dktX2_copyFrom_3 := dk_seg dksX2_copyFrom_2 24 rfl rfl
theorem dX2_copyFrom_0 : decode cX2_copyFrom 0 = .ok (.iconst 0, 1) := dk_3 (dk_at dksX2_copyFrom_0 0 rfl rfl)
theorem dX2_copyFrom_1 : decode cX2_copyFrom 1 = .ok (.istore_n 2, 1) := dk_61 (dk_at dksX2_copyFrom_0 1 rfl rfl)
theorem dX2_copyFrom_2 : decode cX2_copyFrom 2 = .ok (.iload_n 2, 1) := dk_28 (dk_at dksX2_copyFrom_0 2 rfl rfl)
theorem dX2_copyFrom_3 : decode cX2_copyFrom 3 = .ok (.bipush 8, 2) := dk_16 8 (dk_at dksX2_copyFrom_0 3 rfl rfl)
theorem dX2_copyFrom_5 : decode cX2_copyFrom 5 = .ok (.if_icmp .ge 57, 3) := dk_162 0 57 (dk_at dksX2_copyFrom_0 5 rfl rfl)
theorem dX2_copyFrom_8 : decode cX2_copyFrom 8 = .ok (.aload_n 0, 1) := dk_42 (dk_at dksX2_copyFrom_0 8 rfl rfl)
theorem dX2_copyFrom_9 : decode cX2_copyFrom 9 = .ok (.getfield 9, 3) := dk_180 0 9 (dk_at dksX2_copyFrom_0 9 rfl rfl)
theorem dX2_copyFrom_12 : decode cX2_copyFrom 12 = .ok (.iload_n 2, 1) := dk_28 (dk_at dksX2_copyFrom_0 12 rfl rfl)
theorem dX2_copyFrom_13 : decode cX2_copyFrom 13 = .ok (.aload_n 1, 1) := dk_43 (dk_at dksX2_copyFrom_0 13 rfl rfl)
theorem dX2_copyFrom_14 : decode cX2_copyFrom 14 = .ok (.getfield 9, 3) := dk_180 0 9 (dk_at dksX2_copyFrom_0 14 rfl rfl)
theorem dX2_copyFrom_17 : decode cX2_copyFrom 17 = .ok (.iload_n 2, 1) := dk_28 (dk_at dksX2_copyFrom_0 17 rfl rfl)
theorem dX2_copyFrom_18 : decode cX2_copyFrom 18 = .ok (.iaload, 1) := dk_46 (dk_at dksX2_copyFrom_0 18 rfl rfl)
theorem dX2_copyFrom_19 : decode cX2_copyFrom 19 = .ok (.iastore, 1) := dk_79 (dk_at dksX2_copyFrom_0 19 rfl rfl)
theorem dX2_copyFrom_20 : decode cX2_copyFrom 20 = .ok (.aload_n 0, 1) := dk_42 (dk_at dksX2_copyFrom_0 20 rfl rfl)
theorem dX2_copyFrom_21 : decode cX2_copyFrom 21 = .ok (.getfield 15, 3) := dk_180 0 15 (dk_at dksX2_copyFrom_0 21 rfl rfl)
theorem dX2_copyFrom_24 : decode cX2_copyFrom 24 = .ok (.iload_n 2, 1) := dk_28 (dk_at dksX2_copyFrom_1 0 rfl rfl)
theorem dX2_copyFrom_25 : decode cX2_copyFrom 25 = .ok (.aload_n 1, 1) := dk_43 (dk_at dksX2_copyFrom_1 1 rfl rfl)
theorem dX2_copyFrom_26 : decode cX2_copyFrom 26 = .ok (.getfield 15, 3) := dk_180 0 15 (dk_at dksX2_copyFrom_1 2 rfl rfl)
theorem dX2_copyFrom_29 : decode cX2_copyFrom 29 = .ok (.iload_n 2, 1) := dk_28 (dk_at dksX2_copyFrom_1 5 rfl rfl)
theorem dX2_copyFrom_30 : decode cX2_copyFrom 30 = .ok (.iaload, 1) := dk_46 (dk_at dksX2_copyFrom_1 6 rfl rfl)
theorem dX2_copyFrom_31 : decode cX2_copyFrom 31 = .ok (.iastore, 1) := dk_79 (dk_at dksX2_copyFrom_1 7 rfl rfl)
theorem dX2_copyFrom_32 : decode cX2_copyFrom 32 = .ok (.aload_n 0, 1) := dk_42 (dk_at dksX2_copyFrom_1 8 rfl rfl)
theorem dX2_copyFrom_33 : decode cX2_copyFrom 33 = .ok (.getfield 18, 3) := dk_180 0 18 (dk_at dksX2_copyFrom_1 9 rfl rfl)
theorem dX2_copyFrom_36 : decode cX2_copyFrom 36 = .ok (.iload_n 2, 1) := dk_28 (dk_at dksX2_copyFrom_1 12 rfl rfl)
theorem dX2_copyFrom_37 : decode cX2_copyFrom 37 = .ok (.aload_n 1, 1) := dk_43 (dk_at dksX2_copyFrom_1 13 rfl rfl)
theorem dX2_copyFrom_38 : decode cX2_copyFrom 38 = .ok (.getfield 18, 3) := dk_180 0 18 (dk_at dksX2_copyFrom_1 14 rfl rfl)
theorem dX2_copyFrom_41 : decode cX2_copyFrom 41 = .ok (.iload_n 2, 1) := dk_28 (dk_at dksX2_copyFrom_1 17 rfl rfl)
theorem dX2_copyFrom_42 : decode cX2_copyFrom 42 = .ok (.iaload, 1) := dk_46 (dk_at dksX2_copyFrom_1 18 rfl rfl)
theorem dX2_copyFrom_43 : decode cX2_copyFrom 43 = .ok (.iastore, 1) := dk_79 (dk_at dksX2_copyFrom_1 19 rfl rfl)
theorem dX2_copyFrom_44 : decode cX2_copyFrom 44 = .ok (.aload_n 0, 1) := dk_42 (dk_at dksX2_copyFrom_1 20 rfl rfl)
theorem dX2_copyFrom_45 : decode cX2_copyFrom 45 = .ok (.getfield 21, 3) := dk_180 0 21 (dk_at dksX2_copyFrom_1 21 rfl rfl)
theorem dX2_copyFrom_48 : decode cX2_copyFrom 48 = .ok (.iload_n 2, 1) := dk_28 (dk_at dksX2_copyFrom_2 0 rfl rfl)
theorem dX2_copyFrom_49 : decode cX2_copyFrom 49 = .ok (.aload_n 1, 1) := dk_43 (dk_at dksX2_copyFrom_2 1 rfl rfl)
theorem dX2_copyFrom_50 : decode cX2_copyFrom 50 = .ok (.getfield 21, 3) := dk_180 0 21 (dk_at dksX2_copyFrom_2 2 rfl rfl)
theorem dX2_copyFrom_53 : decode cX2_copyFrom 53 = .ok (.iload_n 2, 1) := dk_28 (dk_at dksX2_copyFrom_2 5 rfl rfl)
theorem dX2_copyFrom_54 : decode cX2_copyFrom 54 = .ok (.iaload, 1) := dk_46 (dk_at dksX2_copyFrom_2 6 rfl rfl)
theorem dX2_copyFrom_55 : decode cX2_copyFrom 55 = .ok (.iastore, 1) := dk_79 (dk_at dksX2_copyFrom_2 7 rfl rfl)
theorem dX2_copyFrom_56 : decode cX2_copyFrom 56 = .ok (.iinc 2 1, 3) := dk_132 2 1 (dk_at dksX2_copyFrom_2 8 rfl rfl)
theorem dX2_copyFrom_59 : decode cX2_copyFrom 59 = .ok (.goto (-57), 3) := dk_167 255 199 (dk_at dksX2_copyFrom_2 11 rfl rfl)
theorem dX2_copyFrom_62 : decode cX2_copyFrom 62 = .ok (.aload_n 0, 1) := dk_42 (dk_at dksX2_copyFrom_2 14 rfl rfl)
theorem dX2_copyFrom_63 : decode cX2_copyFrom 63 = .ok (.aload_n 1, 1) := dk_43 (dk_at dksX2_copyFrom_2 15 rfl rfl)
theorem dX2_copyFrom_64 : decode cX2_copyFrom 64 = .ok (.getfield 24, 3) := dk_180 0 24 (dk_at dksX2_copyFrom_2 16 rfl rfl)
theorem dX2_copyFrom_67 : decode cX2_copyFrom 67 = .ok (.putfield 24, 3) := dk_181 0 24 (dk_at dksX2_copyFrom_2 19 rfl rfl)
theorem dX2_copyFrom_70 : decode cX2_copyFrom 70 = .ok (.aload_n 0, 1) := dk_42 (dk_at dksX2_copyFrom_2 22 rfl rfl)
theorem dX2_copyFrom_71 : decode cX2_copyFrom 71 = .ok (.aload_n 1, 1) := dk_43 (dk_at dksX2_copyFrom_2 23 rfl rfl)
theorem dX2_copyFrom_72 : decode cX2_copyFrom 72 = .ok (.getfield 28, 3) := dk_180 0 28 (dk_at dksX2_copyFrom_3 0 rfl rfl)
theorem dX2_copyFrom_75 : decode cX2_copyFrom 75 = .ok (.putfield 28, 3) := dk_181 0 28 (dk_at dksX2_copyFrom_3 3 rfl rfl)
theorem dX2_copyFrom_78 : decode cX2_copyFrom 78 = .ok (.return_, 1) := dk_177 (dk_at dksX2_copyFrom_3 6 rfl rfl)
abbrev cX2_heals : ByteArray := prog_13_method_7_code
def yX2_heals : MethodName := ⟨RX2, "heals", "(I)V"⟩
def dkwX2_heals_1 : List UInt8 := [180, 0, 18, 28, 3, 42, 180, 0, 18, 28, 46, 4, 100, 184, 0, 72, 79, 132, 2, 1, 167, 255, 214, 177]
abbrev dktX2_heals_1 : List UInt8 := dkwX2_heals_1 ++ []
def dkwX2_heals_0 : List UInt8 := [3, 61, 28, 16, 8, 162, 0, 42, 42, 180, 0, 24, 27, 2, 130, 126, 28, 184, 0, 68, 153, 0, 21, 42]
abbrev dktX2_heals_0 : List UInt8 := dkwX2_heals_0 ++ dktX2_heals_1
theorem dksX2_heals_0 : cX2_heals.data.toList.drop 0 = dktX2_heals_0 := by decide +kernel
theorem dksX2_heals_1 : cX2_heals.data.toList.drop 24 = dktX2_heals_1 := dk_seg dksX2_heals_0 24 rfl rfl
theorem dX2_heals_0 : decode cX2_heals 0 = .ok (.iconst 0, 1) := dk_3 (dk_at dksX2_heals_0 0 rfl rfl)
theorem dX2_heals_1 : decode cX2_heals 1 = .ok (.istore_n 2, 1) := dk_61 (dk_at dksX2_heals_0 1 rfl rfl)
theorem dX2_heals_2 : decode cX2_heals 2 = .ok (.iload_n 2, 1) := dk_28 (dk_at dksX2_heals_0 2 rfl rfl)
theorem dX2_heals_3 : decode cX2_heals 3 = .ok (.bipush 8, 2) := dk_16 8 (dk_at dksX2_heals_0 3 rfl rfl)
theorem dX2_heals_5 : decode cX2_heals 5 = .ok (.if_icmp .ge 42, 3) := dk_162 0 42 (dk_at dksX2_heals_0 5 rfl rfl)
theorem dX2_heals_8 : decode cX2_heals 8 = .ok (.aload_n 0, 1) := dk_42 (dk_at dksX2_heals_0 8 rfl rfl)
theorem dX2_heals_9 : decode cX2_heals 9 = .ok (.getfield 24, 3) := dk_180 0 24 (dk_at dksX2_heals_0 9 rfl rfl)
theorem dX2_heals_12 : decode cX2_heals 12 = .ok (.iload_n 1, 1) := dk_27 (dk_at dksX2_heals_0 12 rfl rfl)
theorem dX2_heals_13 : decode cX2_heals 13 = .ok (.iconst (-1), 1) := dk_2 (dk_at dksX2_heals_0 13 rfl rfl)
theorem dX2_heals_14 : decode cX2_heals 14 = .ok (.ixor, 1) := dk_130 (dk_at dksX2_heals_0 14 rfl rfl)
theorem dX2_heals_15 : decode cX2_heals 15 = .ok (.iand, 1) := dk_126 (dk_at dksX2_heals_0 15 rfl rfl)
theorem dX2_heals_16 : decode cX2_heals 16 = .ok (.iload_n 2, 1) := dk_28 (dk_at dksX2_heals_0 16 rfl rfl)
theorem dX2_heals_17 : decode cX2_heals 17 = .ok (.invokestatic 68, 3) := dk_184 0 68 (dk_at dksX2_heals_0 17 rfl rfl)
theorem dX2_heals_20 : decode cX2_heals 20 = .ok (.ifCond .eq 21, 3) := dk_153 0 21 (dk_at dksX2_heals_0 20 rfl rfl)
theorem dX2_heals_23 : decode cX2_heals 23 = .ok (.aload_n 0, 1) := dk_42 (dk_at dksX2_heals_0 23 rfl rfl)
theorem dX2_heals_24 : decode cX2_heals 24 = .ok (.getfield 18, 3) := dk_180 0 18 (dk_at dksX2_heals_1 0 rfl rfl)
theorem dX2_heals_27 : decode cX2_heals 27 = .ok (.iload_n 2, 1) := dk_28 (dk_at dksX2_heals_1 3 rfl rfl)
theorem dX2_heals_28 : decode cX2_heals 28 = .ok (.iconst 0, 1) := dk_3 (dk_at dksX2_heals_1 4 rfl rfl)
theorem dX2_heals_29 : decode cX2_heals 29 = .ok (.aload_n 0, 1) := dk_42 (dk_at dksX2_heals_1 5 rfl rfl)
theorem dX2_heals_30 : decode cX2_heals 30 = .ok (.getfield 18, 3) := dk_180 0 18 (dk_at dksX2_heals_1 6 rfl rfl)
theorem dX2_heals_33 : decode cX2_heals 33 = .ok (.iload_n 2, 1) := dk_28 (dk_at dksX2_heals_1 9 rfl rfl)
theorem dX2_heals_34 : decode cX2_heals 34 = .ok (.iaload, 1) := dk_46 (dk_at dksX2_heals_1 10 rfl rfl)
theorem dX2_heals_35 : decode cX2_heals 35 = .ok (.iconst 1, 1) := dk_4 (dk_at dksX2_heals_1 11 rfl rfl)
theorem dX2_heals_36 : decode cX2_heals 36 = .ok (.isub, 1) := dk_100 (dk_at dksX2_heals_1 12 rfl rfl)
theorem dX2_heals_37 : decode cX2_heals 37 = .ok (.invokestatic 72, 3) := dk_184 0 72 (dk_at dksX2_heals_1 13 rfl rfl)
theorem dX2_heals_40 : decode cX2_heals 40 = .ok (.iastore, 1) := dk_79 (dk_at dksX2_heals_1 16 rfl rfl)
theorem dX2_heals_41 : decode cX2_heals 41 = .ok (.iinc 2 1, 3) := dk_132 2 1 (dk_at dksX2_heals_1 17 rfl rfl)
theorem dX2_heals_44 : decode cX2_heals 44 = .ok (.goto (-42), 3) := dk_167 255 214 (dk_at dksX2_heals_1 20 rfl rfl)
theorem dX2_heals_47 : decode cX2_heals 47 = .ok (.return_, 1) := dk_177 (dk_at dksX2_heals_1 23 rfl rfl)
abbrev cX2_fights : ByteArray := prog_13_method_6_code
def yX2_fights : MethodName := ⟨RX2, "fights", "(III)I"⟩
def dkwX2_fights_7 : List UInt8 := [79, 21, 6, 172]
abbrev dktX2_fights_7 : List UInt8 := dkwX2_fights_7 ++ []
def dkwX2_fights_6 : List UInt8 := [21, 7, 46, 42, 180, 0, 21, 21, 6, 46, 96, 4, 96, 184, 0, 62, 79, 42, 180, 0, 21, 21, 6, 3]
abbrev dktX2_fights_6 : List UInt8 := dkwX2_fights_6 ++ dktX2_fights_7
def dkwX2_fights_5 : List UInt8 := [21, 6, 42, 180, 0, 9, 21, 6, 46, 79, 42, 180, 0, 21, 21, 7, 17, 3, 231, 42, 180, 0, 21]
abbrev dktX2_fights_5 : List UInt8 := dkwX2_fights_5 ++ dktX2_fights_6
def dkwX2_fights_4 : List UInt8 := [21, 6, 100, 54, 7, 42, 89, 180, 0, 24, 4, 21, 6, 120, 2, 130, 126, 181, 0, 24, 42, 180, 0, 18]
abbrev dktX2_fights_4 : List UInt8 := dkwX2_fights_4 ++ dktX2_fights_5
def dkwX2_fights_3 : List UInt8 := [160, 0, 5, 2, 172, 21, 4, 5, 112, 4, 160, 0, 7, 28, 167, 0, 4, 27, 54, 6, 27, 28, 96]
abbrev dktX2_fights_3 : List UInt8 := dkwX2_fights_3 ++ dktX2_fights_4
def dkwX2_fights_2 : List UInt8 := [42, 180, 0, 18, 27, 92, 46, 42, 180, 0, 15, 28, 46, 21, 5, 5, 108, 104, 96, 79, 21, 4, 2]
abbrev dktX2_fights_2 : List UInt8 := dkwX2_fights_2 ++ dktX2_fights_3
def dkwX2_fights_1 : List UInt8 := [54, 5, 42, 180, 0, 18, 28, 92, 46, 42, 180, 0, 15, 27, 46, 21, 5, 4, 96, 5, 108, 104, 96, 79]
abbrev dktX2_fights_1 : List UInt8 := dkwX2_fights_1 ++ dktX2_fights_2
def dkwX2_fights_0 : List UInt8 := [42, 27, 28, 29, 182, 0, 58, 54, 4, 21, 4, 2, 160, 0, 9, 5, 29, 104, 167, 0, 5, 21, 4]
abbrev dktX2_fights_0 : List UInt8 := dkwX2_fights_0 ++ dktX2_fights_1
theorem dksX2_fights_0 : cX2_fights.data.toList.drop 0 = dktX2_fights_0 := by decide +kernel
theorem dksX2_fights_1 : cX2_fights.data.toList.drop 23 = dktX2_fights_1 := dk_seg dksX2_fights_0 23 rfl rfl
theorem dksX2_fights_2 : cX2_fights.data.toList.drop 47 = dktX2_fights_2 := dk_seg dksX2_fights_1 24 rfl rfl
theorem dksX2_fights_3 : cX2_fights.data.toList.drop 70 = dktX2_fights_3 := dk_seg dksX2_fights_2 23 rfl rfl
theorem dksX2_fights_4 : cX2_fights.data.toList.drop 93 = dktX2_fights_4 := dk_seg dksX2_fights_3 23 rfl rfl
theorem dksX2_fights_5 : cX2_fights.data.toList.drop 117 = dktX2_fights_5 := dk_seg dksX2_fights_4 24 rfl rfl
theorem dksX2_fights_6 : cX2_fights.data.toList.drop 140 = dktX2_fights_6 := dk_seg dksX2_fights_5 23 rfl rfl
theorem dksX2_fights_7 : cX2_fights.data.toList.drop 164 = dktX2_fights_7 := dk_seg dksX2_fights_6 24 rfl rfl
theorem dX2_fights_0 : decode cX2_fights 0 = .ok (.aload_n 0, 1) := dk_42 (dk_at dksX2_fights_0 0 rfl rfl)
theorem dX2_fights_1 : decode cX2_fights 1 = .ok (.iload_n 1, 1) := dk_27 (dk_at dksX2_fights_0 1 rfl rfl)
theorem dX2_fights_2 : decode cX2_fights 2 = .ok (.iload_n 2, 1) := dk_28 (dk_at dksX2_fights_0 2 rfl rfl)
theorem dX2_fights_3 : decode cX2_fights 3 = .ok (.iload_n 3, 1) := dk_29 (dk_at dksX2_fights_0 3 rfl rfl)
theorem dX2_fights_4 : decode cX2_fights 4 = .ok (.invokevirtual 58, 3) := dk_182 0 58 (dk_at dksX2_fights_0 4 rfl rfl)
theorem dX2_fights_7 : decode cX2_fights 7 = .ok (.istore 4, 2) := dk_54 4 (dk_at dksX2_fights_0 7 rfl rfl)
theorem dX2_fights_9 : decode cX2_fights 9 = .ok (.iload 4, 2) := dk_21 4 (dk_at dksX2_fights_0 9 rfl rfl)
theorem dX2_fights_11 : decode cX2_fights 11 = .ok (.iconst (-1), 1) := dk_2 (dk_at dksX2_fights_0 11 rfl rfl)
theorem dX2_fights_12 : decode cX2_fights 12 = .ok (.if_icmp .ne 9, 3) := dk_160 0 9 (dk_at dksX2_fights_0 12 rfl rfl)
theorem dX2_fights_15 : decode cX2_fights 15 = .ok (.iconst 2, 1) := dk_5 (dk_at dksX2_fights_0 15 rfl rfl)
theorem dX2_fights_16 : decode cX2_fights 16 = .ok (.iload_n 3, 1) := dk_29 (dk_at dksX2_fights_0 16 rfl rfl)
theorem dX2_fights_17 : decode cX2_fights 17 = .ok (.imul, 1) := dk_104 (dk_at dksX2_fights_0 17 rfl rfl)
theorem dX2_fights_18 : decode cX2_fights 18 = .ok (.goto 5, 3) := dk_167 0 5 (dk_at dksX2_fights_0 18 rfl rfl)
theorem dX2_fights_21 : decode cX2_fights 21 = .ok (.iload 4, 2) := dk_21 4 (dk_at dksX2_fights_0 21 rfl rfl)
theorem dX2_fights_23 : decode cX2_fights 23 = .ok (.istore 5, 2) := dk_54 5 (dk_at dksX2_fights_1 0 rfl rfl)
theorem dX2_fights_25 : decode cX2_fights 25 = .ok (.aload_n 0, 1) := dk_42 (dk_at dksX2_fights_1 2 rfl rfl)
theorem dX2_fights_26 : decode cX2_fights 26 = .ok (.getfield 18, 3) := dk_180 0 18 (dk_at dksX2_fights_1 3 rfl rfl)
theorem dX2_fights_29 : decode cX2_fights 29 = .ok (.iload_n 2, 1) := dk_28 (dk_at dksX2_fights_1 6 rfl rfl)
theorem dX2_fights_30 : decode cX2_fights 30 = .ok (.dup2, 1) := dk_92 (dk_at dksX2_fights_1 7 rfl rfl)
theorem dX2_fights_31 : decode cX2_fights 31 = .ok (.iaload, 1) := dk_46 (dk_at dksX2_fights_1 8 rfl rfl)
theorem dX2_fights_32 : decode cX2_fights 32 = .ok (.aload_n 0, 1) := dk_42 (dk_at dksX2_fights_1 9 rfl rfl)
theorem dX2_fights_33 : decode cX2_fights 33 = .ok (.getfield 15, 3) := dk_180 0 15 (dk_at dksX2_fights_1 10 rfl rfl)
theorem dX2_fights_36 : decode cX2_fights 36 = .ok (.iload_n 1, 1) := dk_27 (dk_at dksX2_fights_1 13 rfl rfl)
theorem dX2_fights_37 : decode cX2_fights 37 = .ok (.iaload, 1) := dk_46 (dk_at dksX2_fights_1 14 rfl rfl)
theorem dX2_fights_38 : decode cX2_fights 38 = .ok (.iload 5, 2) := dk_21 5 (dk_at dksX2_fights_1 15 rfl rfl)
theorem dX2_fights_40 : decode cX2_fights 40 = .ok (.iconst 1, 1) := dk_4 (dk_at dksX2_fights_1 17 rfl rfl)
theorem dX2_fights_41 : decode cX2_fights 41 = .ok (.iadd, 1) := dk_96 (dk_at dksX2_fights_1 18 rfl rfl)
theorem dX2_fights_42 : decode cX2_fights 42 = .ok (.iconst 2, 1) := dk_5 (dk_at dksX2_fights_1 19 rfl rfl)
theorem dX2_fights_43 : decode cX2_fights 43 = .ok (.idiv, 1) := dk_108 (dk_at dksX2_fights_1 20 rfl rfl)
theorem dX2_fights_44 : decode cX2_fights 44 = .ok (.imul, 1) := dk_104 (dk_at dksX2_fights_1 21 rfl rfl)
theorem dX2_fights_45 : decode cX2_fights 45 = .ok (.iadd, 1) := dk_96 (dk_at dksX2_fights_1 22 rfl rfl)
theorem dX2_fights_46 : decode cX2_fights 46 = .ok (.iastore, 1) := dk_79 (dk_at dksX2_fights_1 23 rfl rfl)
theorem dX2_fights_47 : decode cX2_fights 47 = .ok (.aload_n 0, 1) := dk_42 (dk_at dksX2_fights_2 0 rfl rfl)
theorem dX2_fights_48 : decode cX2_fights 48 = .ok (.getfield 18, 3) := dk_180 0 18 (dk_at dksX2_fights_2 1 rfl rfl)
theorem dX2_fights_51 : decode cX2_fights 51 = .ok (.iload_n 1, 1) := dk_27 (dk_at dksX2_fights_2 4 rfl rfl)
theorem dX2_fights_52 : decode cX2_fights 52 = .ok (.dup2, 1) := dk_92 (dk_at dksX2_fights_2 5 rfl rfl)
theorem dX2_fights_53 : decode cX2_fights 53 = .ok (.iaload, 1) := dk_46 (dk_at dksX2_fights_2 6 rfl rfl)
theorem dX2_fights_54 : decode cX2_fights 54 = .ok (.aload_n 0, 1) := dk_42 (dk_at dksX2_fights_2 7 rfl rfl)
theorem dX2_fights_55 : decode cX2_fights 55 = .ok (.getfield 15, 3) := dk_180 0 15 (dk_at dksX2_fights_2 8 rfl rfl)
theorem dX2_fights_58 : decode cX2_fights 58 = .ok (.iload_n 2, 1) := dk_28 (dk_at dksX2_fights_2 11 rfl rfl)
theorem dX2_fights_59 : decode cX2_fights 59 = .ok (.iaload, 1) := dk_46 (dk_at dksX2_fights_2 12 rfl rfl)
theorem dX2_fights_60 : decode cX2_fights 60 = .ok (.iload 5, 2) := dk_21 5 (dk_at dksX2_fights_2 13 rfl rfl)
theorem dX2_fights_62 : decode cX2_fights 62 = .ok (.iconst 2, 1) := dk_5 (dk_at dksX2_fights_2 15 rfl rfl)
theorem dX2_fights_63 : decode cX2_fights 63 = .ok (.idiv, 1) := dk_108 (dk_at dksX2_fights_2 16 rfl rfl)
theorem dX2_fights_64 : decode cX2_fights 64 = .ok (.imul, 1) := dk_104 (dk_at dksX2_fights_2 17 rfl rfl)
theorem dX2_fights_65 : decode cX2_fights 65 = .ok (.iadd, 1) := dk_96 (dk_at dksX2_fights_2 18 rfl rfl)
theorem dX2_fights_66 : decode cX2_fights 66 = .ok (.iastore, 1) := dk_79 (dk_at dksX2_fights_2 19 rfl rfl)
theorem dX2_fights_67 : decode cX2_fights 67 = .ok (.iload 4, 2) := dk_21 4 (dk_at dksX2_fights_2 20 rfl rfl)
theorem dX2_fights_69 : decode cX2_fights 69 = .ok (.iconst (-1), 1) := dk_2 (dk_at dksX2_fights_2 22 rfl rfl)
theorem dX2_fights_70 : decode cX2_fights 70 = .ok (.if_icmp .ne 5, 3) := dk_160 0 5 (dk_at dksX2_fights_3 0 rfl rfl)
theorem dX2_fights_73 : decode cX2_fights 73 = .ok (.iconst (-1), 1) := dk_2 (dk_at dksX2_fights_3 3 rfl rfl)
theorem dX2_fights_74 : decode cX2_fights 74 = .ok (.ireturn, 1) := dk_172 (dk_at dksX2_fights_3 4 rfl rfl)
theorem dX2_fights_75 : decode cX2_fights 75 = .ok (.iload 4, 2) := dk_21 4 (dk_at dksX2_fights_3 5 rfl rfl)
theorem dX2_fights_77 : decode cX2_fights 77 = .ok (.iconst 2, 1) := dk_5 (dk_at dksX2_fights_3 7 rfl rfl)
theorem dX2_fights_78 : decode cX2_fights 78 = .ok (.irem, 1) := dk_112 (dk_at dksX2_fights_3 8 rfl rfl)
theorem dX2_fights_79 : decode cX2_fights 79 = .ok (.iconst 1, 1) := dk_4 (dk_at dksX2_fights_3 9 rfl rfl)
theorem dX2_fights_80 : decode cX2_fights 80 = .ok (.if_icmp .ne 7, 3) := dk_160 0 7 (dk_at dksX2_fights_3 10 rfl rfl)
theorem dX2_fights_83 : decode cX2_fights 83 = .ok (.iload_n 2, 1) := dk_28 (dk_at dksX2_fights_3 13 rfl rfl)
theorem dX2_fights_84 : decode cX2_fights 84 = .ok (.goto 4, 3) := dk_167 0 4 (dk_at dksX2_fights_3 14 rfl rfl)
theorem dX2_fights_87 : decode cX2_fights 87 = .ok (.iload_n 1, 1) := dk_27 (dk_at dksX2_fights_3 17 rfl rfl)
theorem dX2_fights_88 : decode cX2_fights 88 = .ok (.istore 6, 2) := dk_54 6 (dk_at dksX2_fights_3 18 rfl rfl)
theorem dX2_fights_90 : decode cX2_fights 90 = .ok (.iload_n 1, 1) := dk_27 (dk_at dksX2_fights_3 20 rfl rfl)
theorem dX2_fights_91 : decode cX2_fights 91 = .ok (.iload_n 2, 1) := dk_28 (dk_at dksX2_fights_3 21 rfl rfl)
theorem dX2_fights_92 : decode cX2_fights 92 = .ok (.iadd, 1) := dk_96 (dk_at dksX2_fights_3 22 rfl rfl)
theorem dX2_fights_93 : decode cX2_fights 93 = .ok (.iload 6, 2) := dk_21 6 (dk_at dksX2_fights_4 0 rfl rfl)
theorem dX2_fights_95 : decode cX2_fights 95 = .ok (.isub, 1) := dk_100 (dk_at dksX2_fights_4 2 rfl rfl)
theorem dX2_fights_96 : decode cX2_fights 96 = .ok (.istore 7, 2) := dk_54 7 (dk_at dksX2_fights_4 3 rfl rfl)
theorem dX2_fights_98 : decode cX2_fights 98 = .ok (.aload_n 0, 1) := dk_42 (dk_at dksX2_fights_4 5 rfl rfl)
theorem dX2_fights_99 : decode cX2_fights 99 = .ok (.dup, 1) := dk_89 (dk_at dksX2_fights_4 6 rfl rfl)
theorem dX2_fights_100 : decode cX2_fights 100 = .ok (.getfield 24, 3) := dk_180 0 24 (dk_at dksX2_fights_4 7 rfl rfl)
theorem dX2_fights_103 : decode cX2_fights 103 = .ok (.iconst 1, 1) := dk_4 (dk_at dksX2_fights_4 10 rfl rfl)
theorem dX2_fights_104 : decode cX2_fights 104 = .ok (.iload 6, 2) := dk_21 6 (dk_at dksX2_fights_4 11 rfl rfl)
theorem dX2_fights_106 : decode cX2_fights 106 = .ok (.ishl, 1) := dk_120 (dk_at dksX2_fights_4 13 rfl rfl)
theorem dX2_fights_107 : decode cX2_fights 107 = .ok (.iconst (-1), 1) := dk_2 (dk_at dksX2_fights_4 14 rfl rfl)
theorem dX2_fights_108 : decode cX2_fights 108 = .ok (.ixor, 1) := dk_130 (dk_at dksX2_fights_4 15 rfl rfl)
theorem dX2_fights_109 : decode cX2_fights 109 = .ok (.iand, 1) := dk_126 (dk_at dksX2_fights_4 16 rfl rfl)
theorem dX2_fights_110 : decode cX2_fights 110 = .ok (.putfield 24, 3) := dk_181 0 24 (dk_at dksX2_fights_4 17 rfl rfl)
theorem dX2_fights_113 : decode cX2_fights 113 = .ok (.aload_n 0, 1) := dk_42 (dk_at dksX2_fights_4 20 rfl rfl)
theorem dX2_fights_114 : decode cX2_fights 114 = .ok (.getfield 18, 3) := dk_180 0 18 (dk_at dksX2_fights_4 21 rfl rfl)
theorem dX2_fights_117 : decode cX2_fights 117 = .ok (.iload 6, 2) := dk_21 6 (dk_at dksX2_fights_5 0 rfl rfl)
theorem dX2_fights_119 : decode cX2_fights 119 = .ok (.aload_n 0, 1) := dk_42 (dk_at dksX2_fights_5 2 rfl rfl)
theorem dX2_fights_120 : decode cX2_fights 120 = .ok (.getfield 9, 3) := dk_180 0 9 (dk_at dksX2_fights_5 3 rfl rfl)
theorem dX2_fights_123 : decode cX2_fights 123 = .ok (.iload 6, 2) := dk_21 6 (dk_at dksX2_fights_5 6 rfl rfl)
theorem dX2_fights_125 : decode cX2_fights 125 = .ok (.iaload, 1) := dk_46 (dk_at dksX2_fights_5 8 rfl rfl)
theorem dX2_fights_126 : decode cX2_fights 126 = .ok (.iastore, 1) := dk_79 (dk_at dksX2_fights_5 9 rfl rfl)
theorem dX2_fights_127 : decode cX2_fights 127 = .ok (.aload_n 0, 1) := dk_42 (dk_at dksX2_fights_5 10 rfl rfl)
theorem dX2_fights_128 : decode cX2_fights 128 = .ok (.getfield 21, 3) := dk_180 0 21 (dk_at dksX2_fights_5 11 rfl rfl)
theorem dX2_fights_131 : decode cX2_fights 131 = .ok (.iload 7, 2) := dk_21 7 (dk_at dksX2_fights_5 14 rfl rfl)
theorem dX2_fights_133 : decode cX2_fights 133 = .ok (.sipush 999, 3) := dk_17 3 231 (dk_at dksX2_fights_5 16 rfl rfl)
theorem dX2_fights_136 : decode cX2_fights 136 = .ok (.aload_n 0, 1) := dk_42 (dk_at dksX2_fights_5 19 rfl rfl)
theorem dX2_fights_137 : decode cX2_fights 137 = .ok (.getfield 21, 3) := dk_180 0 21 (dk_at dksX2_fights_5 20 rfl rfl)
theorem dX2_fights_140 : decode cX2_fights 140 = .ok (.iload 7, 2) := dk_21 7 (dk_at dksX2_fights_6 0 rfl rfl)
theorem dX2_fights_142 : decode cX2_fights 142 = .ok (.iaload, 1) := dk_46 (dk_at dksX2_fights_6 2 rfl rfl)
theorem dX2_fights_143 : decode cX2_fights 143 = .ok (.aload_n 0, 1) := dk_42 (dk_at dksX2_fights_6 3 rfl rfl)
theorem dX2_fights_144 : decode cX2_fights 144 = .ok (.getfield 21, 3) := dk_180 0 21 (dk_at dksX2_fights_6 4 rfl rfl)
theorem dX2_fights_147 : decode cX2_fights 147 = .ok (.iload 6, 2) := dk_21 6 (dk_at dksX2_fights_6 7 rfl rfl)
theorem dX2_fights_149 : decode cX2_fights 149 = .ok (.iaload, 1) := dk_46 (dk_at dksX2_fights_6 9 rfl rfl)
theorem dX2_fights_150 : decode cX2_fights 150 = .ok (.iadd, 1) := dk_96 (dk_at dksX2_fights_6 10 rfl rfl)
theorem dX2_fights_151 : decode cX2_fights 151 = .ok (.iconst 1, 1) := dk_4 (dk_at dksX2_fights_6 11 rfl rfl)
theorem dX2_fights_152 : decode cX2_fights 152 = .ok (.iadd, 1) := dk_96 (dk_at dksX2_fights_6 12 rfl rfl)
theorem dX2_fights_153 : decode cX2_fights 153 = .ok (.invokestatic 62, 3) := dk_184 0 62 (dk_at dksX2_fights_6 13 rfl rfl)
theorem dX2_fights_156 : decode cX2_fights 156 = .ok (.iastore, 1) := dk_79 (dk_at dksX2_fights_6 16 rfl rfl)
theorem dX2_fights_157 : decode cX2_fights 157 = .ok (.aload_n 0, 1) := dk_42 (dk_at dksX2_fights_6 17 rfl rfl)
theorem dX2_fights_158 : decode cX2_fights 158 = .ok (.getfield 21, 3) := dk_180 0 21 (dk_at dksX2_fights_6 18 rfl rfl)
theorem dX2_fights_161 : decode cX2_fights 161 = .ok (.iload 6, 2) := dk_21 6 (dk_at dksX2_fights_6 21 rfl rfl)
theorem dX2_fights_163 : decode cX2_fights 163 = .ok (.iconst 0, 1) := dk_3 (dk_at dksX2_fights_6 23 rfl rfl)
theorem dX2_fights_164 : decode cX2_fights 164 = .ok (.iastore, 1) := dk_79 (dk_at dksX2_fights_7 0 rfl rfl)
theorem dX2_fights_165 : decode cX2_fights 165 = .ok (.iload 6, 2) := dk_21 6 (dk_at dksX2_fights_7 1 rfl rfl)
theorem dX2_fights_167 : decode cX2_fights 167 = .ok (.ireturn, 1) := dk_172 (dk_at dksX2_fights_7 3 rfl rfl)
abbrev cX2_strikesOf : ByteArray := prog_13_method_4_code
def yX2_strikesOf : MethodName := ⟨RX2, "strikesOf", "(III)I"⟩
def dkwX2_strikesOf_4 : List UInt8 := [167, 0, 4, 2, 172]
abbrev dktX2_strikesOf_4 : List UInt8 := dkwX2_strikesOf_4 ++ []
def dkwX2_strikesOf_3 : List UInt8 := [21, 4, 21, 5, 163, 0, 10, 5, 21, 4, 104, 4, 100, 172, 21, 5, 29, 163, 0, 10, 5, 21, 5, 104]
abbrev dktX2_strikesOf_3 : List UInt8 := dkwX2_strikesOf_3 ++ dktX2_strikesOf_4
def dkwX2_strikesOf_2 : List UInt8 := [180, 0, 15, 28, 46, 96, 4, 100, 42, 180, 0, 15, 28, 46, 108, 54, 5, 21, 4, 29, 163, 0, 17]
abbrev dktX2_strikesOf_2 : List UInt8 := dkwX2_strikesOf_2 ++ dktX2_strikesOf_3
def dkwX2_strikesOf_1 : List UInt8 := [180, 0, 15, 27, 46, 108, 54, 4, 42, 180, 0, 9, 27, 46, 42, 180, 0, 18, 27, 46, 100, 42]
abbrev dktX2_strikesOf_1 : List UInt8 := dkwX2_strikesOf_1 ++ dktX2_strikesOf_2
def dkwX2_strikesOf_0 : List UInt8 := [42, 180, 0, 9, 28, 46, 42, 180, 0, 18, 28, 46, 100, 42, 180, 0, 15, 27, 46, 96, 4, 100, 42]
abbrev dktX2_strikesOf_0 : List UInt8 := dkwX2_strikesOf_0 ++ dktX2_strikesOf_1
theorem dksX2_strikesOf_0 : cX2_strikesOf.data.toList.drop 0 = dktX2_strikesOf_0 := by decide +kernel
theorem dksX2_strikesOf_1 : cX2_strikesOf.data.toList.drop 23 = dktX2_strikesOf_1 := dk_seg dksX2_strikesOf_0 23 rfl rfl
theorem dksX2_strikesOf_2 : cX2_strikesOf.data.toList.drop 45 = dktX2_strikesOf_2 := dk_seg dksX2_strikesOf_1 22 rfl rfl
theorem dksX2_strikesOf_3 : cX2_strikesOf.data.toList.drop 68 = dktX2_strikesOf_3 := dk_seg dksX2_strikesOf_2 23 rfl rfl
theorem dksX2_strikesOf_4 : cX2_strikesOf.data.toList.drop 92 = dktX2_strikesOf_4 := dk_seg dksX2_strikesOf_3 24 rfl rfl
theorem dX2_strikesOf_0 : decode cX2_strikesOf 0 = .ok (.aload_n 0, 1) := dk_42 (dk_at dksX2_strikesOf_0 0 rfl rfl)
theorem dX2_strikesOf_1 : decode cX2_strikesOf 1 = .ok (.getfield 9, 3) := dk_180 0 9 (dk_at dksX2_strikesOf_0 1 rfl rfl)
theorem dX2_strikesOf_4 : decode cX2_strikesOf 4 = .ok (.iload_n 2, 1) := dk_28 (dk_at dksX2_strikesOf_0 4 rfl rfl)
theorem dX2_strikesOf_5 : decode cX2_strikesOf 5 = .ok (.iaload, 1) := dk_46 (dk_at dksX2_strikesOf_0 5 rfl rfl)
theorem dX2_strikesOf_6 : decode cX2_strikesOf 6 = .ok (.aload_n 0, 1) := dk_42 (dk_at dksX2_strikesOf_0 6 rfl rfl)
theorem dX2_strikesOf_7 : decode cX2_strikesOf 7 = .ok (.getfield 18, 3) := dk_180 0 18 (dk_at dksX2_strikesOf_0 7 rfl rfl)
theorem dX2_strikesOf_10 : decode cX2_strikesOf 10 = .ok (.iload_n 2, 1) := dk_28 (dk_at dksX2_strikesOf_0 10 rfl rfl)
theorem dX2_strikesOf_11 : decode cX2_strikesOf 11 = .ok (.iaload, 1) := dk_46 (dk_at dksX2_strikesOf_0 11 rfl rfl)
theorem dX2_strikesOf_12 : decode cX2_strikesOf 12 = .ok (.isub, 1) := dk_100 (dk_at dksX2_strikesOf_0 12 rfl rfl)
theorem dX2_strikesOf_13 : decode cX2_strikesOf 13 = .ok (.aload_n 0, 1) := dk_42 (dk_at dksX2_strikesOf_0 13 rfl rfl)
theorem dX2_strikesOf_14 : decode cX2_strikesOf 14 = .ok (.getfield 15, 3) := dk_180 0 15 (dk_at dksX2_strikesOf_0 14 rfl rfl)
theorem dX2_strikesOf_17 : decode cX2_strikesOf 17 = .ok (.iload_n 1, 1) := dk_27 (dk_at dksX2_strikesOf_0 17 rfl rfl)
theorem dX2_strikesOf_18 : decode cX2_strikesOf 18 = .ok (.iaload, 1) := dk_46 (dk_at dksX2_strikesOf_0 18 rfl rfl)
theorem dX2_strikesOf_19 : decode cX2_strikesOf 19 = .ok (.iadd, 1) := dk_96 (dk_at dksX2_strikesOf_0 19 rfl rfl)
theorem dX2_strikesOf_20 : decode cX2_strikesOf 20 = .ok (.iconst 1, 1) := dk_4 (dk_at dksX2_strikesOf_0 20 rfl rfl)
theorem dX2_strikesOf_21 : decode cX2_strikesOf 21 = .ok (.isub, 1) := dk_100 (dk_at dksX2_strikesOf_0 21 rfl rfl)
theorem dX2_strikesOf_22 : decode cX2_strikesOf 22 = .ok (.aload_n 0, 1) := dk_42 (dk_at dksX2_strikesOf_0 22 rfl rfl)
theorem dX2_strikesOf_23 : decode cX2_strikesOf 23 = .ok (.getfield 15, 3) := dk_180 0 15 (dk_at dksX2_strikesOf_1 0 rfl rfl)
theorem dX2_strikesOf_26 : decode cX2_strikesOf 26 = .ok (.iload_n 1, 1) := dk_27 (dk_at dksX2_strikesOf_1 3 rfl rfl)
theorem dX2_strikesOf_27 : decode cX2_strikesOf 27 = .ok (.iaload, 1) := dk_46 (dk_at dksX2_strikesOf_1 4 rfl rfl)
theorem dX2_strikesOf_28 : decode cX2_strikesOf 28 = .ok (.idiv, 1) := dk_108 (dk_at dksX2_strikesOf_1 5 rfl rfl)
theorem dX2_strikesOf_29 : decode cX2_strikesOf 29 = .ok (.istore 4, 2) := dk_54 4 (dk_at dksX2_strikesOf_1 6 rfl rfl)
theorem dX2_strikesOf_31 : decode cX2_strikesOf 31 = .ok (.aload_n 0, 1) := dk_42 (dk_at dksX2_strikesOf_1 8 rfl rfl)
theorem dX2_strikesOf_32 : decode cX2_strikesOf 32 = .ok (.getfield 9, 3) := dk_180 0 9 (dk_at dksX2_strikesOf_1 9 rfl rfl)
theorem dX2_strikesOf_35 : decode cX2_strikesOf 35 = .ok (.iload_n 1, 1) := dk_27 (dk_at dksX2_strikesOf_1 12 rfl rfl)
theorem dX2_strikesOf_36 : decode cX2_strikesOf 36 = .ok (.iaload, 1) := dk_46 (dk_at dksX2_strikesOf_1 13 rfl rfl)
theorem dX2_strikesOf_37 : decode cX2_strikesOf 37 = .ok (.aload_n 0, 1) := dk_42 (dk_at dksX2_strikesOf_1 14 rfl rfl)
theorem dX2_strikesOf_38 : decode cX2_strikesOf 38 = .ok (.getfield 18, 3) := dk_180 0 18 (dk_at dksX2_strikesOf_1 15 rfl rfl)
theorem dX2_strikesOf_41 : decode cX2_strikesOf 41 = .ok (.iload_n 1, 1) := dk_27 (dk_at dksX2_strikesOf_1 18 rfl rfl)
theorem dX2_strikesOf_42 : decode cX2_strikesOf 42 = .ok (.iaload, 1) := dk_46 (dk_at dksX2_strikesOf_1 19 rfl rfl)
theorem dX2_strikesOf_43 : decode cX2_strikesOf 43 = .ok (.isub, 1) := dk_100 (dk_at dksX2_strikesOf_1 20 rfl rfl)
theorem dX2_strikesOf_44 : decode cX2_strikesOf 44 = .ok (.aload_n 0, 1) := dk_42 (dk_at dksX2_strikesOf_1 21 rfl rfl)
theorem dX2_strikesOf_45 : decode cX2_strikesOf 45 = .ok (.getfield 15, 3) := dk_180 0 15 (dk_at dksX2_strikesOf_2 0 rfl rfl)
theorem dX2_strikesOf_48 : decode cX2_strikesOf 48 = .ok (.iload_n 2, 1) := dk_28 (dk_at dksX2_strikesOf_2 3 rfl rfl)
theorem dX2_strikesOf_49 : decode cX2_strikesOf 49 = .ok (.iaload, 1) := dk_46 (dk_at dksX2_strikesOf_2 4 rfl rfl)
theorem dX2_strikesOf_50 : decode cX2_strikesOf 50 = .ok (.iadd, 1) := dk_96 (dk_at dksX2_strikesOf_2 5 rfl rfl)
theorem dX2_strikesOf_51 : decode cX2_strikesOf 51 = .ok (.iconst 1, 1) := dk_4 (dk_at dksX2_strikesOf_2 6 rfl rfl)
theorem dX2_strikesOf_52 : decode cX2_strikesOf 52 = .ok (.isub, 1) := dk_100 (dk_at dksX2_strikesOf_2 7 rfl rfl)
theorem dX2_strikesOf_53 : decode cX2_strikesOf 53 = .ok (.aload_n 0, 1) := dk_42 (dk_at dksX2_strikesOf_2 8 rfl rfl)
theorem dX2_strikesOf_54 : decode cX2_strikesOf 54 = .ok (.getfield 15, 3) := dk_180 0 15 (dk_at dksX2_strikesOf_2 9 rfl rfl)
theorem dX2_strikesOf_57 : decode cX2_strikesOf 57 = .ok (.iload_n 2, 1) := dk_28 (dk_at dksX2_strikesOf_2 12 rfl rfl)
theorem dX2_strikesOf_58 : decode cX2_strikesOf 58 = .ok (.iaload, 1) := dk_46 (dk_at dksX2_strikesOf_2 13 rfl rfl)
theorem dX2_strikesOf_59 : decode cX2_strikesOf 59 = .ok (.idiv, 1) := dk_108 (dk_at dksX2_strikesOf_2 14 rfl rfl)
theorem dX2_strikesOf_60 : decode cX2_strikesOf 60 = .ok (.istore 5, 2) := dk_54 5 (dk_at dksX2_strikesOf_2 15 rfl rfl)
theorem dX2_strikesOf_62 : decode cX2_strikesOf 62 = .ok (.iload 4, 2) := dk_21 4 (dk_at dksX2_strikesOf_2 17 rfl rfl)
theorem dX2_strikesOf_64 : decode cX2_strikesOf 64 = .ok (.iload_n 3, 1) := dk_29 (dk_at dksX2_strikesOf_2 19 rfl rfl)
theorem dX2_strikesOf_65 : decode cX2_strikesOf 65 = .ok (.if_icmp .gt 17, 3) := dk_163 0 17 (dk_at dksX2_strikesOf_2 20 rfl rfl)
theorem dX2_strikesOf_68 : decode cX2_strikesOf 68 = .ok (.iload 4, 2) := dk_21 4 (dk_at dksX2_strikesOf_3 0 rfl rfl)
theorem dX2_strikesOf_70 : decode cX2_strikesOf 70 = .ok (.iload 5, 2) := dk_21 5 (dk_at dksX2_strikesOf_3 2 rfl rfl)
theorem dX2_strikesOf_72 : decode cX2_strikesOf 72 = .ok (.if_icmp .gt 10, 3) := dk_163 0 10 (dk_at dksX2_strikesOf_3 4 rfl rfl)
theorem dX2_strikesOf_75 : decode cX2_strikesOf 75 = .ok (.iconst 2, 1) := dk_5 (dk_at dksX2_strikesOf_3 7 rfl rfl)
theorem dX2_strikesOf_76 : decode cX2_strikesOf 76 = .ok (.iload 4, 2) := dk_21 4 (dk_at dksX2_strikesOf_3 8 rfl rfl)
theorem dX2_strikesOf_78 : decode cX2_strikesOf 78 = .ok (.imul, 1) := dk_104 (dk_at dksX2_strikesOf_3 10 rfl rfl)
theorem dX2_strikesOf_79 : decode cX2_strikesOf 79 = .ok (.iconst 1, 1) := dk_4 (dk_at dksX2_strikesOf_3 11 rfl rfl)
theorem dX2_strikesOf_80 : decode cX2_strikesOf 80 = .ok (.isub, 1) := dk_100 (dk_at dksX2_strikesOf_3 12 rfl rfl)
theorem dX2_strikesOf_81 : decode cX2_strikesOf 81 = .ok (.ireturn, 1) := dk_172 (dk_at dksX2_strikesOf_3 13 rfl rfl)
theorem dX2_strikesOf_82 : decode cX2_strikesOf 82 = .ok (.iload 5, 2) := dk_21 5 (dk_at dksX2_strikesOf_3 14 rfl rfl)
theorem dX2_strikesOf_84 : decode cX2_strikesOf 84 = .ok (.iload_n 3, 1) := dk_29 (dk_at dksX2_strikesOf_3 16 rfl rfl)
theorem dX2_strikesOf_85 : decode cX2_strikesOf 85 = .ok (.if_icmp .gt 10, 3) := dk_163 0 10 (dk_at dksX2_strikesOf_3 17 rfl rfl)
theorem dX2_strikesOf_88 : decode cX2_strikesOf 88 = .ok (.iconst 2, 1) := dk_5 (dk_at dksX2_strikesOf_3 20 rfl rfl)
theorem dX2_strikesOf_89 : decode cX2_strikesOf 89 = .ok (.iload 5, 2) := dk_21 5 (dk_at dksX2_strikesOf_3 21 rfl rfl)
theorem dX2_strikesOf_91 : decode cX2_strikesOf 91 = .ok (.imul, 1) := dk_104 (dk_at dksX2_strikesOf_3 23 rfl rfl)
theorem dX2_strikesOf_92 : decode cX2_strikesOf 92 = .ok (.goto 4, 3) := dk_167 0 4 (dk_at dksX2_strikesOf_4 0 rfl rfl)
theorem dX2_strikesOf_95 : decode cX2_strikesOf 95 = .ok (.iconst (-1), 1) := dk_2 (dk_at dksX2_strikesOf_4 3 rfl rfl)
theorem dX2_strikesOf_96 : decode cX2_strikesOf 96 = .ok (.ireturn, 1) := dk_172 (dk_at dksX2_strikesOf_4 4 rfl rfl)
abbrev cX2_hardens : ByteArray := prog_13_method_9_code
def yX2_hardens : MethodName := ⟨RX2, "hardens", "(II)V"⟩
def dkwX2_hardens_0 : List UInt8 := [42, 180, 0, 9, 27, 16, 60, 42, 180, 0, 9, 27, 46, 28, 96, 184, 0, 62, 79, 177]
abbrev dktX2_hardens_0 : List UInt8 := dkwX2_hardens_0 ++ []
theorem dksX2_hardens_0 : cX2_hardens.data.toList.drop 0 = dktX2_hardens_0 := by decide +kernel
theorem dX2_hardens_0 : decode cX2_hardens 0 = .ok (.aload_n 0, 1) := dk_42 (dk_at dksX2_hardens_0 0 rfl rfl)
theorem dX2_hardens_1 : decode cX2_hardens 1 = .ok (.getfield 9, 3) := dk_180 0 9 (dk_at dksX2_hardens_0 1 rfl rfl)
theorem dX2_hardens_4 : decode cX2_hardens 4 = .ok (.iload_n 1, 1) := dk_27 (dk_at dksX2_hardens_0 4 rfl rfl)
theorem dX2_hardens_5 : decode cX2_hardens 5 = .ok (.bipush 60, 2) := dk_16 60 (dk_at dksX2_hardens_0 5 rfl rfl)
theorem dX2_hardens_7 : decode cX2_hardens 7 = .ok (.aload_n 0, 1) := dk_42 (dk_at dksX2_hardens_0 7 rfl rfl)
theorem dX2_hardens_8 : decode cX2_hardens 8 = .ok (.getfield 9, 3) := dk_180 0 9 (dk_at dksX2_hardens_0 8 rfl rfl)
theorem dX2_hardens_11 : decode cX2_hardens 11 = .ok (.iload_n 1, 1) := dk_27 (dk_at dksX2_hardens_0 11 rfl rfl)
theorem dX2_hardens_12 : decode cX2_hardens 12 = .ok (.iaload, 1) := dk_46 (dk_at dksX2_hardens_0 12 rfl rfl)
theorem dX2_hardens_13 : decode cX2_hardens 13 = .ok (.iload_n 2, 1) := dk_28 (dk_at dksX2_hardens_0 13 rfl rfl)
theorem dX2_hardens_14 : decode cX2_hardens 14 = .ok (.iadd, 1) := dk_96 (dk_at dksX2_hardens_0 14 rfl rfl)
theorem dX2_hardens_15 : decode cX2_hardens 15 = .ok (.invokestatic 62, 3) := dk_184 0 62 (dk_at dksX2_hardens_0 15 rfl rfl)
theorem dX2_hardens_18 : decode cX2_hardens 18 = .ok (.iastore, 1) := dk_79 (dk_at dksX2_hardens_0 18 rfl rfl)
theorem dX2_hardens_19 : decode cX2_hardens 19 = .ok (.return_, 1) := dk_177 (dk_at dksX2_hardens_0 19 rfl rfl)
abbrev cX2_winnerOf : ByteArray := prog_13_method_5_code
def yX2_winnerOf : MethodName := ⟨RX2, "winnerOf", "(III)I"⟩
def dkwX2_winnerOf_1 : List UInt8 := [160, 0, 7, 27, 167, 0, 4, 28, 172]
abbrev dktX2_winnerOf_1 : List UInt8 := dkwX2_winnerOf_1 ++ []
def dkwX2_winnerOf_0 : List UInt8 := [42, 27, 28, 29, 182, 0, 58, 54, 4, 21, 4, 2, 160, 0, 7, 2, 167, 0, 16, 21, 4, 5, 112, 4]
abbrev dktX2_winnerOf_0 : List UInt8 := dkwX2_winnerOf_0 ++ dktX2_winnerOf_1
theorem dksX2_winnerOf_0 : cX2_winnerOf.data.toList.drop 0 = dktX2_winnerOf_0 := by decide +kernel
theorem dksX2_winnerOf_1 : cX2_winnerOf.data.toList.drop 24 = dktX2_winnerOf_1 := dk_seg dksX2_winnerOf_0 24 rfl rfl
theorem dX2_winnerOf_0 : decode cX2_winnerOf 0 = .ok (.aload_n 0, 1) := dk_42 (dk_at dksX2_winnerOf_0 0 rfl rfl)
theorem dX2_winnerOf_1 : decode cX2_winnerOf 1 = .ok (.iload_n 1, 1) := dk_27 (dk_at dksX2_winnerOf_0 1 rfl rfl)
theorem dX2_winnerOf_2 : decode cX2_winnerOf 2 = .ok (.iload_n 2, 1) := dk_28 (dk_at dksX2_winnerOf_0 2 rfl rfl)
theorem dX2_winnerOf_3 : decode cX2_winnerOf 3 = .ok (.iload_n 3, 1) := dk_29 (dk_at dksX2_winnerOf_0 3 rfl rfl)
theorem dX2_winnerOf_4 : decode cX2_winnerOf 4 = .ok (.invokevirtual 58, 3) := dk_182 0 58 (dk_at dksX2_winnerOf_0 4 rfl rfl)
theorem dX2_winnerOf_7 : decode cX2_winnerOf 7 = .ok (.istore 4, 2) := dk_54 4 (dk_at dksX2_winnerOf_0 7 rfl rfl)
theorem dX2_winnerOf_9 : decode cX2_winnerOf 9 = .ok (.iload 4, 2) := dk_21 4 (dk_at dksX2_winnerOf_0 9 rfl rfl)
theorem dX2_winnerOf_11 : decode cX2_winnerOf 11 = .ok (.iconst (-1), 1) := dk_2 (dk_at dksX2_winnerOf_0 11 rfl rfl)
theorem dX2_winnerOf_12 : decode cX2_winnerOf 12 = .ok (.if_icmp .ne 7, 3) := dk_160 0 7 (dk_at dksX2_winnerOf_0 12 rfl rfl)
theorem dX2_winnerOf_15 : decode cX2_winnerOf 15 = .ok (.iconst (-1), 1) := dk_2 (dk_at dksX2_winnerOf_0 15 rfl rfl)
theorem dX2_winnerOf_16 : decode cX2_winnerOf 16 = .ok (.goto 16, 3) := dk_167 0 16 (dk_at dksX2_winnerOf_0 16 rfl rfl)
theorem dX2_winnerOf_19 : decode cX2_winnerOf 19 = .ok (.iload 4, 2) := dk_21 4 (dk_at dksX2_winnerOf_0 19 rfl rfl)
theorem dX2_winnerOf_21 : decode cX2_winnerOf 21 = .ok (.iconst 2, 1) := dk_5 (dk_at dksX2_winnerOf_0 21 rfl rfl)
theorem dX2_winnerOf_22 : decode cX2_winnerOf 22 = .ok (.irem, 1) := dk_112 (dk_at dksX2_winnerOf_0 22 rfl rfl)
theorem dX2_winnerOf_23 : decode cX2_winnerOf 23 = .ok (.iconst 1, 1) := dk_4 (dk_at dksX2_winnerOf_0 23 rfl rfl)
theorem dX2_winnerOf_24 : decode cX2_winnerOf 24 = .ok (.if_icmp .ne 7, 3) := dk_160 0 7 (dk_at dksX2_winnerOf_1 0 rfl rfl)
theorem dX2_winnerOf_27 : decode cX2_winnerOf 27 = .ok (.iload_n 1, 1) := dk_27 (dk_at dksX2_winnerOf_1 3 rfl rfl)
theorem dX2_winnerOf_28 : decode cX2_winnerOf 28 = .ok (.goto 4, 3) := dk_167 0 4 (dk_at dksX2_winnerOf_1 4 rfl rfl)
theorem dX2_winnerOf_31 : decode cX2_winnerOf 31 = .ok (.iload_n 2, 1) := dk_28 (dk_at dksX2_winnerOf_1 7 rfl rfl)
theorem dX2_winnerOf_32 : decode cX2_winnerOf 32 = .ok (.ireturn, 1) := dk_172 (dk_at dksX2_winnerOf_1 8 rfl rfl)
abbrev cX2_sumOf : ByteArray := prog_13_method_8_code
def yX2_sumOf : MethodName := ⟨RX2, "sumOf", "([I)I"⟩
def dkwX2_sumOf_1 : List UInt8 := [46, 167, 0, 4, 3, 96, 61, 132, 3, 1, 167, 255, 226, 28, 172]
abbrev dktX2_sumOf_1 : List UInt8 := dkwX2_sumOf_1 ++ []
def dkwX2_sumOf_0 : List UInt8 := [3, 61, 3, 62, 29, 16, 8, 162, 0, 30, 28, 42, 180, 0, 24, 29, 184, 0, 68, 153, 0, 9, 43, 29]
abbrev dktX2_sumOf_0 : List UInt8 := dkwX2_sumOf_0 ++ dktX2_sumOf_1
theorem dksX2_sumOf_0 : cX2_sumOf.data.toList.drop 0 = dktX2_sumOf_0 := by decide +kernel
theorem dksX2_sumOf_1 : cX2_sumOf.data.toList.drop 24 = dktX2_sumOf_1 := dk_seg dksX2_sumOf_0 24 rfl rfl
theorem dX2_sumOf_0 : decode cX2_sumOf 0 = .ok (.iconst 0, 1) := dk_3 (dk_at dksX2_sumOf_0 0 rfl rfl)
theorem dX2_sumOf_1 : decode cX2_sumOf 1 = .ok (.istore_n 2, 1) := dk_61 (dk_at dksX2_sumOf_0 1 rfl rfl)
theorem dX2_sumOf_2 : decode cX2_sumOf 2 = .ok (.iconst 0, 1) := dk_3 (dk_at dksX2_sumOf_0 2 rfl rfl)
theorem dX2_sumOf_3 : decode cX2_sumOf 3 = .ok (.istore_n 3, 1) := dk_62 (dk_at dksX2_sumOf_0 3 rfl rfl)
theorem dX2_sumOf_4 : decode cX2_sumOf 4 = .ok (.iload_n 3, 1) := dk_29 (dk_at dksX2_sumOf_0 4 rfl rfl)
theorem dX2_sumOf_5 : decode cX2_sumOf 5 = .ok (.bipush 8, 2) := dk_16 8 (dk_at dksX2_sumOf_0 5 rfl rfl)
theorem dX2_sumOf_7 : decode cX2_sumOf 7 = .ok (.if_icmp .ge 30, 3) := dk_162 0 30 (dk_at dksX2_sumOf_0 7 rfl rfl)
theorem dX2_sumOf_10 : decode cX2_sumOf 10 = .ok (.iload_n 2, 1) := dk_28 (dk_at dksX2_sumOf_0 10 rfl rfl)
theorem dX2_sumOf_11 : decode cX2_sumOf 11 = .ok (.aload_n 0, 1) := dk_42 (dk_at dksX2_sumOf_0 11 rfl rfl)
theorem dX2_sumOf_12 : decode cX2_sumOf 12 = .ok (.getfield 24, 3) := dk_180 0 24 (dk_at dksX2_sumOf_0 12 rfl rfl)
theorem dX2_sumOf_15 : decode cX2_sumOf 15 = .ok (.iload_n 3, 1) := dk_29 (dk_at dksX2_sumOf_0 15 rfl rfl)
theorem dX2_sumOf_16 : decode cX2_sumOf 16 = .ok (.invokestatic 68, 3) := dk_184 0 68 (dk_at dksX2_sumOf_0 16 rfl rfl)
theorem dX2_sumOf_19 : decode cX2_sumOf 19 = .ok (.ifCond .eq 9, 3) := dk_153 0 9 (dk_at dksX2_sumOf_0 19 rfl rfl)
theorem dX2_sumOf_22 : decode cX2_sumOf 22 = .ok (.aload_n 1, 1) := dk_43 (dk_at dksX2_sumOf_0 22 rfl rfl)
theorem dX2_sumOf_23 : decode cX2_sumOf 23 = .ok (.iload_n 3, 1) := dk_29 (dk_at dksX2_sumOf_0 23 rfl rfl)
theorem dX2_sumOf_24 : decode cX2_sumOf 24 = .ok (.iaload, 1) := dk_46 (dk_at dksX2_sumOf_1 0 rfl rfl)
theorem dX2_sumOf_25 : decode cX2_sumOf 25 = .ok (.goto 4, 3) := dk_167 0 4 (dk_at dksX2_sumOf_1 1 rfl rfl)
theorem dX2_sumOf_28 : decode cX2_sumOf 28 = .ok (.iconst 0, 1) := dk_3 (dk_at dksX2_sumOf_1 4 rfl rfl)
theorem dX2_sumOf_29 : decode cX2_sumOf 29 = .ok (.iadd, 1) := dk_96 (dk_at dksX2_sumOf_1 5 rfl rfl)
theorem dX2_sumOf_30 : decode cX2_sumOf 30 = .ok (.istore_n 2, 1) := dk_61 (dk_at dksX2_sumOf_1 6 rfl rfl)
theorem dX2_sumOf_31 : decode cX2_sumOf 31 = .ok (.iinc 3 1, 3) := dk_132 3 1 (dk_at dksX2_sumOf_1 7 rfl rfl)
theorem dX2_sumOf_34 : decode cX2_sumOf 34 = .ok (.goto (-30), 3) := dk_167 255 226 (dk_at dksX2_sumOf_1 10 rfl rfl)
theorem dX2_sumOf_37 : decode cX2_sumOf 37 = .ok (.iload_n 2, 1) := dk_28 (dk_at dksX2_sumOf_1 13 rfl rfl)
theorem dX2_sumOf_38 : decode cX2_sumOf 38 = .ok (.ireturn, 1) := dk_172 (dk_at dksX2_sumOf_1 14 rfl rfl)
theorem q132 : (Jvm.Cond.initialized "ConkerYard$State") ∈ lw_all := lw_g (lw_at lw_m1 6 rfl) rfl
theorem q204 : (Jvm.Cond.fieldLinkNest "ConkerYard$State" (37 : Nat) "ConkerYard$Yard" "conkers" "Ljava/util/ArrayList;" "ConkerYard") ∈ lw_tbl := lw_at lw_m1 78 rfl
theorem q207 : (Jvm.Cond.fieldLinkNest "ConkerYard$State" (55 : Nat) "ConkerYard$Yard" "cracked" "[I" "ConkerYard") ∈ lw_tbl := lw_at lw_m1 81 rfl
theorem q221 : (Jvm.Cond.instantiable "ConkerYard$State" (6 : Nat)) ∈ lw_all := lw_g (lw_at lw_m1 95 rfl) rfl
theorem q223 : (Jvm.Cond.instanceMethod ({ cls := "ConkerYard$State", name := "<init>", desc := "()V" } : Jvm.MethodName)) ∈ lw_all := lw_g (lw_at lw_m1 97 rfl) rfl
theorem q224 : (Jvm.Cond.code ({ cls := "ConkerYard$State", name := "<init>", desc := "()V" } : Jvm.MethodName) prog_13_method_1_code (1 : Nat) (Option.none : Option Jvm.ClassFile.FieldType)) ∈ lw_all := lw_g (lw_at lw_m1 98 rfl) rfl
theorem q225 : (Jvm.Cond.methodLink "ConkerYard$State" (3 : Nat) ({ cls := "java/lang/Object", name := "<init>", desc := "()V" } : Jvm.MethodName)) ∈ lw_all := lw_g (lw_at lw_m1 99 rfl) rfl
theorem q226 : (Jvm.Cond.fieldLink "ConkerYard$State" (9 : Nat) "ConkerYard$State" "hard" "[I") ∈ lw_all := lw_g (lw_at lw_m1 100 rfl) rfl
theorem q228 : (Jvm.Cond.fieldLink "ConkerYard$State" (15 : Nat) "ConkerYard$State" "swing" "[I") ∈ lw_all := lw_g (lw_at lw_m1 102 rfl) rfl
theorem q230 : (Jvm.Cond.fieldLink "ConkerYard$State" (18 : Nat) "ConkerYard$State" "cracks" "[I") ∈ lw_all := lw_g (lw_at lw_m1 104 rfl) rfl
theorem q232 : (Jvm.Cond.fieldLink "ConkerYard$State" (21 : Nat) "ConkerYard$State" "score" "[I") ∈ lw_all := lw_g (lw_at lw_m1 106 rfl) rfl
theorem q234 : (Jvm.Cond.fieldLink "ConkerYard$State" (24 : Nat) "ConkerYard$State" "whole" "I") ∈ lw_all := lw_g (lw_at lw_m1 108 rfl) rfl
theorem q236 : (Jvm.Cond.fieldLink "ConkerYard$State" (28 : Nat) "ConkerYard$State" "round" "I") ∈ lw_all := lw_g (lw_at lw_m1 110 rfl) rfl
theorem q238 : (Jvm.Cond.laysFinal "ConkerYard$State" "ConkerYard$State" "hard" "[I") ∈ lw_all := lw_g (lw_at lw_m1 112 rfl) rfl
theorem q239 : (Jvm.Cond.soleField "ConkerYard$State" "hard") ∈ lw_all := lw_g (lw_at lw_m1 113 rfl) rfl
theorem q240 : (Jvm.Cond.laysFinal "ConkerYard$State" "ConkerYard$State" "swing" "[I") ∈ lw_all := lw_g (lw_at lw_m1 114 rfl) rfl
theorem q241 : (Jvm.Cond.soleField "ConkerYard$State" "swing") ∈ lw_all := lw_g (lw_at lw_m1 115 rfl) rfl
theorem q242 : (Jvm.Cond.laysFinal "ConkerYard$State" "ConkerYard$State" "cracks" "[I") ∈ lw_all := lw_g (lw_at lw_m1 116 rfl) rfl
theorem q243 : (Jvm.Cond.soleField "ConkerYard$State" "cracks") ∈ lw_all := lw_g (lw_at lw_m1 117 rfl) rfl
theorem q244 : (Jvm.Cond.laysFinal "ConkerYard$State" "ConkerYard$State" "score" "[I") ∈ lw_all := lw_g (lw_at lw_m1 118 rfl) rfl
theorem q245 : (Jvm.Cond.soleField "ConkerYard$State" "score") ∈ lw_all := lw_g (lw_at lw_m1 119 rfl) rfl
theorem q246 : (Jvm.Cond.lays "ConkerYard$State" "ConkerYard$State" "whole" "I") ∈ lw_all := lw_g (lw_at lw_m1 120 rfl) rfl
theorem q247 : (Jvm.Cond.soleField "ConkerYard$State" "whole") ∈ lw_all := lw_g (lw_at lw_m1 121 rfl) rfl
theorem q248 : (Jvm.Cond.lays "ConkerYard$State" "ConkerYard$State" "round" "I") ∈ lw_all := lw_g (lw_at lw_m1 122 rfl) rfl
theorem q249 : (Jvm.Cond.soleField "ConkerYard$State" "round") ∈ lw_all := lw_g (lw_at lw_m1 123 rfl) rfl
theorem q250 : (Jvm.Cond.superclass "ConkerYard$State" "java/lang/Object") ∈ lw_all := lw_g (lw_at lw_m1 124 rfl) rfl
theorem q583 : (Jvm.Cond.fieldLinkNest "ConkerYard$State" (49 : Nat) "ConkerYard$Conker" "hard" "I" "ConkerYard") ∈ lw_tbl := lw_at lw_m2 217 rfl
theorem q586 : (Jvm.Cond.fieldLinkNest "ConkerYard$State" (51 : Nat) "ConkerYard$Conker" "swing" "I" "ConkerYard") ∈ lw_tbl := lw_at lw_m2 220 rfl
theorem q588 : (Jvm.Cond.fieldLinkNest "ConkerYard$State" (53 : Nat) "ConkerYard$Conker" "score" "I" "ConkerYard") ∈ lw_tbl := lw_at lw_m2 222 rfl
theorem q641 : (Jvm.Cond.selects "ConkerYard$State" ({ cls := "java/lang/Object", name := "getClass", desc := "()Ljava/lang/Class;" } : Jvm.MethodName) ({ cls := "java/lang/Object", name := "getClass", desc := "()Ljava/lang/Class;" } : Jvm.MethodName)) ∈ lw_all := lw_g (lw_at lw_m3 35 rfl) rfl
theorem q678 : (Jvm.Cond.instanceMethod ({ cls := "ConkerYard$State", name := "begin", desc := "(LConkerYard$Yard;)V" } : Jvm.MethodName)) ∈ lw_all := lw_g (lw_at lw_m3 72 rfl) rfl
theorem q679 : (Jvm.Cond.selects "ConkerYard$State" ({ cls := "ConkerYard$State", name := "begin", desc := "(LConkerYard$Yard;)V" } : Jvm.MethodName) ({ cls := "ConkerYard$State", name := "begin", desc := "(LConkerYard$Yard;)V" } : Jvm.MethodName)) ∈ lw_all := lw_g (lw_at lw_m3 73 rfl) rfl
theorem q680 : (Jvm.Cond.code ({ cls := "ConkerYard$State", name := "begin", desc := "(LConkerYard$Yard;)V" } : Jvm.MethodName) prog_13_method_3_code (4 : Nat) (Option.none : Option Jvm.ClassFile.FieldType)) ∈ lw_all := lw_g (lw_at lw_m3 74 rfl) rfl
theorem q681 : (Jvm.Cond.methodLink "ConkerYard$State" (31 : Nat) ({ cls := "ConkerYard$Yard", name := "many", desc := "()I" } : Jvm.MethodName)) ∈ lw_all := lw_g (lw_at lw_m3 75 rfl) rfl
theorem q682 : (Jvm.Cond.methodLink "ConkerYard$State" (41 : Nat) ({ cls := "java/util/ArrayList", name := "get", desc := "(I)Ljava/lang/Object;" } : Jvm.MethodName)) ∈ lw_all := lw_g (lw_at lw_m3 76 rfl) rfl
theorem q683 : (Jvm.Cond.classLink "ConkerYard$State" (47 : Nat) "ConkerYard$Conker") ∈ lw_all := lw_g (lw_at lw_m3 77 rfl) rfl
theorem q880 : (Jvm.Cond.instanceMethod ({ cls := "ConkerYard$State", name := "copyFrom", desc := "(LConkerYard$State;)V" } : Jvm.MethodName)) ∈ lw_all := lw_g (lw_at lw_m4 34 rfl) rfl
theorem q881 : (Jvm.Cond.selects "ConkerYard$State" ({ cls := "ConkerYard$State", name := "copyFrom", desc := "(LConkerYard$State;)V" } : Jvm.MethodName) ({ cls := "ConkerYard$State", name := "copyFrom", desc := "(LConkerYard$State;)V" } : Jvm.MethodName)) ∈ lw_all := lw_g (lw_at lw_m4 35 rfl) rfl
theorem q882 : (Jvm.Cond.code ({ cls := "ConkerYard$State", name := "copyFrom", desc := "(LConkerYard$State;)V" } : Jvm.MethodName) prog_13_method_2_code (3 : Nat) (Option.none : Option Jvm.ClassFile.FieldType)) ∈ lw_all := lw_g (lw_at lw_m4 36 rfl) rfl
theorem q956 : (Jvm.Cond.instanceMethod ({ cls := "ConkerYard$State", name := "heals", desc := "(I)V" } : Jvm.MethodName)) ∈ lw_all := lw_g (lw_at lw_m4 110 rfl) rfl
theorem q957 : (Jvm.Cond.selects "ConkerYard$State" ({ cls := "ConkerYard$State", name := "heals", desc := "(I)V" } : Jvm.MethodName) ({ cls := "ConkerYard$State", name := "heals", desc := "(I)V" } : Jvm.MethodName)) ∈ lw_all := lw_g (lw_at lw_m4 111 rfl) rfl
theorem q958 : (Jvm.Cond.code ({ cls := "ConkerYard$State", name := "heals", desc := "(I)V" } : Jvm.MethodName) prog_13_method_7_code (3 : Nat) (Option.none : Option Jvm.ClassFile.FieldType)) ∈ lw_all := lw_g (lw_at lw_m4 112 rfl) rfl
theorem q959 : (Jvm.Cond.methodLinkNest "ConkerYard$State" (68 : Nat) ({ cls := "ConkerYard", name := "has", desc := "(II)Z" } : Jvm.MethodName) "ConkerYard") ∈ lw_tbl := lw_at lw_m4 113 rfl
theorem q960 : (Jvm.Cond.methodLink "ConkerYard$State" (72 : Nat) ({ cls := "java/lang/Math", name := "max", desc := "(II)I" } : Jvm.MethodName)) ∈ lw_all := lw_g (lw_at lw_m4 114 rfl) rfl
theorem q962 : (Jvm.Cond.instanceMethod ({ cls := "ConkerYard$State", name := "fights", desc := "(III)I" } : Jvm.MethodName)) ∈ lw_all := lw_g (lw_at lw_m4 116 rfl) rfl
theorem q963 : (Jvm.Cond.selects "ConkerYard$State" ({ cls := "ConkerYard$State", name := "fights", desc := "(III)I" } : Jvm.MethodName) ({ cls := "ConkerYard$State", name := "fights", desc := "(III)I" } : Jvm.MethodName)) ∈ lw_all := lw_g (lw_at lw_m4 117 rfl) rfl
theorem q964 : (Jvm.Cond.code ({ cls := "ConkerYard$State", name := "fights", desc := "(III)I" } : Jvm.MethodName) prog_13_method_6_code (8 : Nat) (Option.some Jvm.ClassFile.FieldType.int)) ∈ lw_all := lw_g (lw_at lw_m4 118 rfl) rfl
theorem q965 : (Jvm.Cond.methodLink "ConkerYard$State" (58 : Nat) ({ cls := "ConkerYard$State", name := "strikesOf", desc := "(III)I" } : Jvm.MethodName)) ∈ lw_all := lw_g (lw_at lw_m4 119 rfl) rfl
theorem q966 : (Jvm.Cond.instanceMethod ({ cls := "ConkerYard$State", name := "strikesOf", desc := "(III)I" } : Jvm.MethodName)) ∈ lw_all := lw_g (lw_at lw_m4 120 rfl) rfl
theorem q967 : (Jvm.Cond.selects "ConkerYard$State" ({ cls := "ConkerYard$State", name := "strikesOf", desc := "(III)I" } : Jvm.MethodName) ({ cls := "ConkerYard$State", name := "strikesOf", desc := "(III)I" } : Jvm.MethodName)) ∈ lw_all := lw_g (lw_at lw_m4 121 rfl) rfl
theorem q968 : (Jvm.Cond.code ({ cls := "ConkerYard$State", name := "strikesOf", desc := "(III)I" } : Jvm.MethodName) prog_13_method_4_code (6 : Nat) (Option.some Jvm.ClassFile.FieldType.int)) ∈ lw_all := lw_g (lw_at lw_m4 122 rfl) rfl
theorem q969 : (Jvm.Cond.methodLink "ConkerYard$State" (62 : Nat) ({ cls := "java/lang/Math", name := "min", desc := "(II)I" } : Jvm.MethodName)) ∈ lw_all := lw_g (lw_at lw_m4 123 rfl) rfl
theorem q984 : (Jvm.Cond.instanceMethod ({ cls := "ConkerYard$State", name := "hardens", desc := "(II)V" } : Jvm.MethodName)) ∈ lw_all := lw_g (lw_at lw_m4 138 rfl) rfl
theorem q985 : (Jvm.Cond.selects "ConkerYard$State" ({ cls := "ConkerYard$State", name := "hardens", desc := "(II)V" } : Jvm.MethodName) ({ cls := "ConkerYard$State", name := "hardens", desc := "(II)V" } : Jvm.MethodName)) ∈ lw_all := lw_g (lw_at lw_m4 139 rfl) rfl
theorem q986 : (Jvm.Cond.code ({ cls := "ConkerYard$State", name := "hardens", desc := "(II)V" } : Jvm.MethodName) prog_13_method_9_code (3 : Nat) (Option.none : Option Jvm.ClassFile.FieldType)) ∈ lw_all := lw_g (lw_at lw_m4 140 rfl) rfl
theorem q1002 : (Jvm.Cond.instanceMethod ({ cls := "ConkerYard$State", name := "winnerOf", desc := "(III)I" } : Jvm.MethodName)) ∈ lw_all := lw_g (lw_at lw_m4 156 rfl) rfl
theorem q1003 : (Jvm.Cond.selects "ConkerYard$State" ({ cls := "ConkerYard$State", name := "winnerOf", desc := "(III)I" } : Jvm.MethodName) ({ cls := "ConkerYard$State", name := "winnerOf", desc := "(III)I" } : Jvm.MethodName)) ∈ lw_all := lw_g (lw_at lw_m4 157 rfl) rfl
theorem q1004 : (Jvm.Cond.code ({ cls := "ConkerYard$State", name := "winnerOf", desc := "(III)I" } : Jvm.MethodName) prog_13_method_5_code (5 : Nat) (Option.some Jvm.ClassFile.FieldType.int)) ∈ lw_all := lw_g (lw_at lw_m4 158 rfl) rfl
theorem q1119 : (Jvm.Cond.instanceMethod ({ cls := "ConkerYard$State", name := "sumOf", desc := "([I)I" } : Jvm.MethodName)) ∈ lw_all := lw_g (lw_at lw_m5 33 rfl) rfl
theorem q1120 : (Jvm.Cond.selects "ConkerYard$State" ({ cls := "ConkerYard$State", name := "sumOf", desc := "([I)I" } : Jvm.MethodName) ({ cls := "ConkerYard$State", name := "sumOf", desc := "([I)I" } : Jvm.MethodName)) ∈ lw_all := lw_g (lw_at lw_m5 34 rfl) rfl
theorem q1121 : (Jvm.Cond.code ({ cls := "ConkerYard$State", name := "sumOf", desc := "([I)I" } : Jvm.MethodName) prog_13_method_8_code (4 : Nat) (Option.some Jvm.ClassFile.FieldType.int)) ∈ lw_all := lw_g (lw_at lw_m5 35 rfl) rfl
theorem q1880 : (Jvm.Cond.castable "ConkerYard$State" "java/lang/Object") ∈ lw_tbl := lw_at lw_m8 74 rfl
theorem in_X2 : ∀ w ∈ wsX20, w ∈ lw_all := lw_in wsX20 [238, 240, 242, 244, 246, 248] (by decide +kernel) (by decide +kernel)
/-! ConkerYard$Wrong -/
set_option maxRecDepth 100000
def RX3 : String := "ConkerYard$Wrong"
def TX3 : u_T := fun k => match k with
  | 0 => ("java/lang/Throwable", "cause", "Ljava/lang/Throwable;", false)
  | 1 => ("java/lang/Throwable", "stackTrace", "[Ljava/lang/StackTraceElement;", false)
  | 2 => ("java/lang/Throwable", "suppressedExceptions", "Ljava/util/List;", false)
  | 3 => ("java/lang/Throwable", "detailMessage", "Ljava/lang/String;", false)
  | 4 => ("java/lang/Throwable", "backtrace", "Ljava/lang/Object;", false)
  | 5 => ("java/lang/Throwable", "depth", "I", false)
  | _ => ("ConkerYard$Wrong", "number", "I", false)
def tyX3 : Nat → FieldType := fun k => match k with
  | 0 => .object "java/lang/Throwable"
  | 1 => .array (.object "java/lang/StackTraceElement")
  | 2 => .object "java/util/List"
  | 3 => .object "java/lang/String"
  | 4 => .object "java/lang/Object"
  | 5 => .int
  | _ => .int
abbrev wsX30 : List Cond := u_ws RX3 TX3 7
theorem nmX3 : ∀ a, a < 7 → ∀ b, b < 7 → a ≠ b → (TX3 a).2.1 ≠ (TX3 b).2.1 := by decide +kernel
theorem tyX3_ok : ∀ k, k < 7 → parseFieldDescriptor (TX3 k).2.2.1 = some (tyX3 k) := by decide +kernel
abbrev cX3_init : ByteArray := prog_16_method_1_code
def yX3_init : MethodName := ⟨RX3, "<init>", "()V"⟩
theorem dX3_init_0 : decode cX3_init 0 = .ok (.aload_n 0, 1) := by decide +kernel
theorem dX3_init_1 : decode cX3_init 1 = .ok (.invokespecial 1, 3) := by decide +kernel
theorem dX3_init_4 : decode cX3_init 4 = .ok (.return_, 1) := by decide +kernel
theorem q135 : (Jvm.Cond.initialized "ConkerYard$Wrong") ∈ lw_all := lw_g (lw_at lw_m1 9 rfl) rfl
theorem q254 : (Jvm.Cond.instantiable "ConkerYard$Wrong" (7 : Nat)) ∈ lw_all := lw_g (lw_at lw_m1 128 rfl) rfl
theorem q255 : (Jvm.Cond.castable "ConkerYard$Wrong" "ConkerYard$Wrong") ∈ lw_tbl := lw_at lw_m1 129 rfl
theorem q260 : (Jvm.Cond.selects "ConkerYard$Wrong" ({ cls := "java/lang/Throwable", name := "fillInStackTrace", desc := "(I)Ljava/lang/Throwable;" } : Jvm.MethodName) ({ cls := "java/lang/Throwable", name := "fillInStackTrace", desc := "(I)Ljava/lang/Throwable;" } : Jvm.MethodName)) ∈ lw_all := lw_g (lw_at lw_m1 134 rfl) rfl
theorem q261 : (Jvm.Cond.selects "ConkerYard$Wrong" ({ cls := "java/lang/Throwable", name := "fillInStackTrace", desc := "()Ljava/lang/Throwable;" } : Jvm.MethodName) ({ cls := "java/lang/Throwable", name := "fillInStackTrace", desc := "()Ljava/lang/Throwable;" } : Jvm.MethodName)) ∈ lw_all := lw_g (lw_at lw_m1 135 rfl) rfl
theorem q262 : (Jvm.Cond.lays "ConkerYard$Wrong" "java/lang/Throwable" "cause" "Ljava/lang/Throwable;") ∈ lw_all := lw_g (lw_at lw_m1 136 rfl) rfl
theorem q264 : (Jvm.Cond.lays "ConkerYard$Wrong" "java/lang/Throwable" "stackTrace" "[Ljava/lang/StackTraceElement;") ∈ lw_all := lw_g (lw_at lw_m1 138 rfl) rfl
theorem q266 : (Jvm.Cond.lays "ConkerYard$Wrong" "java/lang/Throwable" "suppressedExceptions" "Ljava/util/List;") ∈ lw_all := lw_g (lw_at lw_m1 140 rfl) rfl
theorem q268 : (Jvm.Cond.lays "ConkerYard$Wrong" "java/lang/Throwable" "detailMessage" "Ljava/lang/String;") ∈ lw_all := lw_g (lw_at lw_m1 142 rfl) rfl
theorem q270 : (Jvm.Cond.lays "ConkerYard$Wrong" "java/lang/Throwable" "backtrace" "Ljava/lang/Object;") ∈ lw_all := lw_g (lw_at lw_m1 144 rfl) rfl
theorem q291 : (Jvm.Cond.instanceMethod ({ cls := "ConkerYard$Wrong", name := "<init>", desc := "()V" } : Jvm.MethodName)) ∈ lw_all := lw_g (lw_at lw_m1 165 rfl) rfl
theorem q292 : (Jvm.Cond.code ({ cls := "ConkerYard$Wrong", name := "<init>", desc := "()V" } : Jvm.MethodName) prog_16_method_1_code (1 : Nat) (Option.none : Option Jvm.ClassFile.FieldType)) ∈ lw_all := lw_g (lw_at lw_m1 166 rfl) rfl
theorem q293 : (Jvm.Cond.methodLink "ConkerYard$Wrong" (1 : Nat) ({ cls := "java/lang/Exception", name := "<init>", desc := "()V" } : Jvm.MethodName)) ∈ lw_all := lw_g (lw_at lw_m1 167 rfl) rfl
theorem q302 : (Jvm.Cond.lays "ConkerYard$Wrong" "ConkerYard$Wrong" "number" "I") ∈ lw_all := lw_g (lw_at lw_m1 176 rfl) rfl
theorem q303 : (Jvm.Cond.soleField "ConkerYard$Wrong" "number") ∈ lw_all := lw_g (lw_at lw_m1 177 rfl) rfl
theorem q308 : (Jvm.Cond.lays "ConkerYard$Wrong" "java/lang/Throwable" "depth" "I") ∈ lw_all := lw_g (lw_at lw_m1 182 rfl) rfl
theorem q311 : (Jvm.Cond.superclass "ConkerYard$Wrong" "java/lang/Exception") ∈ lw_all := lw_g (lw_at lw_m1 185 rfl) rfl
theorem q643 : (Jvm.Cond.selects "ConkerYard$Wrong" ({ cls := "java/lang/Object", name := "getClass", desc := "()Ljava/lang/Class;" } : Jvm.MethodName) ({ cls := "java/lang/Object", name := "getClass", desc := "()Ljava/lang/Class;" } : Jvm.MethodName)) ∈ lw_all := lw_g (lw_at lw_m3 37 rfl) rfl
theorem q1886 : (Jvm.Cond.castable "ConkerYard$Wrong" "java/lang/Object") ∈ lw_tbl := lw_at lw_m8 80 rfl
theorem in_X3 : ∀ w ∈ wsX30, w ∈ lw_all := lw_in wsX30 [262, 264, 266, 268, 270, 308, 302] (by decide +kernel) (by decide +kernel)
/-! ConkerYard$Conker -/
set_option maxRecDepth 100000
def RX6 : String := "ConkerYard$Conker"
def TX6 : u_T := fun k => match k with
  | 0 => ("ConkerYard$Conker", "hard", "I", true)
  | 1 => ("ConkerYard$Conker", "swing", "I", true)
  | _ => ("ConkerYard$Conker", "score", "I", true)
def tyX6 : Nat → FieldType := fun k => match k with
  | 0 => .int
  | 1 => .int
  | _ => .int
abbrev wsX60 : List Cond := u_ws RX6 TX6 3
theorem nmX6 : ∀ a, a < 3 → ∀ b, b < 3 → a ≠ b → (TX6 a).2.1 ≠ (TX6 b).2.1 := by decide +kernel
theorem tyX6_ok : ∀ k, k < 3 → parseFieldDescriptor (TX6 k).2.2.1 = some (tyX6 k) := by decide +kernel
abbrev cX6_init : ByteArray := prog_6_method_1_code
def yX6_init : MethodName := ⟨RX6, "<init>", "(III)V"⟩
def dkwX6_init_0 : List UInt8 := [42, 183, 0, 1, 42, 27, 181, 0, 7, 42, 28, 181, 0, 13, 42, 29, 181, 0, 16, 177]
abbrev dktX6_init_0 : List UInt8 := dkwX6_init_0 ++ []
theorem dksX6_init_0 : cX6_init.data.toList.drop 0 = dktX6_init_0 := by decide +kernel
theorem dX6_init_0 : decode cX6_init 0 = .ok (.aload_n 0, 1) := dk_42 (dk_at dksX6_init_0 0 rfl rfl)
theorem dX6_init_1 : decode cX6_init 1 = .ok (.invokespecial 1, 3) := dk_183 0 1 (dk_at dksX6_init_0 1 rfl rfl)
theorem dX6_init_4 : decode cX6_init 4 = .ok (.aload_n 0, 1) := dk_42 (dk_at dksX6_init_0 4 rfl rfl)
theorem dX6_init_5 : decode cX6_init 5 = .ok (.iload_n 1, 1) := dk_27 (dk_at dksX6_init_0 5 rfl rfl)
theorem dX6_init_6 : decode cX6_init 6 = .ok (.putfield 7, 3) := dk_181 0 7 (dk_at dksX6_init_0 6 rfl rfl)
theorem dX6_init_9 : decode cX6_init 9 = .ok (.aload_n 0, 1) := dk_42 (dk_at dksX6_init_0 9 rfl rfl)
theorem dX6_init_10 : decode cX6_init 10 = .ok (.iload_n 2, 1) := dk_28 (dk_at dksX6_init_0 10 rfl rfl)
theorem dX6_init_11 : decode cX6_init 11 = .ok (.putfield 13, 3) := dk_181 0 13 (dk_at dksX6_init_0 11 rfl rfl)
theorem dX6_init_14 : decode cX6_init 14 = .ok (.aload_n 0, 1) := dk_42 (dk_at dksX6_init_0 14 rfl rfl)
theorem dX6_init_15 : decode cX6_init 15 = .ok (.iload_n 3, 1) := dk_29 (dk_at dksX6_init_0 15 rfl rfl)
theorem dX6_init_16 : decode cX6_init 16 = .ok (.putfield 16, 3) := dk_181 0 16 (dk_at dksX6_init_0 16 rfl rfl)
theorem dX6_init_19 : decode cX6_init 19 = .ok (.return_, 1) := dk_177 (dk_at dksX6_init_0 19 rfl rfl)
theorem q143 : (Jvm.Cond.initialized "ConkerYard$Conker") ∈ lw_all := lw_g (lw_at lw_m1 17 rfl) rfl
theorem q574 : (Jvm.Cond.instantiable "ConkerYard$Conker" (3 : Nat)) ∈ lw_all := lw_g (lw_at lw_m2 208 rfl) rfl
theorem q576 : (Jvm.Cond.instanceMethod ({ cls := "ConkerYard$Conker", name := "<init>", desc := "(III)V" } : Jvm.MethodName)) ∈ lw_all := lw_g (lw_at lw_m2 210 rfl) rfl
theorem q577 : (Jvm.Cond.code ({ cls := "ConkerYard$Conker", name := "<init>", desc := "(III)V" } : Jvm.MethodName) prog_6_method_1_code (4 : Nat) (Option.none : Option Jvm.ClassFile.FieldType)) ∈ lw_all := lw_g (lw_at lw_m2 211 rfl) rfl
theorem q578 : (Jvm.Cond.methodLink "ConkerYard$Conker" (1 : Nat) ({ cls := "java/lang/Record", name := "<init>", desc := "()V" } : Jvm.MethodName)) ∈ lw_all := lw_g (lw_at lw_m2 212 rfl) rfl
theorem q582 : (Jvm.Cond.fieldLink "ConkerYard$Conker" (7 : Nat) "ConkerYard$Conker" "hard" "I") ∈ lw_all := lw_g (lw_at lw_m2 216 rfl) rfl
theorem q585 : (Jvm.Cond.fieldLink "ConkerYard$Conker" (13 : Nat) "ConkerYard$Conker" "swing" "I") ∈ lw_all := lw_g (lw_at lw_m2 219 rfl) rfl
theorem q587 : (Jvm.Cond.fieldLink "ConkerYard$Conker" (16 : Nat) "ConkerYard$Conker" "score" "I") ∈ lw_all := lw_g (lw_at lw_m2 221 rfl) rfl
theorem q589 : (Jvm.Cond.laysFinal "ConkerYard$Conker" "ConkerYard$Conker" "hard" "I") ∈ lw_all := lw_g (lw_at lw_m2 223 rfl) rfl
theorem q590 : (Jvm.Cond.soleField "ConkerYard$Conker" "hard") ∈ lw_all := lw_g (lw_at lw_m2 224 rfl) rfl
theorem q591 : (Jvm.Cond.laysFinal "ConkerYard$Conker" "ConkerYard$Conker" "swing" "I") ∈ lw_all := lw_g (lw_at lw_m2 225 rfl) rfl
theorem q592 : (Jvm.Cond.soleField "ConkerYard$Conker" "swing") ∈ lw_all := lw_g (lw_at lw_m2 226 rfl) rfl
theorem q593 : (Jvm.Cond.laysFinal "ConkerYard$Conker" "ConkerYard$Conker" "score" "I") ∈ lw_all := lw_g (lw_at lw_m2 227 rfl) rfl
theorem q594 : (Jvm.Cond.soleField "ConkerYard$Conker" "score") ∈ lw_all := lw_g (lw_at lw_m2 228 rfl) rfl
theorem q595 : (Jvm.Cond.superclass "ConkerYard$Conker" "java/lang/Record") ∈ lw_all := lw_g (lw_at lw_m2 229 rfl) rfl
theorem q634 : (Jvm.Cond.selects "ConkerYard$Conker" ({ cls := "java/lang/Object", name := "getClass", desc := "()Ljava/lang/Class;" } : Jvm.MethodName) ({ cls := "java/lang/Object", name := "getClass", desc := "()Ljava/lang/Class;" } : Jvm.MethodName)) ∈ lw_all := lw_g (lw_at lw_m3 28 rfl) rfl
theorem q1889 : (Jvm.Cond.castable "ConkerYard$Conker" "java/lang/Object") ∈ lw_tbl := lw_at lw_m8 83 rfl
theorem in_X6 : ∀ w ∈ wsX60, w ∈ lw_all := lw_in wsX60 [589, 591, 593] (by decide +kernel) (by decide +kernel)
/-! ConkerYard$Rule -/
set_option maxRecDepth 100000
def RX7 : String := "ConkerYard$Rule"
def TX7 : u_T := fun k => match k with
  | _ => ("ConkerYard$Rule", "all", "Ljava/util/ArrayList;", true)
def tyX7 : Nat → FieldType := fun k => match k with
  | _ => .object "java/util/ArrayList"
abbrev wsX70 : List Cond := u_ws RX7 TX7 1
theorem nmX7 : ∀ a, a < 1 → ∀ b, b < 1 → a ≠ b → (TX7 a).2.1 ≠ (TX7 b).2.1 := by decide +kernel
theorem tyX7_ok : ∀ k, k < 1 → parseFieldDescriptor (TX7 k).2.2.1 = some (tyX7 k) := by decide +kernel
abbrev cX7_init : ByteArray := prog_12_method_1_code
def yX7_init : MethodName := ⟨RX7, "<init>", "()V"⟩
def dkwX7_init_0 : List UInt8 := [42, 183, 0, 1, 42, 187, 0, 7, 89, 5, 183, 0, 9, 181, 0, 12, 177]
abbrev dktX7_init_0 : List UInt8 := dkwX7_init_0 ++ []
theorem dksX7_init_0 : cX7_init.data.toList.drop 0 = dktX7_init_0 := by decide +kernel
theorem dX7_init_0 : decode cX7_init 0 = .ok (.aload_n 0, 1) := dk_42 (dk_at dksX7_init_0 0 rfl rfl)
theorem dX7_init_1 : decode cX7_init 1 = .ok (.invokespecial 1, 3) := dk_183 0 1 (dk_at dksX7_init_0 1 rfl rfl)
theorem dX7_init_4 : decode cX7_init 4 = .ok (.aload_n 0, 1) := dk_42 (dk_at dksX7_init_0 4 rfl rfl)
theorem dX7_init_5 : decode cX7_init 5 = .ok (.new 7, 3) := dk_187 0 7 (dk_at dksX7_init_0 5 rfl rfl)
theorem dX7_init_8 : decode cX7_init 8 = .ok (.dup, 1) := dk_89 (dk_at dksX7_init_0 8 rfl rfl)
theorem dX7_init_9 : decode cX7_init 9 = .ok (.iconst 2, 1) := dk_5 (dk_at dksX7_init_0 9 rfl rfl)
theorem dX7_init_10 : decode cX7_init 10 = .ok (.invokespecial 9, 3) := dk_183 0 9 (dk_at dksX7_init_0 10 rfl rfl)
theorem dX7_init_13 : decode cX7_init 13 = .ok (.putfield 12, 3) := dk_181 0 12 (dk_at dksX7_init_0 13 rfl rfl)
theorem dX7_init_16 : decode cX7_init 16 = .ok (.return_, 1) := dk_177 (dk_at dksX7_init_0 16 rfl rfl)
abbrev cX7_wants : ByteArray := prog_12_method_2_code
def yX7_wants : MethodName := ⟨RX7, "wants", "([J)J"⟩
def dkwX7_wants_2 : List UInt8 := [182, 0, 36, 173, 132, 2, 1, 167, 255, 205, 9, 173]
abbrev dktX7_wants_2 : List UInt8 := dkwX7_wants_2 ++ []
def dkwX7_wants_1 : List UInt8 := [43, 182, 0, 28, 153, 0, 22, 42, 180, 0, 12, 28, 182, 0, 22, 192, 0, 26, 180, 0, 32, 43]
abbrev dktX7_wants_1 : List UInt8 := dkwX7_wants_1 ++ dktX7_wants_2
def dkwX7_wants_0 : List UInt8 := [3, 61, 28, 42, 180, 0, 12, 182, 0, 18, 162, 0, 46, 42, 180, 0, 12, 28, 182, 0, 22, 192, 0, 26]
abbrev dktX7_wants_0 : List UInt8 := dkwX7_wants_0 ++ dktX7_wants_1
theorem dksX7_wants_0 : cX7_wants.data.toList.drop 0 = dktX7_wants_0 := by decide +kernel
theorem dksX7_wants_1 : cX7_wants.data.toList.drop 24 = dktX7_wants_1 := dk_seg dksX7_wants_0 24 rfl rfl
theorem dksX7_wants_2 : cX7_wants.data.toList.drop 46 = dktX7_wants_2 := dk_seg dksX7_wants_1 22 rfl rfl
theorem dX7_wants_0 : decode cX7_wants 0 = .ok (.iconst 0, 1) := dk_3 (dk_at dksX7_wants_0 0 rfl rfl)
theorem dX7_wants_1 : decode cX7_wants 1 = .ok (.istore_n 2, 1) := dk_61 (dk_at dksX7_wants_0 1 rfl rfl)
theorem dX7_wants_2 : decode cX7_wants 2 = .ok (.iload_n 2, 1) := dk_28 (dk_at dksX7_wants_0 2 rfl rfl)
theorem dX7_wants_3 : decode cX7_wants 3 = .ok (.aload_n 0, 1) := dk_42 (dk_at dksX7_wants_0 3 rfl rfl)
theorem dX7_wants_4 : decode cX7_wants 4 = .ok (.getfield 12, 3) := dk_180 0 12 (dk_at dksX7_wants_0 4 rfl rfl)
theorem dX7_wants_7 : decode cX7_wants 7 = .ok (.invokevirtual 18, 3) := dk_182 0 18 (dk_at dksX7_wants_0 7 rfl rfl)
theorem dX7_wants_10 : decode cX7_wants 10 = .ok (.if_icmp .ge 46, 3) := dk_162 0 46 (dk_at dksX7_wants_0 10 rfl rfl)
theorem dX7_wants_13 : decode cX7_wants 13 = .ok (.aload_n 0, 1) := dk_42 (dk_at dksX7_wants_0 13 rfl rfl)
theorem dX7_wants_14 : decode cX7_wants 14 = .ok (.getfield 12, 3) := dk_180 0 12 (dk_at dksX7_wants_0 14 rfl rfl)
theorem dX7_wants_17 : decode cX7_wants 17 = .ok (.iload_n 2, 1) := dk_28 (dk_at dksX7_wants_0 17 rfl rfl)
theorem dX7_wants_18 : decode cX7_wants 18 = .ok (.invokevirtual 22, 3) := dk_182 0 22 (dk_at dksX7_wants_0 18 rfl rfl)
theorem dX7_wants_21 : decode cX7_wants 21 = .ok (.checkcast 26, 3) := dk_192 0 26 (dk_at dksX7_wants_0 21 rfl rfl)
theorem dX7_wants_24 : decode cX7_wants 24 = .ok (.aload_n 1, 1) := dk_43 (dk_at dksX7_wants_1 0 rfl rfl)
theorem dX7_wants_25 : decode cX7_wants 25 = .ok (.invokevirtual 28, 3) := dk_182 0 28 (dk_at dksX7_wants_1 1 rfl rfl)
theorem dX7_wants_28 : decode cX7_wants 28 = .ok (.ifCond .eq 22, 3) := dk_153 0 22 (dk_at dksX7_wants_1 4 rfl rfl)
theorem dX7_wants_31 : decode cX7_wants 31 = .ok (.aload_n 0, 1) := dk_42 (dk_at dksX7_wants_1 7 rfl rfl)
theorem dX7_wants_32 : decode cX7_wants 32 = .ok (.getfield 12, 3) := dk_180 0 12 (dk_at dksX7_wants_1 8 rfl rfl)
theorem dX7_wants_35 : decode cX7_wants 35 = .ok (.iload_n 2, 1) := dk_28 (dk_at dksX7_wants_1 11 rfl rfl)
theorem dX7_wants_36 : decode cX7_wants 36 = .ok (.invokevirtual 22, 3) := dk_182 0 22 (dk_at dksX7_wants_1 12 rfl rfl)
theorem dX7_wants_39 : decode cX7_wants 39 = .ok (.checkcast 26, 3) := dk_192 0 26 (dk_at dksX7_wants_1 15 rfl rfl)
theorem dX7_wants_42 : decode cX7_wants 42 = .ok (.getfield 32, 3) := dk_180 0 32 (dk_at dksX7_wants_1 18 rfl rfl)
theorem dX7_wants_45 : decode cX7_wants 45 = .ok (.aload_n 1, 1) := dk_43 (dk_at dksX7_wants_1 21 rfl rfl)
theorem dX7_wants_46 : decode cX7_wants 46 = .ok (.invokevirtual 36, 3) := dk_182 0 36 (dk_at dksX7_wants_2 0 rfl rfl)
theorem dX7_wants_49 : decode cX7_wants 49 = .ok (.lreturn, 1) := dk_173 (dk_at dksX7_wants_2 3 rfl rfl)
theorem dX7_wants_50 : decode cX7_wants 50 = .ok (.iinc 2 1, 3) := dk_132 2 1 (dk_at dksX7_wants_2 4 rfl rfl)
theorem dX7_wants_53 : decode cX7_wants 53 = .ok (.goto (-51), 3) := dk_167 255 205 (dk_at dksX7_wants_2 7 rfl rfl)
theorem dX7_wants_56 : decode cX7_wants 56 = .ok (.lconst 0, 1) := dk_9 (dk_at dksX7_wants_2 10 rfl rfl)
theorem dX7_wants_57 : decode cX7_wants 57 = .ok (.lreturn, 1) := dk_173 (dk_at dksX7_wants_2 11 rfl rfl)
theorem q149 : (Jvm.Cond.initialized "ConkerYard$Rule") ∈ lw_all := lw_g (lw_at lw_m1 23 rfl) rfl
theorem q640 : (Jvm.Cond.selects "ConkerYard$Rule" ({ cls := "java/lang/Object", name := "getClass", desc := "()Ljava/lang/Class;" } : Jvm.MethodName) ({ cls := "java/lang/Object", name := "getClass", desc := "()Ljava/lang/Class;" } : Jvm.MethodName)) ∈ lw_all := lw_g (lw_at lw_m3 34 rfl) rfl
theorem q695 : (Jvm.Cond.instantiable "ConkerYard$Rule" (1 : Nat)) ∈ lw_all := lw_g (lw_at lw_m3 89 rfl) rfl
theorem q697 : (Jvm.Cond.instanceMethod ({ cls := "ConkerYard$Rule", name := "<init>", desc := "()V" } : Jvm.MethodName)) ∈ lw_all := lw_g (lw_at lw_m3 91 rfl) rfl
theorem q698 : (Jvm.Cond.code ({ cls := "ConkerYard$Rule", name := "<init>", desc := "()V" } : Jvm.MethodName) prog_12_method_1_code (1 : Nat) (Option.none : Option Jvm.ClassFile.FieldType)) ∈ lw_all := lw_g (lw_at lw_m3 92 rfl) rfl
theorem q699 : (Jvm.Cond.methodLink "ConkerYard$Rule" (1 : Nat) ({ cls := "java/lang/Object", name := "<init>", desc := "()V" } : Jvm.MethodName)) ∈ lw_all := lw_g (lw_at lw_m3 93 rfl) rfl
theorem q700 : (Jvm.Cond.classLink "ConkerYard$Rule" (7 : Nat) "java/util/ArrayList") ∈ lw_all := lw_g (lw_at lw_m3 94 rfl) rfl
theorem q701 : (Jvm.Cond.methodLink "ConkerYard$Rule" (9 : Nat) ({ cls := "java/util/ArrayList", name := "<init>", desc := "(I)V" } : Jvm.MethodName)) ∈ lw_all := lw_g (lw_at lw_m3 95 rfl) rfl
theorem q702 : (Jvm.Cond.fieldLink "ConkerYard$Rule" (12 : Nat) "ConkerYard$Rule" "all" "Ljava/util/ArrayList;") ∈ lw_all := lw_g (lw_at lw_m3 96 rfl) rfl
theorem q704 : (Jvm.Cond.laysFinal "ConkerYard$Rule" "ConkerYard$Rule" "all" "Ljava/util/ArrayList;") ∈ lw_all := lw_g (lw_at lw_m3 98 rfl) rfl
theorem q705 : (Jvm.Cond.soleField "ConkerYard$Rule" "all") ∈ lw_all := lw_g (lw_at lw_m3 99 rfl) rfl
theorem q706 : (Jvm.Cond.superclass "ConkerYard$Rule" "java/lang/Object") ∈ lw_all := lw_g (lw_at lw_m3 100 rfl) rfl
theorem q847 : (Jvm.Cond.fieldLinkNest "ConkerYard$Rule" (32 : Nat) "ConkerYard$Told" "sum" "LConkerYard$Value;" "ConkerYard") ∈ lw_tbl := lw_at lw_m4 1 rfl
theorem q917 : (Jvm.Cond.instanceMethod ({ cls := "ConkerYard$Rule", name := "wants", desc := "([J)J" } : Jvm.MethodName)) ∈ lw_all := lw_g (lw_at lw_m4 71 rfl) rfl
theorem q918 : (Jvm.Cond.selects "ConkerYard$Rule" ({ cls := "ConkerYard$Rule", name := "wants", desc := "([J)J" } : Jvm.MethodName) ({ cls := "ConkerYard$Rule", name := "wants", desc := "([J)J" } : Jvm.MethodName)) ∈ lw_all := lw_g (lw_at lw_m4 72 rfl) rfl
theorem q919 : (Jvm.Cond.code ({ cls := "ConkerYard$Rule", name := "wants", desc := "([J)J" } : Jvm.MethodName) prog_12_method_2_code (3 : Nat) (Option.some Jvm.ClassFile.FieldType.long)) ∈ lw_all := lw_g (lw_at lw_m4 73 rfl) rfl
theorem q920 : (Jvm.Cond.methodLink "ConkerYard$Rule" (18 : Nat) ({ cls := "java/util/ArrayList", name := "size", desc := "()I" } : Jvm.MethodName)) ∈ lw_all := lw_g (lw_at lw_m4 74 rfl) rfl
theorem q921 : (Jvm.Cond.methodLink "ConkerYard$Rule" (22 : Nat) ({ cls := "java/util/ArrayList", name := "get", desc := "(I)Ljava/lang/Object;" } : Jvm.MethodName)) ∈ lw_all := lw_g (lw_at lw_m4 75 rfl) rfl
theorem q922 : (Jvm.Cond.classLink "ConkerYard$Rule" (26 : Nat) "ConkerYard$Told") ∈ lw_all := lw_g (lw_at lw_m4 76 rfl) rfl
theorem q923 : (Jvm.Cond.methodLink "ConkerYard$Rule" (28 : Nat) ({ cls := "ConkerYard$Told", name := "holds", desc := "([J)Z" } : Jvm.MethodName)) ∈ lw_all := lw_g (lw_at lw_m4 77 rfl) rfl
theorem q954 : (Jvm.Cond.methodLink "ConkerYard$Rule" (36 : Nat) ({ cls := "ConkerYard$Value", name := "of", desc := "([J)J" } : Jvm.MethodName)) ∈ lw_all := lw_g (lw_at lw_m4 108 rfl) rfl
theorem q1890 : (Jvm.Cond.castable "ConkerYard$Rule" "java/lang/Object") ∈ lw_tbl := lw_at lw_m8 84 rfl
theorem in_X7 : ∀ w ∈ wsX70, w ∈ lw_all := lw_in wsX70 [704] (by decide +kernel) (by decide +kernel)
/-! ConkerYard$Value -/
set_option maxRecDepth 100000
def RX8 : String := "ConkerYard$Value"
abbrev cX8_init : ByteArray := prog_15_method_1_code
def yX8_init : MethodName := ⟨RX8, "<init>", "()V"⟩
theorem dX8_init_0 : decode cX8_init 0 = .ok (.aload_n 0, 1) := by decide +kernel
theorem dX8_init_1 : decode cX8_init 1 = .ok (.invokespecial 1, 3) := by decide +kernel
theorem dX8_init_4 : decode cX8_init 4 = .ok (.return_, 1) := by decide +kernel
theorem q150 : (Jvm.Cond.initialized "ConkerYard$Value") ∈ lw_all := lw_g (lw_at lw_m1 24 rfl) rfl
theorem q731 : (Jvm.Cond.instanceMethod ({ cls := "ConkerYard$Value", name := "<init>", desc := "()V" } : Jvm.MethodName)) ∈ lw_all := lw_g (lw_at lw_m3 125 rfl) rfl
theorem q732 : (Jvm.Cond.code ({ cls := "ConkerYard$Value", name := "<init>", desc := "()V" } : Jvm.MethodName) prog_15_method_1_code (1 : Nat) (Option.none : Option Jvm.ClassFile.FieldType)) ∈ lw_all := lw_g (lw_at lw_m3 126 rfl) rfl
theorem q733 : (Jvm.Cond.methodLink "ConkerYard$Value" (1 : Nat) ({ cls := "java/lang/Object", name := "<init>", desc := "()V" } : Jvm.MethodName)) ∈ lw_all := lw_g (lw_at lw_m3 127 rfl) rfl
theorem q937 : (Jvm.Cond.declares ({ cls := "ConkerYard$Value", name := "of", desc := "([J)J" } : Jvm.MethodName)) ∈ lw_tbl := lw_at lw_m4 91 rfl
theorem q938 : (Jvm.Cond.sameMethod "ConkerYard$Value" "ConkerYard$Value" "of" "([J)J") ∈ lw_all := lw_g (lw_at lw_m4 92 rfl) rfl
/-! ConkerYard$Plain -/
set_option maxRecDepth 100000
def RX9 : String := "ConkerYard$Plain"
def TX9 : u_T := fun k => match k with
  | _ => ("ConkerYard$Plain", "number", "I", true)
def tyX9 : Nat → FieldType := fun k => match k with
  | _ => .int
abbrev wsX90 : List Cond := u_ws RX9 TX9 1
theorem nmX9 : ∀ a, a < 1 → ∀ b, b < 1 → a ≠ b → (TX9 a).2.1 ≠ (TX9 b).2.1 := by decide +kernel
theorem tyX9_ok : ∀ k, k < 1 → parseFieldDescriptor (TX9 k).2.2.1 = some (tyX9 k) := by decide +kernel
abbrev cX9_init : ByteArray := prog_11_method_1_code
def yX9_init : MethodName := ⟨RX9, "<init>", "(I)V"⟩
def dkwX9_init_0 : List UInt8 := [42, 183, 0, 1, 42, 27, 181, 0, 7, 177]
abbrev dktX9_init_0 : List UInt8 := dkwX9_init_0 ++ []
theorem dksX9_init_0 : cX9_init.data.toList.drop 0 = dktX9_init_0 := by decide +kernel
theorem dX9_init_0 : decode cX9_init 0 = .ok (.aload_n 0, 1) := dk_42 (dk_at dksX9_init_0 0 rfl rfl)
theorem dX9_init_1 : decode cX9_init 1 = .ok (.invokespecial 1, 3) := dk_183 0 1 (dk_at dksX9_init_0 1 rfl rfl)
theorem dX9_init_4 : decode cX9_init 4 = .ok (.aload_n 0, 1) := dk_42 (dk_at dksX9_init_0 4 rfl rfl)
theorem dX9_init_5 : decode cX9_init 5 = .ok (.iload_n 1, 1) := dk_27 (dk_at dksX9_init_0 5 rfl rfl)
theorem dX9_init_6 : decode cX9_init 6 = .ok (.putfield 7, 3) := dk_181 0 7 (dk_at dksX9_init_0 6 rfl rfl)
theorem dX9_init_9 : decode cX9_init 9 = .ok (.return_, 1) := dk_177 (dk_at dksX9_init_0 9 rfl rfl)
abbrev cX9_of : ByteArray := prog_11_method_2_code
def yX9_of : MethodName := ⟨RX9, "of", "([J)J"⟩
def dkwX9_of_0 : List UInt8 := [42, 180, 0, 7, 133, 173]
abbrev dktX9_of_0 : List UInt8 := dkwX9_of_0 ++ []
theorem dksX9_of_0 : cX9_of.data.toList.drop 0 = dktX9_of_0 := by decide +kernel
theorem dX9_of_0 : decode cX9_of 0 = .ok (.aload_n 0, 1) := dk_42 (dk_at dksX9_of_0 0 rfl rfl)
theorem dX9_of_1 : decode cX9_of 1 = .ok (.getfield 7, 3) := dk_180 0 7 (dk_at dksX9_of_0 1 rfl rfl)
theorem dX9_of_4 : decode cX9_of 4 = .ok (.i2l, 1) := dk_133 (dk_at dksX9_of_0 4 rfl rfl)
theorem dX9_of_5 : decode cX9_of 5 = .ok (.lreturn, 1) := dk_173 (dk_at dksX9_of_0 5 rfl rfl)
theorem q151 : (Jvm.Cond.initialized "ConkerYard$Plain") ∈ lw_all := lw_g (lw_at lw_m1 25 rfl) rfl
theorem q639 : (Jvm.Cond.selects "ConkerYard$Plain" ({ cls := "java/lang/Object", name := "getClass", desc := "()Ljava/lang/Class;" } : Jvm.MethodName) ({ cls := "java/lang/Object", name := "getClass", desc := "()Ljava/lang/Class;" } : Jvm.MethodName)) ∈ lw_all := lw_g (lw_at lw_m3 33 rfl) rfl
theorem q725 : (Jvm.Cond.instantiable "ConkerYard$Plain" (1 : Nat)) ∈ lw_all := lw_g (lw_at lw_m3 119 rfl) rfl
theorem q728 : (Jvm.Cond.instanceMethod ({ cls := "ConkerYard$Plain", name := "<init>", desc := "(I)V" } : Jvm.MethodName)) ∈ lw_all := lw_g (lw_at lw_m3 122 rfl) rfl
theorem q729 : (Jvm.Cond.code ({ cls := "ConkerYard$Plain", name := "<init>", desc := "(I)V" } : Jvm.MethodName) prog_11_method_1_code (2 : Nat) (Option.none : Option Jvm.ClassFile.FieldType)) ∈ lw_all := lw_g (lw_at lw_m3 123 rfl) rfl
theorem q730 : (Jvm.Cond.methodLinkNest "ConkerYard$Plain" (1 : Nat) ({ cls := "ConkerYard$Value", name := "<init>", desc := "()V" } : Jvm.MethodName) "ConkerYard") ∈ lw_tbl := lw_at lw_m3 124 rfl
theorem q734 : (Jvm.Cond.fieldLink "ConkerYard$Plain" (7 : Nat) "ConkerYard$Plain" "number" "I") ∈ lw_all := lw_g (lw_at lw_m3 128 rfl) rfl
theorem q735 : (Jvm.Cond.laysFinal "ConkerYard$Plain" "ConkerYard$Plain" "number" "I") ∈ lw_all := lw_g (lw_at lw_m3 129 rfl) rfl
theorem q736 : (Jvm.Cond.soleField "ConkerYard$Plain" "number") ∈ lw_all := lw_g (lw_at lw_m3 130 rfl) rfl
theorem q737 : (Jvm.Cond.superclass "ConkerYard$Plain" "ConkerYard$Value") ∈ lw_all := lw_g (lw_at lw_m3 131 rfl) rfl
theorem q946 : (Jvm.Cond.instanceMethod ({ cls := "ConkerYard$Plain", name := "of", desc := "([J)J" } : Jvm.MethodName)) ∈ lw_all := lw_g (lw_at lw_m4 100 rfl) rfl
theorem q947 : (Jvm.Cond.code ({ cls := "ConkerYard$Plain", name := "of", desc := "([J)J" } : Jvm.MethodName) prog_11_method_2_code (2 : Nat) (Option.some Jvm.ClassFile.FieldType.long)) ∈ lw_all := lw_g (lw_at lw_m4 101 rfl) rfl
theorem q948 : (Jvm.Cond.selects "ConkerYard$Plain" ({ cls := "ConkerYard$Value", name := "of", desc := "([J)J" } : Jvm.MethodName) ({ cls := "ConkerYard$Plain", name := "of", desc := "([J)J" } : Jvm.MethodName)) ∈ lw_all := lw_g (lw_at lw_m4 102 rfl) rfl
theorem q1891 : (Jvm.Cond.castable "ConkerYard$Plain" "java/lang/Object") ∈ lw_tbl := lw_at lw_m8 85 rfl
theorem in_X9 : ∀ w ∈ wsX90, w ∈ lw_all := lw_in wsX90 [735] (by decide +kernel) (by decide +kernel)
/-! ConkerYard$Asked -/
set_option maxRecDepth 100000
def RX10 : String := "ConkerYard$Asked"
def TX10 : u_T := fun k => match k with
  | _ => ("ConkerYard$Asked", "word", "I", true)
def tyX10 : Nat → FieldType := fun k => match k with
  | _ => .int
abbrev wsX100 : List Cond := u_ws RX10 TX10 1
theorem nmX10 : ∀ a, a < 1 → ∀ b, b < 1 → a ≠ b → (TX10 a).2.1 ≠ (TX10 b).2.1 := by decide +kernel
theorem tyX10_ok : ∀ k, k < 1 → parseFieldDescriptor (TX10 k).2.2.1 = some (tyX10 k) := by decide +kernel
abbrev cX10_init : ByteArray := prog_2_method_1_code
def yX10_init : MethodName := ⟨RX10, "<init>", "(I)V"⟩
def dkwX10_init_0 : List UInt8 := [42, 183, 0, 1, 42, 27, 181, 0, 7, 177]
abbrev dktX10_init_0 : List UInt8 := dkwX10_init_0 ++ []
theorem dksX10_init_0 : cX10_init.data.toList.drop 0 = dktX10_init_0 := by decide +kernel
theorem dX10_init_0 : decode cX10_init 0 = .ok (.aload_n 0, 1) := dk_42 (dk_at dksX10_init_0 0 rfl rfl)
theorem dX10_init_1 : decode cX10_init 1 = .ok (.invokespecial 1, 3) := dk_183 0 1 (dk_at dksX10_init_0 1 rfl rfl)
theorem dX10_init_4 : decode cX10_init 4 = .ok (.aload_n 0, 1) := dk_42 (dk_at dksX10_init_0 4 rfl rfl)
theorem dX10_init_5 : decode cX10_init 5 = .ok (.iload_n 1, 1) := dk_27 (dk_at dksX10_init_0 5 rfl rfl)
theorem dX10_init_6 : decode cX10_init 6 = .ok (.putfield 7, 3) := dk_181 0 7 (dk_at dksX10_init_0 6 rfl rfl)
theorem dX10_init_9 : decode cX10_init 9 = .ok (.return_, 1) := dk_177 (dk_at dksX10_init_0 9 rfl rfl)
abbrev cX10_of : ByteArray := prog_2_method_2_code
def yX10_of : MethodName := ⟨RX10, "of", "([J)J"⟩
def dkwX10_of_0 : List UInt8 := [43, 42, 180, 0, 7, 47, 173]
abbrev dktX10_of_0 : List UInt8 := dkwX10_of_0 ++ []
theorem dksX10_of_0 : cX10_of.data.toList.drop 0 = dktX10_of_0 := by decide +kernel
theorem dX10_of_0 : decode cX10_of 0 = .ok (.aload_n 1, 1) := dk_43 (dk_at dksX10_of_0 0 rfl rfl)
theorem dX10_of_1 : decode cX10_of 1 = .ok (.aload_n 0, 1) := dk_42 (dk_at dksX10_of_0 1 rfl rfl)
theorem dX10_of_2 : decode cX10_of 2 = .ok (.getfield 7, 3) := dk_180 0 7 (dk_at dksX10_of_0 2 rfl rfl)
theorem dX10_of_5 : decode cX10_of 5 = .ok (.laload, 1) := dk_47 (dk_at dksX10_of_0 5 rfl rfl)
theorem dX10_of_6 : decode cX10_of 6 = .ok (.lreturn, 1) := dk_173 (dk_at dksX10_of_0 6 rfl rfl)
theorem q152 : (Jvm.Cond.initialized "ConkerYard$Asked") ∈ lw_all := lw_g (lw_at lw_m1 26 rfl) rfl
theorem q631 : (Jvm.Cond.selects "ConkerYard$Asked" ({ cls := "java/lang/Object", name := "getClass", desc := "()Ljava/lang/Class;" } : Jvm.MethodName) ({ cls := "java/lang/Object", name := "getClass", desc := "()Ljava/lang/Class;" } : Jvm.MethodName)) ∈ lw_all := lw_g (lw_at lw_m3 25 rfl) rfl
theorem q743 : (Jvm.Cond.instantiable "ConkerYard$Asked" (1 : Nat)) ∈ lw_all := lw_g (lw_at lw_m3 137 rfl) rfl
theorem q745 : (Jvm.Cond.instanceMethod ({ cls := "ConkerYard$Asked", name := "<init>", desc := "(I)V" } : Jvm.MethodName)) ∈ lw_all := lw_g (lw_at lw_m3 139 rfl) rfl
theorem q746 : (Jvm.Cond.code ({ cls := "ConkerYard$Asked", name := "<init>", desc := "(I)V" } : Jvm.MethodName) prog_2_method_1_code (2 : Nat) (Option.none : Option Jvm.ClassFile.FieldType)) ∈ lw_all := lw_g (lw_at lw_m3 140 rfl) rfl
theorem q747 : (Jvm.Cond.methodLinkNest "ConkerYard$Asked" (1 : Nat) ({ cls := "ConkerYard$Value", name := "<init>", desc := "()V" } : Jvm.MethodName) "ConkerYard") ∈ lw_tbl := lw_at lw_m3 141 rfl
theorem q748 : (Jvm.Cond.fieldLink "ConkerYard$Asked" (7 : Nat) "ConkerYard$Asked" "word" "I") ∈ lw_all := lw_g (lw_at lw_m3 142 rfl) rfl
theorem q749 : (Jvm.Cond.laysFinal "ConkerYard$Asked" "ConkerYard$Asked" "word" "I") ∈ lw_all := lw_g (lw_at lw_m3 143 rfl) rfl
theorem q750 : (Jvm.Cond.soleField "ConkerYard$Asked" "word") ∈ lw_all := lw_g (lw_at lw_m3 144 rfl) rfl
theorem q751 : (Jvm.Cond.superclass "ConkerYard$Asked" "ConkerYard$Value") ∈ lw_all := lw_g (lw_at lw_m3 145 rfl) rfl
theorem q939 : (Jvm.Cond.selects "ConkerYard$Asked" ({ cls := "ConkerYard$Value", name := "of", desc := "([J)J" } : Jvm.MethodName) ({ cls := "ConkerYard$Asked", name := "of", desc := "([J)J" } : Jvm.MethodName)) ∈ lw_all := lw_g (lw_at lw_m4 93 rfl) rfl
theorem q940 : (Jvm.Cond.instanceMethod ({ cls := "ConkerYard$Asked", name := "of", desc := "([J)J" } : Jvm.MethodName)) ∈ lw_all := lw_g (lw_at lw_m4 94 rfl) rfl
theorem q941 : (Jvm.Cond.code ({ cls := "ConkerYard$Asked", name := "of", desc := "([J)J" } : Jvm.MethodName) prog_2_method_2_code (2 : Nat) (Option.some Jvm.ClassFile.FieldType.long)) ∈ lw_all := lw_g (lw_at lw_m4 95 rfl) rfl
theorem q1892 : (Jvm.Cond.castable "ConkerYard$Asked" "java/lang/Object") ∈ lw_tbl := lw_at lw_m8 86 rfl
theorem in_X10 : ∀ w ∈ wsX100, w ∈ lw_all := lw_in wsX100 [749] (by decide +kernel) (by decide +kernel)
/-! ConkerYard$Joined -/
set_option maxRecDepth 100000
def RX11 : String := "ConkerYard$Joined"
def TX11 : u_T := fun k => match k with
  | 0 => ("ConkerYard$Joined", "a", "LConkerYard$Value;", true)
  | 1 => ("ConkerYard$Joined", "b", "LConkerYard$Value;", true)
  | _ => ("ConkerYard$Joined", "sign", "I", true)
def tyX11 : Nat → FieldType := fun k => match k with
  | 0 => .object "ConkerYard$Value"
  | 1 => .object "ConkerYard$Value"
  | _ => .int
abbrev wsX110 : List Cond := u_ws RX11 TX11 3
theorem nmX11 : ∀ a, a < 3 → ∀ b, b < 3 → a ≠ b → (TX11 a).2.1 ≠ (TX11 b).2.1 := by decide +kernel
theorem tyX11_ok : ∀ k, k < 3 → parseFieldDescriptor (TX11 k).2.2.1 = some (tyX11 k) := by decide +kernel
abbrev cX11_init : ByteArray := prog_8_method_1_code
def yX11_init : MethodName := ⟨RX11, "<init>", "(LConkerYard$Value;LConkerYard$Value;I)V"⟩
def dkwX11_init_0 : List UInt8 := [42, 183, 0, 1, 42, 43, 181, 0, 7, 42, 44, 181, 0, 13, 42, 29, 181, 0, 16, 177]
abbrev dktX11_init_0 : List UInt8 := dkwX11_init_0 ++ []
theorem dksX11_init_0 : cX11_init.data.toList.drop 0 = dktX11_init_0 := by decide +kernel
theorem dX11_init_0 : decode cX11_init 0 = .ok (.aload_n 0, 1) := dk_42 (dk_at dksX11_init_0 0 rfl rfl)
theorem dX11_init_1 : decode cX11_init 1 = .ok (.invokespecial 1, 3) := dk_183 0 1 (dk_at dksX11_init_0 1 rfl rfl)
theorem dX11_init_4 : decode cX11_init 4 = .ok (.aload_n 0, 1) := dk_42 (dk_at dksX11_init_0 4 rfl rfl)
theorem dX11_init_5 : decode cX11_init 5 = .ok (.aload_n 1, 1) := dk_43 (dk_at dksX11_init_0 5 rfl rfl)
theorem dX11_init_6 : decode cX11_init 6 = .ok (.putfield 7, 3) := dk_181 0 7 (dk_at dksX11_init_0 6 rfl rfl)
theorem dX11_init_9 : decode cX11_init 9 = .ok (.aload_n 0, 1) := dk_42 (dk_at dksX11_init_0 9 rfl rfl)
theorem dX11_init_10 : decode cX11_init 10 = .ok (.aload_n 2, 1) := dk_44 (dk_at dksX11_init_0 10 rfl rfl)
theorem dX11_init_11 : decode cX11_init 11 = .ok (.putfield 13, 3) := dk_181 0 13 (dk_at dksX11_init_0 11 rfl rfl)
theorem dX11_init_14 : decode cX11_init 14 = .ok (.aload_n 0, 1) := dk_42 (dk_at dksX11_init_0 14 rfl rfl)
theorem dX11_init_15 : decode cX11_init 15 = .ok (.iload_n 3, 1) := dk_29 (dk_at dksX11_init_0 15 rfl rfl)
theorem dX11_init_16 : decode cX11_init 16 = .ok (.putfield 16, 3) := dk_181 0 16 (dk_at dksX11_init_0 16 rfl rfl)
theorem dX11_init_19 : decode cX11_init 19 = .ok (.return_, 1) := dk_177 (dk_at dksX11_init_0 19 rfl rfl)
abbrev cX11_of : ByteArray := prog_8_method_2_code
def yX11_of : MethodName := ⟨RX11, "of", "([J)J"⟩
def dkwX11_of_4 : List UInt8 := [22, 4, 113, 173]
abbrev dktX11_of_4 : List UInt8 := dkwX11_of_4 ++ []
def dkwX11_of_3 : List UInt8 := [154, 0, 7, 9, 167, 0, 23, 42, 180, 0, 16, 16, 47, 160, 0, 10, 32, 22, 4, 109, 167, 0, 7, 32]
abbrev dktX11_of_3 : List UInt8 := dkwX11_of_3 ++ dktX11_of_4
def dkwX11_of_2 : List UInt8 := [101, 167, 0, 50, 42, 180, 0, 16, 16, 42, 160, 0, 10, 32, 22, 4, 105, 167, 0, 34, 22, 4, 9, 148]
abbrev dktX11_of_2 : List UInt8 := dkwX11_of_2 ++ dktX11_of_3
def dkwX11_of_1 : List UInt8 := [16, 43, 160, 0, 10, 32, 22, 4, 97, 167, 0, 66, 42, 180, 0, 16, 16, 45, 160, 0, 10, 32, 22, 4]
abbrev dktX11_of_1 : List UInt8 := dkwX11_of_1 ++ dktX11_of_2
def dkwX11_of_0 : List UInt8 := [42, 180, 0, 7, 43, 182, 0, 20, 65, 42, 180, 0, 13, 43, 182, 0, 20, 55, 4, 42, 180, 0, 16]
abbrev dktX11_of_0 : List UInt8 := dkwX11_of_0 ++ dktX11_of_1
theorem dksX11_of_0 : cX11_of.data.toList.drop 0 = dktX11_of_0 := by decide +kernel
theorem dksX11_of_1 : cX11_of.data.toList.drop 23 = dktX11_of_1 := dk_seg dksX11_of_0 23 rfl rfl
theorem dksX11_of_2 : cX11_of.data.toList.drop 47 = dktX11_of_2 := dk_seg dksX11_of_1 24 rfl rfl
theorem dksX11_of_3 : cX11_of.data.toList.drop 71 = dktX11_of_3 := dk_seg dksX11_of_2 24 rfl rfl
theorem dksX11_of_4 : cX11_of.data.toList.drop 95 = dktX11_of_4 := dk_seg dksX11_of_3 24 rfl rfl
theorem dX11_of_0 : decode cX11_of 0 = .ok (.aload_n 0, 1) := dk_42 (dk_at dksX11_of_0 0 rfl rfl)
theorem dX11_of_1 : decode cX11_of 1 = .ok (.getfield 7, 3) := dk_180 0 7 (dk_at dksX11_of_0 1 rfl rfl)
theorem dX11_of_4 : decode cX11_of 4 = .ok (.aload_n 1, 1) := dk_43 (dk_at dksX11_of_0 4 rfl rfl)
theorem dX11_of_5 : decode cX11_of 5 = .ok (.invokevirtual 20, 3) := dk_182 0 20 (dk_at dksX11_of_0 5 rfl rfl)
theorem dX11_of_8 : decode cX11_of 8 = .ok (.lstore_n 2, 1) := dk_65 (dk_at dksX11_of_0 8 rfl rfl)
theorem dX11_of_9 : decode cX11_of 9 = .ok (.aload_n 0, 1) := dk_42 (dk_at dksX11_of_0 9 rfl rfl)
theorem dX11_of_10 : decode cX11_of 10 = .ok (.getfield 13, 3) := dk_180 0 13 (dk_at dksX11_of_0 10 rfl rfl)
theorem dX11_of_13 : decode cX11_of 13 = .ok (.aload_n 1, 1) := dk_43 (dk_at dksX11_of_0 13 rfl rfl)
theorem dX11_of_14 : decode cX11_of 14 = .ok (.invokevirtual 20, 3) := dk_182 0 20 (dk_at dksX11_of_0 14 rfl rfl)
theorem dX11_of_17 : decode cX11_of 17 = .ok (.lstore 4, 2) := dk_55 4 (dk_at dksX11_of_0 17 rfl rfl)
theorem dX11_of_19 : decode cX11_of 19 = .ok (.aload_n 0, 1) := dk_42 (dk_at dksX11_of_0 19 rfl rfl)
theorem dX11_of_20 : decode cX11_of 20 = .ok (.getfield 16, 3) := dk_180 0 16 (dk_at dksX11_of_0 20 rfl rfl)
theorem dX11_of_23 : decode cX11_of 23 = .ok (.bipush 43, 2) := dk_16 43 (dk_at dksX11_of_1 0 rfl rfl)
theorem dX11_of_25 : decode cX11_of 25 = .ok (.if_icmp .ne 10, 3) := dk_160 0 10 (dk_at dksX11_of_1 2 rfl rfl)
theorem dX11_of_28 : decode cX11_of 28 = .ok (.lload_n 2, 1) := dk_32 (dk_at dksX11_of_1 5 rfl rfl)
theorem dX11_of_29 : decode cX11_of 29 = .ok (.lload 4, 2) := dk_22 4 (dk_at dksX11_of_1 6 rfl rfl)
theorem dX11_of_31 : decode cX11_of 31 = .ok (.ladd, 1) := dk_97 (dk_at dksX11_of_1 8 rfl rfl)
theorem dX11_of_32 : decode cX11_of 32 = .ok (.goto 66, 3) := dk_167 0 66 (dk_at dksX11_of_1 9 rfl rfl)
theorem dX11_of_35 : decode cX11_of 35 = .ok (.aload_n 0, 1) := dk_42 (dk_at dksX11_of_1 12 rfl rfl)
theorem dX11_of_36 : decode cX11_of 36 = .ok (.getfield 16, 3) := dk_180 0 16 (dk_at dksX11_of_1 13 rfl rfl)
theorem dX11_of_39 : decode cX11_of 39 = .ok (.bipush 45, 2) := dk_16 45 (dk_at dksX11_of_1 16 rfl rfl)
theorem dX11_of_41 : decode cX11_of 41 = .ok (.if_icmp .ne 10, 3) := dk_160 0 10 (dk_at dksX11_of_1 18 rfl rfl)
theorem dX11_of_44 : decode cX11_of 44 = .ok (.lload_n 2, 1) := dk_32 (dk_at dksX11_of_1 21 rfl rfl)
theorem dX11_of_45 : decode cX11_of 45 = .ok (.lload 4, 2) := dk_22 4 (dk_at dksX11_of_1 22 rfl rfl)
theorem dX11_of_47 : decode cX11_of 47 = .ok (.lsub, 1) := dk_101 (dk_at dksX11_of_2 0 rfl rfl)
theorem dX11_of_48 : decode cX11_of 48 = .ok (.goto 50, 3) := dk_167 0 50 (dk_at dksX11_of_2 1 rfl rfl)
theorem dX11_of_51 : decode cX11_of 51 = .ok (.aload_n 0, 1) := dk_42 (dk_at dksX11_of_2 4 rfl rfl)
theorem dX11_of_52 : decode cX11_of 52 = .ok (.getfield 16, 3) := dk_180 0 16 (dk_at dksX11_of_2 5 rfl rfl)
theorem dX11_of_55 : decode cX11_of 55 = .ok (.bipush 42, 2) := dk_16 42 (dk_at dksX11_of_2 8 rfl rfl)
theorem dX11_of_57 : decode cX11_of 57 = .ok (.if_icmp .ne 10, 3) := dk_160 0 10 (dk_at dksX11_of_2 10 rfl rfl)
theorem dX11_of_60 : decode cX11_of 60 = .ok (.lload_n 2, 1) := dk_32 (dk_at dksX11_of_2 13 rfl rfl)
theorem dX11_of_61 : decode cX11_of 61 = .ok (.lload 4, 2) := dk_22 4 (dk_at dksX11_of_2 14 rfl rfl)
theorem dX11_of_63 : decode cX11_of 63 = .ok (.lmul, 1) := dk_105 (dk_at dksX11_of_2 16 rfl rfl)
theorem dX11_of_64 : decode cX11_of 64 = .ok (.goto 34, 3) := dk_167 0 34 (dk_at dksX11_of_2 17 rfl rfl)
theorem dX11_of_67 : decode cX11_of 67 = .ok (.lload 4, 2) := dk_22 4 (dk_at dksX11_of_2 20 rfl rfl)
theorem dX11_of_69 : decode cX11_of 69 = .ok (.lconst 0, 1) := dk_9 (dk_at dksX11_of_2 22 rfl rfl)
theorem dX11_of_70 : decode cX11_of 70 = .ok (.lcmp, 1) := dk_148 (dk_at dksX11_of_2 23 rfl rfl)
theorem dX11_of_71 : decode cX11_of 71 = .ok (.ifCond .ne 7, 3) := dk_154 0 7 (dk_at dksX11_of_3 0 rfl rfl)
theorem dX11_of_74 : decode cX11_of 74 = .ok (.lconst 0, 1) := dk_9 (dk_at dksX11_of_3 3 rfl rfl)
theorem dX11_of_75 : decode cX11_of 75 = .ok (.goto 23, 3) := dk_167 0 23 (dk_at dksX11_of_3 4 rfl rfl)
theorem dX11_of_78 : decode cX11_of 78 = .ok (.aload_n 0, 1) := dk_42 (dk_at dksX11_of_3 7 rfl rfl)
theorem dX11_of_79 : decode cX11_of 79 = .ok (.getfield 16, 3) := dk_180 0 16 (dk_at dksX11_of_3 8 rfl rfl)
theorem dX11_of_82 : decode cX11_of 82 = .ok (.bipush 47, 2) := dk_16 47 (dk_at dksX11_of_3 11 rfl rfl)
theorem dX11_of_84 : decode cX11_of 84 = .ok (.if_icmp .ne 10, 3) := dk_160 0 10 (dk_at dksX11_of_3 13 rfl rfl)
theorem dX11_of_87 : decode cX11_of 87 = .ok (.lload_n 2, 1) := dk_32 (dk_at dksX11_of_3 16 rfl rfl)
theorem dX11_of_88 : decode cX11_of 88 = .ok (.lload 4, 2) := dk_22 4 (dk_at dksX11_of_3 17 rfl rfl)
theorem dX11_of_90 : decode cX11_of 90 = .ok (.ldiv, 1) := dk_109 (dk_at dksX11_of_3 19 rfl rfl)
theorem dX11_of_91 : decode cX11_of 91 = .ok (.goto 7, 3) := dk_167 0 7 (dk_at dksX11_of_3 20 rfl rfl)
theorem dX11_of_94 : decode cX11_of 94 = .ok (.lload_n 2, 1) := dk_32 (dk_at dksX11_of_3 23 rfl rfl)
theorem dX11_of_95 : decode cX11_of 95 = .ok (.lload 4, 2) := dk_22 4 (dk_at dksX11_of_4 0 rfl rfl)
theorem dX11_of_97 : decode cX11_of 97 = .ok (.lrem, 1) := dk_113 (dk_at dksX11_of_4 2 rfl rfl)
theorem dX11_of_98 : decode cX11_of 98 = .ok (.lreturn, 1) := dk_173 (dk_at dksX11_of_4 3 rfl rfl)
theorem q153 : (Jvm.Cond.initialized "ConkerYard$Joined") ∈ lw_all := lw_g (lw_at lw_m1 27 rfl) rfl
theorem q636 : (Jvm.Cond.selects "ConkerYard$Joined" ({ cls := "java/lang/Object", name := "getClass", desc := "()Ljava/lang/Class;" } : Jvm.MethodName) ({ cls := "java/lang/Object", name := "getClass", desc := "()Ljava/lang/Class;" } : Jvm.MethodName)) ∈ lw_all := lw_g (lw_at lw_m3 30 rfl) rfl
theorem q753 : (Jvm.Cond.instantiable "ConkerYard$Joined" (3 : Nat)) ∈ lw_all := lw_g (lw_at lw_m3 147 rfl) rfl
theorem q755 : (Jvm.Cond.instanceMethod ({ cls := "ConkerYard$Joined", name := "<init>", desc := "(LConkerYard$Value;LConkerYard$Value;I)V" } : Jvm.MethodName)) ∈ lw_all := lw_g (lw_at lw_m3 149 rfl) rfl
theorem q756 : (Jvm.Cond.code ({ cls := "ConkerYard$Joined", name := "<init>", desc := "(LConkerYard$Value;LConkerYard$Value;I)V" } : Jvm.MethodName) prog_8_method_1_code (4 : Nat) (Option.none : Option Jvm.ClassFile.FieldType)) ∈ lw_all := lw_g (lw_at lw_m3 150 rfl) rfl
theorem q757 : (Jvm.Cond.methodLinkNest "ConkerYard$Joined" (1 : Nat) ({ cls := "ConkerYard$Value", name := "<init>", desc := "()V" } : Jvm.MethodName) "ConkerYard") ∈ lw_tbl := lw_at lw_m3 151 rfl
theorem q758 : (Jvm.Cond.fieldLink "ConkerYard$Joined" (7 : Nat) "ConkerYard$Joined" "a" "LConkerYard$Value;") ∈ lw_all := lw_g (lw_at lw_m3 152 rfl) rfl
theorem q759 : (Jvm.Cond.fieldLink "ConkerYard$Joined" (13 : Nat) "ConkerYard$Joined" "b" "LConkerYard$Value;") ∈ lw_all := lw_g (lw_at lw_m3 153 rfl) rfl
theorem q760 : (Jvm.Cond.fieldLink "ConkerYard$Joined" (16 : Nat) "ConkerYard$Joined" "sign" "I") ∈ lw_all := lw_g (lw_at lw_m3 154 rfl) rfl
theorem q761 : (Jvm.Cond.laysFinal "ConkerYard$Joined" "ConkerYard$Joined" "a" "LConkerYard$Value;") ∈ lw_all := lw_g (lw_at lw_m3 155 rfl) rfl
theorem q762 : (Jvm.Cond.soleField "ConkerYard$Joined" "a") ∈ lw_all := lw_g (lw_at lw_m3 156 rfl) rfl
theorem q763 : (Jvm.Cond.laysFinal "ConkerYard$Joined" "ConkerYard$Joined" "b" "LConkerYard$Value;") ∈ lw_all := lw_g (lw_at lw_m3 157 rfl) rfl
theorem q764 : (Jvm.Cond.soleField "ConkerYard$Joined" "b") ∈ lw_all := lw_g (lw_at lw_m3 158 rfl) rfl
theorem q765 : (Jvm.Cond.laysFinal "ConkerYard$Joined" "ConkerYard$Joined" "sign" "I") ∈ lw_all := lw_g (lw_at lw_m3 159 rfl) rfl
theorem q766 : (Jvm.Cond.soleField "ConkerYard$Joined" "sign") ∈ lw_all := lw_g (lw_at lw_m3 160 rfl) rfl
theorem q767 : (Jvm.Cond.superclass "ConkerYard$Joined" "ConkerYard$Value") ∈ lw_all := lw_g (lw_at lw_m3 161 rfl) rfl
theorem q942 : (Jvm.Cond.selects "ConkerYard$Joined" ({ cls := "ConkerYard$Value", name := "of", desc := "([J)J" } : Jvm.MethodName) ({ cls := "ConkerYard$Joined", name := "of", desc := "([J)J" } : Jvm.MethodName)) ∈ lw_all := lw_g (lw_at lw_m4 96 rfl) rfl
theorem q943 : (Jvm.Cond.instanceMethod ({ cls := "ConkerYard$Joined", name := "of", desc := "([J)J" } : Jvm.MethodName)) ∈ lw_all := lw_g (lw_at lw_m4 97 rfl) rfl
theorem q944 : (Jvm.Cond.code ({ cls := "ConkerYard$Joined", name := "of", desc := "([J)J" } : Jvm.MethodName) prog_8_method_2_code (6 : Nat) (Option.some Jvm.ClassFile.FieldType.long)) ∈ lw_all := lw_g (lw_at lw_m4 98 rfl) rfl
theorem q945 : (Jvm.Cond.methodLink "ConkerYard$Joined" (20 : Nat) ({ cls := "ConkerYard$Value", name := "of", desc := "([J)J" } : Jvm.MethodName)) ∈ lw_all := lw_g (lw_at lw_m4 99 rfl) rfl
theorem q1893 : (Jvm.Cond.castable "ConkerYard$Joined" "java/lang/Object") ∈ lw_tbl := lw_at lw_m8 87 rfl
theorem in_X11 : ∀ w ∈ wsX110, w ∈ lw_all := lw_in wsX110 [761, 763, 765] (by decide +kernel) (by decide +kernel)
/-! ConkerYard$Told -/
set_option maxRecDepth 100000
def RX12 : String := "ConkerYard$Told"
def TX12 : u_T := fun k => match k with
  | 0 => ("ConkerYard$Told", "sum", "LConkerYard$Value;", true)
  | _ => ("ConkerYard$Told", "when", "LConkerYard$Condition;", true)
def tyX12 : Nat → FieldType := fun k => match k with
  | 0 => .object "ConkerYard$Value"
  | _ => .object "ConkerYard$Condition"
abbrev wsX120 : List Cond := u_ws RX12 TX12 2
theorem nmX12 : ∀ a, a < 2 → ∀ b, b < 2 → a ≠ b → (TX12 a).2.1 ≠ (TX12 b).2.1 := by decide +kernel
theorem tyX12_ok : ∀ k, k < 2 → parseFieldDescriptor (TX12 k).2.2.1 = some (tyX12 k) := by decide +kernel
abbrev cX12_init : ByteArray := prog_14_method_1_code
def yX12_init : MethodName := ⟨RX12, "<init>", "(LConkerYard$Value;LConkerYard$Condition;)V"⟩
def dkwX12_init_0 : List UInt8 := [42, 183, 0, 1, 42, 43, 181, 0, 7, 42, 44, 181, 0, 13, 177]
abbrev dktX12_init_0 : List UInt8 := dkwX12_init_0 ++ []
theorem dksX12_init_0 : cX12_init.data.toList.drop 0 = dktX12_init_0 := by decide +kernel
theorem dX12_init_0 : decode cX12_init 0 = .ok (.aload_n 0, 1) := dk_42 (dk_at dksX12_init_0 0 rfl rfl)
theorem dX12_init_1 : decode cX12_init 1 = .ok (.invokespecial 1, 3) := dk_183 0 1 (dk_at dksX12_init_0 1 rfl rfl)
theorem dX12_init_4 : decode cX12_init 4 = .ok (.aload_n 0, 1) := dk_42 (dk_at dksX12_init_0 4 rfl rfl)
theorem dX12_init_5 : decode cX12_init 5 = .ok (.aload_n 1, 1) := dk_43 (dk_at dksX12_init_0 5 rfl rfl)
theorem dX12_init_6 : decode cX12_init 6 = .ok (.putfield 7, 3) := dk_181 0 7 (dk_at dksX12_init_0 6 rfl rfl)
theorem dX12_init_9 : decode cX12_init 9 = .ok (.aload_n 0, 1) := dk_42 (dk_at dksX12_init_0 9 rfl rfl)
theorem dX12_init_10 : decode cX12_init 10 = .ok (.aload_n 2, 1) := dk_44 (dk_at dksX12_init_0 10 rfl rfl)
theorem dX12_init_11 : decode cX12_init 11 = .ok (.putfield 13, 3) := dk_181 0 13 (dk_at dksX12_init_0 11 rfl rfl)
theorem dX12_init_14 : decode cX12_init 14 = .ok (.return_, 1) := dk_177 (dk_at dksX12_init_0 14 rfl rfl)
abbrev cX12_holds : ByteArray := prog_14_method_2_code
def yX12_holds : MethodName := ⟨RX12, "holds", "([J)Z"⟩
def dkwX12_holds_0 : List UInt8 := [42, 180, 0, 13, 198, 0, 14, 42, 180, 0, 13, 43, 182, 0, 17, 153, 0, 7, 4, 167, 0, 4, 3, 172]
abbrev dktX12_holds_0 : List UInt8 := dkwX12_holds_0 ++ []
theorem dksX12_holds_0 : cX12_holds.data.toList.drop 0 = dktX12_holds_0 := by decide +kernel
theorem dX12_holds_0 : decode cX12_holds 0 = .ok (.aload_n 0, 1) := dk_42 (dk_at dksX12_holds_0 0 rfl rfl)
theorem dX12_holds_1 : decode cX12_holds 1 = .ok (.getfield 13, 3) := dk_180 0 13 (dk_at dksX12_holds_0 1 rfl rfl)
theorem dX12_holds_4 : decode cX12_holds 4 = .ok (.ifnull 14, 3) := dk_198 0 14 (dk_at dksX12_holds_0 4 rfl rfl)
theorem dX12_holds_7 : decode cX12_holds 7 = .ok (.aload_n 0, 1) := dk_42 (dk_at dksX12_holds_0 7 rfl rfl)
theorem dX12_holds_8 : decode cX12_holds 8 = .ok (.getfield 13, 3) := dk_180 0 13 (dk_at dksX12_holds_0 8 rfl rfl)
theorem dX12_holds_11 : decode cX12_holds 11 = .ok (.aload_n 1, 1) := dk_43 (dk_at dksX12_holds_0 11 rfl rfl)
theorem dX12_holds_12 : decode cX12_holds 12 = .ok (.invokevirtual 17, 3) := dk_182 0 17 (dk_at dksX12_holds_0 12 rfl rfl)
theorem dX12_holds_15 : decode cX12_holds 15 = .ok (.ifCond .eq 7, 3) := dk_153 0 7 (dk_at dksX12_holds_0 15 rfl rfl)
theorem dX12_holds_18 : decode cX12_holds 18 = .ok (.iconst 1, 1) := dk_4 (dk_at dksX12_holds_0 18 rfl rfl)
theorem dX12_holds_19 : decode cX12_holds 19 = .ok (.goto 4, 3) := dk_167 0 4 (dk_at dksX12_holds_0 19 rfl rfl)
theorem dX12_holds_22 : decode cX12_holds 22 = .ok (.iconst 0, 1) := dk_3 (dk_at dksX12_holds_0 22 rfl rfl)
theorem dX12_holds_23 : decode cX12_holds 23 = .ok (.ireturn, 1) := dk_172 (dk_at dksX12_holds_0 23 rfl rfl)
theorem q154 : (Jvm.Cond.initialized "ConkerYard$Told") ∈ lw_all := lw_g (lw_at lw_m1 28 rfl) rfl
theorem q642 : (Jvm.Cond.selects "ConkerYard$Told" ({ cls := "java/lang/Object", name := "getClass", desc := "()Ljava/lang/Class;" } : Jvm.MethodName) ({ cls := "java/lang/Object", name := "getClass", desc := "()Ljava/lang/Class;" } : Jvm.MethodName)) ∈ lw_all := lw_g (lw_at lw_m3 36 rfl) rfl
theorem q769 : (Jvm.Cond.instantiable "ConkerYard$Told" (2 : Nat)) ∈ lw_all := lw_g (lw_at lw_m3 163 rfl) rfl
theorem q843 : (Jvm.Cond.instanceMethod ({ cls := "ConkerYard$Told", name := "<init>", desc := "(LConkerYard$Value;LConkerYard$Condition;)V" } : Jvm.MethodName)) ∈ lw_all := lw_g (lw_at lw_m3 237 rfl) rfl
theorem q844 : (Jvm.Cond.code ({ cls := "ConkerYard$Told", name := "<init>", desc := "(LConkerYard$Value;LConkerYard$Condition;)V" } : Jvm.MethodName) prog_14_method_1_code (3 : Nat) (Option.none : Option Jvm.ClassFile.FieldType)) ∈ lw_all := lw_g (lw_at lw_m3 238 rfl) rfl
theorem q845 : (Jvm.Cond.methodLink "ConkerYard$Told" (1 : Nat) ({ cls := "java/lang/Record", name := "<init>", desc := "()V" } : Jvm.MethodName)) ∈ lw_all := lw_g (lw_at lw_m3 239 rfl) rfl
theorem q846 : (Jvm.Cond.fieldLink "ConkerYard$Told" (7 : Nat) "ConkerYard$Told" "sum" "LConkerYard$Value;") ∈ lw_all := lw_g (lw_at lw_m4 0 rfl) rfl
theorem q848 : (Jvm.Cond.fieldLink "ConkerYard$Told" (13 : Nat) "ConkerYard$Told" "when" "LConkerYard$Condition;") ∈ lw_all := lw_g (lw_at lw_m4 2 rfl) rfl
theorem q849 : (Jvm.Cond.laysFinal "ConkerYard$Told" "ConkerYard$Told" "sum" "LConkerYard$Value;") ∈ lw_all := lw_g (lw_at lw_m4 3 rfl) rfl
theorem q850 : (Jvm.Cond.soleField "ConkerYard$Told" "sum") ∈ lw_all := lw_g (lw_at lw_m4 4 rfl) rfl
theorem q851 : (Jvm.Cond.laysFinal "ConkerYard$Told" "ConkerYard$Told" "when" "LConkerYard$Condition;") ∈ lw_all := lw_g (lw_at lw_m4 5 rfl) rfl
theorem q852 : (Jvm.Cond.soleField "ConkerYard$Told" "when") ∈ lw_all := lw_g (lw_at lw_m4 6 rfl) rfl
theorem q853 : (Jvm.Cond.superclass "ConkerYard$Told" "java/lang/Record") ∈ lw_all := lw_g (lw_at lw_m4 7 rfl) rfl
theorem q924 : (Jvm.Cond.instanceMethod ({ cls := "ConkerYard$Told", name := "holds", desc := "([J)Z" } : Jvm.MethodName)) ∈ lw_all := lw_g (lw_at lw_m4 78 rfl) rfl
theorem q925 : (Jvm.Cond.selects "ConkerYard$Told" ({ cls := "ConkerYard$Told", name := "holds", desc := "([J)Z" } : Jvm.MethodName) ({ cls := "ConkerYard$Told", name := "holds", desc := "([J)Z" } : Jvm.MethodName)) ∈ lw_all := lw_g (lw_at lw_m4 79 rfl) rfl
theorem q926 : (Jvm.Cond.code ({ cls := "ConkerYard$Told", name := "holds", desc := "([J)Z" } : Jvm.MethodName) prog_14_method_2_code (2 : Nat) (Option.some Jvm.ClassFile.FieldType.boolean)) ∈ lw_all := lw_g (lw_at lw_m4 80 rfl) rfl
theorem q927 : (Jvm.Cond.methodLink "ConkerYard$Told" (17 : Nat) ({ cls := "ConkerYard$Condition", name := "is", desc := "([J)Z" } : Jvm.MethodName)) ∈ lw_all := lw_g (lw_at lw_m4 81 rfl) rfl
theorem q1894 : (Jvm.Cond.castable "ConkerYard$Told" "java/lang/Object") ∈ lw_tbl := lw_at lw_m8 88 rfl
theorem in_X12 : ∀ w ∈ wsX120, w ∈ lw_all := lw_in wsX120 [849, 851] (by decide +kernel) (by decide +kernel)
/-! ConkerYard$Condition -/
set_option maxRecDepth 100000
def RX13 : String := "ConkerYard$Condition"
abbrev cX13_init : ByteArray := prog_5_method_1_code
def yX13_init : MethodName := ⟨RX13, "<init>", "()V"⟩
theorem dX13_init_0 : decode cX13_init 0 = .ok (.aload_n 0, 1) := by decide +kernel
theorem dX13_init_1 : decode cX13_init 1 = .ok (.invokespecial 1, 3) := by decide +kernel
theorem dX13_init_4 : decode cX13_init 4 = .ok (.return_, 1) := by decide +kernel
theorem q155 : (Jvm.Cond.initialized "ConkerYard$Condition") ∈ lw_all := lw_g (lw_at lw_m1 29 rfl) rfl
theorem q798 : (Jvm.Cond.instanceMethod ({ cls := "ConkerYard$Condition", name := "<init>", desc := "()V" } : Jvm.MethodName)) ∈ lw_all := lw_g (lw_at lw_m3 192 rfl) rfl
theorem q799 : (Jvm.Cond.code ({ cls := "ConkerYard$Condition", name := "<init>", desc := "()V" } : Jvm.MethodName) prog_5_method_1_code (1 : Nat) (Option.none : Option Jvm.ClassFile.FieldType)) ∈ lw_all := lw_g (lw_at lw_m3 193 rfl) rfl
theorem q800 : (Jvm.Cond.methodLink "ConkerYard$Condition" (1 : Nat) ({ cls := "java/lang/Object", name := "<init>", desc := "()V" } : Jvm.MethodName)) ∈ lw_all := lw_g (lw_at lw_m3 194 rfl) rfl
theorem q928 : (Jvm.Cond.declares ({ cls := "ConkerYard$Condition", name := "is", desc := "([J)Z" } : Jvm.MethodName)) ∈ lw_tbl := lw_at lw_m4 82 rfl
theorem q929 : (Jvm.Cond.sameMethod "ConkerYard$Condition" "ConkerYard$Condition" "is" "([J)Z") ∈ lw_all := lw_g (lw_at lw_m4 83 rfl) rfl
/-! ConkerYard$Not -/
set_option maxRecDepth 100000
def RX14 : String := "ConkerYard$Not"
def TX14 : u_T := fun k => match k with
  | _ => ("ConkerYard$Not", "of", "LConkerYard$Condition;", true)
def tyX14 : Nat → FieldType := fun k => match k with
  | _ => .object "ConkerYard$Condition"
abbrev wsX140 : List Cond := u_ws RX14 TX14 1
theorem nmX14 : ∀ a, a < 1 → ∀ b, b < 1 → a ≠ b → (TX14 a).2.1 ≠ (TX14 b).2.1 := by decide +kernel
theorem tyX14_ok : ∀ k, k < 1 → parseFieldDescriptor (TX14 k).2.2.1 = some (tyX14 k) := by decide +kernel
abbrev cX14_init : ByteArray := prog_9_method_1_code
def yX14_init : MethodName := ⟨RX14, "<init>", "(LConkerYard$Condition;)V"⟩
def dkwX14_init_0 : List UInt8 := [42, 183, 0, 1, 42, 43, 181, 0, 7, 177]
abbrev dktX14_init_0 : List UInt8 := dkwX14_init_0 ++ []
theorem dksX14_init_0 : cX14_init.data.toList.drop 0 = dktX14_init_0 := by decide +kernel
theorem dX14_init_0 : decode cX14_init 0 = .ok (.aload_n 0, 1) := dk_42 (dk_at dksX14_init_0 0 rfl rfl)
theorem dX14_init_1 : decode cX14_init 1 = .ok (.invokespecial 1, 3) := dk_183 0 1 (dk_at dksX14_init_0 1 rfl rfl)
theorem dX14_init_4 : decode cX14_init 4 = .ok (.aload_n 0, 1) := dk_42 (dk_at dksX14_init_0 4 rfl rfl)
theorem dX14_init_5 : decode cX14_init 5 = .ok (.aload_n 1, 1) := dk_43 (dk_at dksX14_init_0 5 rfl rfl)
theorem dX14_init_6 : decode cX14_init 6 = .ok (.putfield 7, 3) := dk_181 0 7 (dk_at dksX14_init_0 6 rfl rfl)
theorem dX14_init_9 : decode cX14_init 9 = .ok (.return_, 1) := dk_177 (dk_at dksX14_init_0 9 rfl rfl)
abbrev cX14_is : ByteArray := prog_9_method_2_code
def yX14_is : MethodName := ⟨RX14, "is", "([J)Z"⟩
def dkwX14_is_0 : List UInt8 := [42, 180, 0, 7, 43, 182, 0, 13, 154, 0, 7, 4, 167, 0, 4, 3, 172]
abbrev dktX14_is_0 : List UInt8 := dkwX14_is_0 ++ []
theorem dksX14_is_0 : cX14_is.data.toList.drop 0 = dktX14_is_0 := by decide +kernel
theorem dX14_is_0 : decode cX14_is 0 = .ok (.aload_n 0, 1) := dk_42 (dk_at dksX14_is_0 0 rfl rfl)
theorem dX14_is_1 : decode cX14_is 1 = .ok (.getfield 7, 3) := dk_180 0 7 (dk_at dksX14_is_0 1 rfl rfl)
theorem dX14_is_4 : decode cX14_is 4 = .ok (.aload_n 1, 1) := dk_43 (dk_at dksX14_is_0 4 rfl rfl)
theorem dX14_is_5 : decode cX14_is 5 = .ok (.invokevirtual 13, 3) := dk_182 0 13 (dk_at dksX14_is_0 5 rfl rfl)
theorem dX14_is_8 : decode cX14_is 8 = .ok (.ifCond .ne 7, 3) := dk_154 0 7 (dk_at dksX14_is_0 8 rfl rfl)
theorem dX14_is_11 : decode cX14_is 11 = .ok (.iconst 1, 1) := dk_4 (dk_at dksX14_is_0 11 rfl rfl)
theorem dX14_is_12 : decode cX14_is 12 = .ok (.goto 4, 3) := dk_167 0 4 (dk_at dksX14_is_0 12 rfl rfl)
theorem dX14_is_15 : decode cX14_is 15 = .ok (.iconst 0, 1) := dk_3 (dk_at dksX14_is_0 15 rfl rfl)
theorem dX14_is_16 : decode cX14_is 16 = .ok (.ireturn, 1) := dk_172 (dk_at dksX14_is_0 16 rfl rfl)
theorem q156 : (Jvm.Cond.initialized "ConkerYard$Not") ∈ lw_all := lw_g (lw_at lw_m1 30 rfl) rfl
theorem q637 : (Jvm.Cond.selects "ConkerYard$Not" ({ cls := "java/lang/Object", name := "getClass", desc := "()Ljava/lang/Class;" } : Jvm.MethodName) ({ cls := "java/lang/Object", name := "getClass", desc := "()Ljava/lang/Class;" } : Jvm.MethodName)) ∈ lw_all := lw_g (lw_at lw_m3 31 rfl) rfl
theorem q793 : (Jvm.Cond.instantiable "ConkerYard$Not" (1 : Nat)) ∈ lw_all := lw_g (lw_at lw_m3 187 rfl) rfl
theorem q795 : (Jvm.Cond.instanceMethod ({ cls := "ConkerYard$Not", name := "<init>", desc := "(LConkerYard$Condition;)V" } : Jvm.MethodName)) ∈ lw_all := lw_g (lw_at lw_m3 189 rfl) rfl
theorem q796 : (Jvm.Cond.code ({ cls := "ConkerYard$Not", name := "<init>", desc := "(LConkerYard$Condition;)V" } : Jvm.MethodName) prog_9_method_1_code (2 : Nat) (Option.none : Option Jvm.ClassFile.FieldType)) ∈ lw_all := lw_g (lw_at lw_m3 190 rfl) rfl
theorem q797 : (Jvm.Cond.methodLinkNest "ConkerYard$Not" (1 : Nat) ({ cls := "ConkerYard$Condition", name := "<init>", desc := "()V" } : Jvm.MethodName) "ConkerYard") ∈ lw_tbl := lw_at lw_m3 191 rfl
theorem q801 : (Jvm.Cond.fieldLink "ConkerYard$Not" (7 : Nat) "ConkerYard$Not" "of" "LConkerYard$Condition;") ∈ lw_all := lw_g (lw_at lw_m3 195 rfl) rfl
theorem q802 : (Jvm.Cond.laysFinal "ConkerYard$Not" "ConkerYard$Not" "of" "LConkerYard$Condition;") ∈ lw_all := lw_g (lw_at lw_m3 196 rfl) rfl
theorem q803 : (Jvm.Cond.soleField "ConkerYard$Not" "of") ∈ lw_all := lw_g (lw_at lw_m3 197 rfl) rfl
theorem q804 : (Jvm.Cond.superclass "ConkerYard$Not" "ConkerYard$Condition") ∈ lw_all := lw_g (lw_at lw_m3 198 rfl) rfl
theorem q949 : (Jvm.Cond.instanceMethod ({ cls := "ConkerYard$Not", name := "is", desc := "([J)Z" } : Jvm.MethodName)) ∈ lw_all := lw_g (lw_at lw_m4 103 rfl) rfl
theorem q950 : (Jvm.Cond.code ({ cls := "ConkerYard$Not", name := "is", desc := "([J)Z" } : Jvm.MethodName) prog_9_method_2_code (2 : Nat) (Option.some Jvm.ClassFile.FieldType.boolean)) ∈ lw_all := lw_g (lw_at lw_m4 104 rfl) rfl
theorem q951 : (Jvm.Cond.methodLink "ConkerYard$Not" (13 : Nat) ({ cls := "ConkerYard$Condition", name := "is", desc := "([J)Z" } : Jvm.MethodName)) ∈ lw_all := lw_g (lw_at lw_m4 105 rfl) rfl
theorem q953 : (Jvm.Cond.selects "ConkerYard$Not" ({ cls := "ConkerYard$Condition", name := "is", desc := "([J)Z" } : Jvm.MethodName) ({ cls := "ConkerYard$Not", name := "is", desc := "([J)Z" } : Jvm.MethodName)) ∈ lw_all := lw_g (lw_at lw_m4 107 rfl) rfl
theorem q1895 : (Jvm.Cond.castable "ConkerYard$Not" "java/lang/Object") ∈ lw_tbl := lw_at lw_m8 89 rfl
theorem in_X14 : ∀ w ∈ wsX140, w ∈ lw_all := lw_in wsX140 [802] (by decide +kernel) (by decide +kernel)
/-! ConkerYard$Compared -/
set_option maxRecDepth 100000
def RX15 : String := "ConkerYard$Compared"
def TX15 : u_T := fun k => match k with
  | 0 => ("ConkerYard$Compared", "a", "LConkerYard$Value;", true)
  | 1 => ("ConkerYard$Compared", "b", "LConkerYard$Value;", true)
  | 2 => ("ConkerYard$Compared", "sign", "I", true)
  | _ => ("ConkerYard$Compared", "same", "Z", true)
def tyX15 : Nat → FieldType := fun k => match k with
  | 0 => .object "ConkerYard$Value"
  | 1 => .object "ConkerYard$Value"
  | 2 => .int
  | _ => .boolean
abbrev wsX150 : List Cond := u_ws RX15 TX15 4
theorem nmX15 : ∀ a, a < 4 → ∀ b, b < 4 → a ≠ b → (TX15 a).2.1 ≠ (TX15 b).2.1 := by decide +kernel
theorem tyX15_ok : ∀ k, k < 4 → parseFieldDescriptor (TX15 k).2.2.1 = some (tyX15 k) := by decide +kernel
abbrev cX15_init : ByteArray := prog_4_method_1_code
def yX15_init : MethodName := ⟨RX15, "<init>", "(LConkerYard$Value;LConkerYard$Value;IZ)V"⟩
def dkwX15_init_1 : List UInt8 := [181, 0, 20, 177]
abbrev dktX15_init_1 : List UInt8 := dkwX15_init_1 ++ []
def dkwX15_init_0 : List UInt8 := [42, 183, 0, 1, 42, 43, 181, 0, 7, 42, 44, 181, 0, 13, 42, 29, 181, 0, 16, 42, 21, 4]
abbrev dktX15_init_0 : List UInt8 := dkwX15_init_0 ++ dktX15_init_1
theorem dksX15_init_0 : cX15_init.data.toList.drop 0 = dktX15_init_0 := by decide +kernel
theorem dksX15_init_1 : cX15_init.data.toList.drop 22 = dktX15_init_1 := dk_seg dksX15_init_0 22 rfl rfl
theorem dX15_init_0 : decode cX15_init 0 = .ok (.aload_n 0, 1) := dk_42 (dk_at dksX15_init_0 0 rfl rfl)
theorem dX15_init_1 : decode cX15_init 1 = .ok (.invokespecial 1, 3) := dk_183 0 1 (dk_at dksX15_init_0 1 rfl rfl)
theorem dX15_init_4 : decode cX15_init 4 = .ok (.aload_n 0, 1) := dk_42 (dk_at dksX15_init_0 4 rfl rfl)
theorem dX15_init_5 : decode cX15_init 5 = .ok (.aload_n 1, 1) := dk_43 (dk_at dksX15_init_0 5 rfl rfl)
theorem dX15_init_6 : decode cX15_init 6 = .ok (.putfield 7, 3) := dk_181 0 7 (dk_at dksX15_init_0 6 rfl rfl)
theorem dX15_init_9 : decode cX15_init 9 = .ok (.aload_n 0, 1) := dk_42 (dk_at dksX15_init_0 9 rfl rfl)
theorem dX15_init_10 : decode cX15_init 10 = .ok (.aload_n 2, 1) := dk_44 (dk_at dksX15_init_0 10 rfl rfl)
theorem dX15_init_11 : decode cX15_init 11 = .ok (.putfield 13, 3) := dk_181 0 13 (dk_at dksX15_init_0 11 rfl rfl)
theorem dX15_init_14 : decode cX15_init 14 = .ok (.aload_n 0, 1) := dk_42 (dk_at dksX15_init_0 14 rfl rfl)
theorem dX15_init_15 : decode cX15_init 15 = .ok (.iload_n 3, 1) := dk_29 (dk_at dksX15_init_0 15 rfl rfl)
theorem dX15_init_16 : decode cX15_init 16 = .ok (.putfield 16, 3) := dk_181 0 16 (dk_at dksX15_init_0 16 rfl rfl)
theorem dX15_init_19 : decode cX15_init 19 = .ok (.aload_n 0, 1) := dk_42 (dk_at dksX15_init_0 19 rfl rfl)
theorem dX15_init_20 : decode cX15_init 20 = .ok (.iload 4, 2) := dk_21 4 (dk_at dksX15_init_0 20 rfl rfl)
theorem dX15_init_22 : decode cX15_init 22 = .ok (.putfield 20, 3) := dk_181 0 20 (dk_at dksX15_init_1 0 rfl rfl)
theorem dX15_init_25 : decode cX15_init 25 = .ok (.return_, 1) := dk_177 (dk_at dksX15_init_1 3 rfl rfl)
abbrev cX15_is : ByteArray := prog_4_method_2_code
def yX15_is : MethodName := ⟨RX15, "is", "([J)Z"⟩
def dkwX15_is_3 : List UInt8 := [16, 62, 160, 0, 14, 32, 22, 4, 148, 158, 0, 7, 4, 167, 0, 4, 3, 172]
abbrev dktX15_is_3 : List UInt8 := dkwX15_is_3 ++ []
def dkwX15_is_2 : List UInt8 := [167, 0, 40, 42, 180, 0, 16, 16, 60, 160, 0, 10, 32, 22, 4, 148, 155, 0, 19, 42, 180, 0, 16]
abbrev dktX15_is_2 : List UInt8 := dkwX15_is_2 ++ dktX15_is_3
def dkwX15_is_1 : List UInt8 := [154, 0, 27, 42, 180, 0, 16, 16, 61, 159, 0, 10, 42, 180, 0, 20, 153, 0, 7, 4, 167, 0, 44, 3]
abbrev dktX15_is_1 : List UInt8 := dkwX15_is_1 ++ dktX15_is_2
def dkwX15_is_0 : List UInt8 := [42, 180, 0, 7, 43, 182, 0, 24, 65, 42, 180, 0, 13, 43, 182, 0, 24, 55, 4, 32, 22, 4, 148]
abbrev dktX15_is_0 : List UInt8 := dkwX15_is_0 ++ dktX15_is_1
theorem dksX15_is_0 : cX15_is.data.toList.drop 0 = dktX15_is_0 := by decide +kernel
theorem dksX15_is_1 : cX15_is.data.toList.drop 23 = dktX15_is_1 := dk_seg dksX15_is_0 23 rfl rfl
theorem dksX15_is_2 : cX15_is.data.toList.drop 47 = dktX15_is_2 := dk_seg dksX15_is_1 24 rfl rfl
theorem dksX15_is_3 : cX15_is.data.toList.drop 70 = dktX15_is_3 := dk_seg dksX15_is_2 23 rfl rfl
theorem dX15_is_0 : decode cX15_is 0 = .ok (.aload_n 0, 1) := dk_42 (dk_at dksX15_is_0 0 rfl rfl)
theorem dX15_is_1 : decode cX15_is 1 = .ok (.getfield 7, 3) := dk_180 0 7 (dk_at dksX15_is_0 1 rfl rfl)
theorem dX15_is_4 : decode cX15_is 4 = .ok (.aload_n 1, 1) := dk_43 (dk_at dksX15_is_0 4 rfl rfl)
theorem dX15_is_5 : decode cX15_is 5 = .ok (.invokevirtual 24, 3) := dk_182 0 24 (dk_at dksX15_is_0 5 rfl rfl)
theorem dX15_is_8 : decode cX15_is 8 = .ok (.lstore_n 2, 1) := dk_65 (dk_at dksX15_is_0 8 rfl rfl)
theorem dX15_is_9 : decode cX15_is 9 = .ok (.aload_n 0, 1) := dk_42 (dk_at dksX15_is_0 9 rfl rfl)
theorem dX15_is_10 : decode cX15_is 10 = .ok (.getfield 13, 3) := dk_180 0 13 (dk_at dksX15_is_0 10 rfl rfl)
theorem dX15_is_13 : decode cX15_is 13 = .ok (.aload_n 1, 1) := dk_43 (dk_at dksX15_is_0 13 rfl rfl)
theorem dX15_is_14 : decode cX15_is 14 = .ok (.invokevirtual 24, 3) := dk_182 0 24 (dk_at dksX15_is_0 14 rfl rfl)
theorem dX15_is_17 : decode cX15_is 17 = .ok (.lstore 4, 2) := dk_55 4 (dk_at dksX15_is_0 17 rfl rfl)
theorem dX15_is_19 : decode cX15_is 19 = .ok (.lload_n 2, 1) := dk_32 (dk_at dksX15_is_0 19 rfl rfl)
theorem dX15_is_20 : decode cX15_is 20 = .ok (.lload 4, 2) := dk_22 4 (dk_at dksX15_is_0 20 rfl rfl)
theorem dX15_is_22 : decode cX15_is 22 = .ok (.lcmp, 1) := dk_148 (dk_at dksX15_is_0 22 rfl rfl)
theorem dX15_is_23 : decode cX15_is 23 = .ok (.ifCond .ne 27, 3) := dk_154 0 27 (dk_at dksX15_is_1 0 rfl rfl)
theorem dX15_is_26 : decode cX15_is 26 = .ok (.aload_n 0, 1) := dk_42 (dk_at dksX15_is_1 3 rfl rfl)
theorem dX15_is_27 : decode cX15_is 27 = .ok (.getfield 16, 3) := dk_180 0 16 (dk_at dksX15_is_1 4 rfl rfl)
theorem dX15_is_30 : decode cX15_is 30 = .ok (.bipush 61, 2) := dk_16 61 (dk_at dksX15_is_1 7 rfl rfl)
theorem dX15_is_32 : decode cX15_is 32 = .ok (.if_icmp .eq 10, 3) := dk_159 0 10 (dk_at dksX15_is_1 9 rfl rfl)
theorem dX15_is_35 : decode cX15_is 35 = .ok (.aload_n 0, 1) := dk_42 (dk_at dksX15_is_1 12 rfl rfl)
theorem dX15_is_36 : decode cX15_is 36 = .ok (.getfield 20, 3) := dk_180 0 20 (dk_at dksX15_is_1 13 rfl rfl)
theorem dX15_is_39 : decode cX15_is 39 = .ok (.ifCond .eq 7, 3) := dk_153 0 7 (dk_at dksX15_is_1 16 rfl rfl)
theorem dX15_is_42 : decode cX15_is 42 = .ok (.iconst 1, 1) := dk_4 (dk_at dksX15_is_1 19 rfl rfl)
theorem dX15_is_43 : decode cX15_is 43 = .ok (.goto 44, 3) := dk_167 0 44 (dk_at dksX15_is_1 20 rfl rfl)
theorem dX15_is_46 : decode cX15_is 46 = .ok (.iconst 0, 1) := dk_3 (dk_at dksX15_is_1 23 rfl rfl)
theorem dX15_is_47 : decode cX15_is 47 = .ok (.goto 40, 3) := dk_167 0 40 (dk_at dksX15_is_2 0 rfl rfl)
theorem dX15_is_50 : decode cX15_is 50 = .ok (.aload_n 0, 1) := dk_42 (dk_at dksX15_is_2 3 rfl rfl)
theorem dX15_is_51 : decode cX15_is 51 = .ok (.getfield 16, 3) := dk_180 0 16 (dk_at dksX15_is_2 4 rfl rfl)
theorem dX15_is_54 : decode cX15_is 54 = .ok (.bipush 60, 2) := dk_16 60 (dk_at dksX15_is_2 7 rfl rfl)
theorem dX15_is_56 : decode cX15_is 56 = .ok (.if_icmp .ne 10, 3) := dk_160 0 10 (dk_at dksX15_is_2 9 rfl rfl)
theorem dX15_is_59 : decode cX15_is 59 = .ok (.lload_n 2, 1) := dk_32 (dk_at dksX15_is_2 12 rfl rfl)
theorem dX15_is_60 : decode cX15_is 60 = .ok (.lload 4, 2) := dk_22 4 (dk_at dksX15_is_2 13 rfl rfl)
theorem dX15_is_62 : decode cX15_is 62 = .ok (.lcmp, 1) := dk_148 (dk_at dksX15_is_2 15 rfl rfl)
theorem dX15_is_63 : decode cX15_is 63 = .ok (.ifCond .lt 19, 3) := dk_155 0 19 (dk_at dksX15_is_2 16 rfl rfl)
theorem dX15_is_66 : decode cX15_is 66 = .ok (.aload_n 0, 1) := dk_42 (dk_at dksX15_is_2 19 rfl rfl)
theorem dX15_is_67 : decode cX15_is 67 = .ok (.getfield 16, 3) := dk_180 0 16 (dk_at dksX15_is_2 20 rfl rfl)
theorem dX15_is_70 : decode cX15_is 70 = .ok (.bipush 62, 2) := dk_16 62 (dk_at dksX15_is_3 0 rfl rfl)
theorem dX15_is_72 : decode cX15_is 72 = .ok (.if_icmp .ne 14, 3) := dk_160 0 14 (dk_at dksX15_is_3 2 rfl rfl)
theorem dX15_is_75 : decode cX15_is 75 = .ok (.lload_n 2, 1) := dk_32 (dk_at dksX15_is_3 5 rfl rfl)
theorem dX15_is_76 : decode cX15_is 76 = .ok (.lload 4, 2) := dk_22 4 (dk_at dksX15_is_3 6 rfl rfl)
theorem dX15_is_78 : decode cX15_is 78 = .ok (.lcmp, 1) := dk_148 (dk_at dksX15_is_3 8 rfl rfl)
theorem dX15_is_79 : decode cX15_is 79 = .ok (.ifCond .le 7, 3) := dk_158 0 7 (dk_at dksX15_is_3 9 rfl rfl)
theorem dX15_is_82 : decode cX15_is 82 = .ok (.iconst 1, 1) := dk_4 (dk_at dksX15_is_3 12 rfl rfl)
theorem dX15_is_83 : decode cX15_is 83 = .ok (.goto 4, 3) := dk_167 0 4 (dk_at dksX15_is_3 13 rfl rfl)
theorem dX15_is_86 : decode cX15_is 86 = .ok (.iconst 0, 1) := dk_3 (dk_at dksX15_is_3 16 rfl rfl)
theorem dX15_is_87 : decode cX15_is 87 = .ok (.ireturn, 1) := dk_172 (dk_at dksX15_is_3 17 rfl rfl)
theorem q157 : (Jvm.Cond.initialized "ConkerYard$Compared") ∈ lw_all := lw_g (lw_at lw_m1 31 rfl) rfl
theorem q633 : (Jvm.Cond.selects "ConkerYard$Compared" ({ cls := "java/lang/Object", name := "getClass", desc := "()Ljava/lang/Class;" } : Jvm.MethodName) ({ cls := "java/lang/Object", name := "getClass", desc := "()Ljava/lang/Class;" } : Jvm.MethodName)) ∈ lw_all := lw_g (lw_at lw_m3 27 rfl) rfl
theorem q806 : (Jvm.Cond.instantiable "ConkerYard$Compared" (4 : Nat)) ∈ lw_all := lw_g (lw_at lw_m3 200 rfl) rfl
theorem q808 : (Jvm.Cond.instanceMethod ({ cls := "ConkerYard$Compared", name := "<init>", desc := "(LConkerYard$Value;LConkerYard$Value;IZ)V" } : Jvm.MethodName)) ∈ lw_all := lw_g (lw_at lw_m3 202 rfl) rfl
theorem q809 : (Jvm.Cond.code ({ cls := "ConkerYard$Compared", name := "<init>", desc := "(LConkerYard$Value;LConkerYard$Value;IZ)V" } : Jvm.MethodName) prog_4_method_1_code (5 : Nat) (Option.none : Option Jvm.ClassFile.FieldType)) ∈ lw_all := lw_g (lw_at lw_m3 203 rfl) rfl
theorem q810 : (Jvm.Cond.methodLinkNest "ConkerYard$Compared" (1 : Nat) ({ cls := "ConkerYard$Condition", name := "<init>", desc := "()V" } : Jvm.MethodName) "ConkerYard") ∈ lw_tbl := lw_at lw_m3 204 rfl
theorem q811 : (Jvm.Cond.fieldLink "ConkerYard$Compared" (7 : Nat) "ConkerYard$Compared" "a" "LConkerYard$Value;") ∈ lw_all := lw_g (lw_at lw_m3 205 rfl) rfl
theorem q812 : (Jvm.Cond.fieldLink "ConkerYard$Compared" (13 : Nat) "ConkerYard$Compared" "b" "LConkerYard$Value;") ∈ lw_all := lw_g (lw_at lw_m3 206 rfl) rfl
theorem q813 : (Jvm.Cond.fieldLink "ConkerYard$Compared" (16 : Nat) "ConkerYard$Compared" "sign" "I") ∈ lw_all := lw_g (lw_at lw_m3 207 rfl) rfl
theorem q814 : (Jvm.Cond.fieldLink "ConkerYard$Compared" (20 : Nat) "ConkerYard$Compared" "same" "Z") ∈ lw_all := lw_g (lw_at lw_m3 208 rfl) rfl
theorem q815 : (Jvm.Cond.laysFinal "ConkerYard$Compared" "ConkerYard$Compared" "a" "LConkerYard$Value;") ∈ lw_all := lw_g (lw_at lw_m3 209 rfl) rfl
theorem q816 : (Jvm.Cond.soleField "ConkerYard$Compared" "a") ∈ lw_all := lw_g (lw_at lw_m3 210 rfl) rfl
theorem q817 : (Jvm.Cond.laysFinal "ConkerYard$Compared" "ConkerYard$Compared" "b" "LConkerYard$Value;") ∈ lw_all := lw_g (lw_at lw_m3 211 rfl) rfl
theorem q818 : (Jvm.Cond.soleField "ConkerYard$Compared" "b") ∈ lw_all := lw_g (lw_at lw_m3 212 rfl) rfl
theorem q819 : (Jvm.Cond.laysFinal "ConkerYard$Compared" "ConkerYard$Compared" "sign" "I") ∈ lw_all := lw_g (lw_at lw_m3 213 rfl) rfl
theorem q820 : (Jvm.Cond.soleField "ConkerYard$Compared" "sign") ∈ lw_all := lw_g (lw_at lw_m3 214 rfl) rfl
theorem q821 : (Jvm.Cond.laysFinal "ConkerYard$Compared" "ConkerYard$Compared" "same" "Z") ∈ lw_all := lw_g (lw_at lw_m3 215 rfl) rfl
theorem q822 : (Jvm.Cond.soleField "ConkerYard$Compared" "same") ∈ lw_all := lw_g (lw_at lw_m3 216 rfl) rfl
theorem q823 : (Jvm.Cond.superclass "ConkerYard$Compared" "ConkerYard$Condition") ∈ lw_all := lw_g (lw_at lw_m3 217 rfl) rfl
theorem q934 : (Jvm.Cond.instanceMethod ({ cls := "ConkerYard$Compared", name := "is", desc := "([J)Z" } : Jvm.MethodName)) ∈ lw_all := lw_g (lw_at lw_m4 88 rfl) rfl
theorem q935 : (Jvm.Cond.code ({ cls := "ConkerYard$Compared", name := "is", desc := "([J)Z" } : Jvm.MethodName) prog_4_method_2_code (6 : Nat) (Option.some Jvm.ClassFile.FieldType.boolean)) ∈ lw_all := lw_g (lw_at lw_m4 89 rfl) rfl
theorem q936 : (Jvm.Cond.methodLink "ConkerYard$Compared" (24 : Nat) ({ cls := "ConkerYard$Value", name := "of", desc := "([J)J" } : Jvm.MethodName)) ∈ lw_all := lw_g (lw_at lw_m4 90 rfl) rfl
theorem q952 : (Jvm.Cond.selects "ConkerYard$Compared" ({ cls := "ConkerYard$Condition", name := "is", desc := "([J)Z" } : Jvm.MethodName) ({ cls := "ConkerYard$Compared", name := "is", desc := "([J)Z" } : Jvm.MethodName)) ∈ lw_all := lw_g (lw_at lw_m4 106 rfl) rfl
theorem q1896 : (Jvm.Cond.castable "ConkerYard$Compared" "java/lang/Object") ∈ lw_tbl := lw_at lw_m8 90 rfl
theorem in_X15 : ∀ w ∈ wsX150, w ∈ lw_all := lw_in wsX150 [815, 817, 819, 821] (by decide +kernel) (by decide +kernel)
/-! ConkerYard$Both -/
set_option maxRecDepth 100000
def RX16 : String := "ConkerYard$Both"
def TX16 : u_T := fun k => match k with
  | 0 => ("ConkerYard$Both", "a", "LConkerYard$Condition;", true)
  | 1 => ("ConkerYard$Both", "b", "LConkerYard$Condition;", true)
  | _ => ("ConkerYard$Both", "or", "Z", true)
def tyX16 : Nat → FieldType := fun k => match k with
  | 0 => .object "ConkerYard$Condition"
  | 1 => .object "ConkerYard$Condition"
  | _ => .boolean
abbrev wsX160 : List Cond := u_ws RX16 TX16 3
theorem nmX16 : ∀ a, a < 3 → ∀ b, b < 3 → a ≠ b → (TX16 a).2.1 ≠ (TX16 b).2.1 := by decide +kernel
theorem tyX16_ok : ∀ k, k < 3 → parseFieldDescriptor (TX16 k).2.2.1 = some (tyX16 k) := by decide +kernel
abbrev cX16_init : ByteArray := prog_3_method_1_code
def yX16_init : MethodName := ⟨RX16, "<init>", "(LConkerYard$Condition;LConkerYard$Condition;Z)V"⟩
def dkwX16_init_0 : List UInt8 := [42, 183, 0, 1, 42, 43, 181, 0, 7, 42, 44, 181, 0, 13, 42, 29, 181, 0, 16, 177]
abbrev dktX16_init_0 : List UInt8 := dkwX16_init_0 ++ []
theorem dksX16_init_0 : cX16_init.data.toList.drop 0 = dktX16_init_0 := by decide +kernel
theorem dX16_init_0 : decode cX16_init 0 = .ok (.aload_n 0, 1) := dk_42 (dk_at dksX16_init_0 0 rfl rfl)
theorem dX16_init_1 : decode cX16_init 1 = .ok (.invokespecial 1, 3) := dk_183 0 1 (dk_at dksX16_init_0 1 rfl rfl)
theorem dX16_init_4 : decode cX16_init 4 = .ok (.aload_n 0, 1) := dk_42 (dk_at dksX16_init_0 4 rfl rfl)
theorem dX16_init_5 : decode cX16_init 5 = .ok (.aload_n 1, 1) := dk_43 (dk_at dksX16_init_0 5 rfl rfl)
theorem dX16_init_6 : decode cX16_init 6 = .ok (.putfield 7, 3) := dk_181 0 7 (dk_at dksX16_init_0 6 rfl rfl)
theorem dX16_init_9 : decode cX16_init 9 = .ok (.aload_n 0, 1) := dk_42 (dk_at dksX16_init_0 9 rfl rfl)
theorem dX16_init_10 : decode cX16_init 10 = .ok (.aload_n 2, 1) := dk_44 (dk_at dksX16_init_0 10 rfl rfl)
theorem dX16_init_11 : decode cX16_init 11 = .ok (.putfield 13, 3) := dk_181 0 13 (dk_at dksX16_init_0 11 rfl rfl)
theorem dX16_init_14 : decode cX16_init 14 = .ok (.aload_n 0, 1) := dk_42 (dk_at dksX16_init_0 14 rfl rfl)
theorem dX16_init_15 : decode cX16_init 15 = .ok (.iload_n 3, 1) := dk_29 (dk_at dksX16_init_0 15 rfl rfl)
theorem dX16_init_16 : decode cX16_init 16 = .ok (.putfield 16, 3) := dk_181 0 16 (dk_at dksX16_init_0 16 rfl rfl)
theorem dX16_init_19 : decode cX16_init 19 = .ok (.return_, 1) := dk_177 (dk_at dksX16_init_0 19 rfl rfl)
abbrev cX16_is : ByteArray := prog_3_method_2_code
def yX16_is : MethodName := ⟨RX16, "is", "([J)Z"⟩
def dkwX16_is_2 : List UInt8 := [153, 0, 18, 42, 180, 0, 13, 43, 182, 0, 20, 153, 0, 7, 4, 167, 0, 4, 3, 172]
abbrev dktX16_is_2 : List UInt8 := dkwX16_is_2 ++ []
def dkwX16_is_1 : List UInt8 := [182, 0, 20, 153, 0, 7, 4, 167, 0, 34, 3, 167, 0, 30, 42, 180, 0, 7, 43, 182, 0, 20]
abbrev dktX16_is_1 : List UInt8 := dkwX16_is_1 ++ dktX16_is_2
def dkwX16_is_0 : List UInt8 := [42, 180, 0, 16, 153, 0, 33, 42, 180, 0, 7, 43, 182, 0, 20, 154, 0, 14, 42, 180, 0, 13, 43]
abbrev dktX16_is_0 : List UInt8 := dkwX16_is_0 ++ dktX16_is_1
theorem dksX16_is_0 : cX16_is.data.toList.drop 0 = dktX16_is_0 := by decide +kernel
theorem dksX16_is_1 : cX16_is.data.toList.drop 23 = dktX16_is_1 := dk_seg dksX16_is_0 23 rfl rfl
theorem dksX16_is_2 : cX16_is.data.toList.drop 45 = dktX16_is_2 := dk_seg dksX16_is_1 22 rfl rfl
theorem dX16_is_0 : decode cX16_is 0 = .ok (.aload_n 0, 1) := dk_42 (dk_at dksX16_is_0 0 rfl rfl)
theorem dX16_is_1 : decode cX16_is 1 = .ok (.getfield 16, 3) := dk_180 0 16 (dk_at dksX16_is_0 1 rfl rfl)
theorem dX16_is_4 : decode cX16_is 4 = .ok (.ifCond .eq 33, 3) := dk_153 0 33 (dk_at dksX16_is_0 4 rfl rfl)
theorem dX16_is_7 : decode cX16_is 7 = .ok (.aload_n 0, 1) := dk_42 (dk_at dksX16_is_0 7 rfl rfl)
theorem dX16_is_8 : decode cX16_is 8 = .ok (.getfield 7, 3) := dk_180 0 7 (dk_at dksX16_is_0 8 rfl rfl)
theorem dX16_is_11 : decode cX16_is 11 = .ok (.aload_n 1, 1) := dk_43 (dk_at dksX16_is_0 11 rfl rfl)
theorem dX16_is_12 : decode cX16_is 12 = .ok (.invokevirtual 20, 3) := dk_182 0 20 (dk_at dksX16_is_0 12 rfl rfl)
theorem dX16_is_15 : decode cX16_is 15 = .ok (.ifCond .ne 14, 3) := dk_154 0 14 (dk_at dksX16_is_0 15 rfl rfl)
theorem dX16_is_18 : decode cX16_is 18 = .ok (.aload_n 0, 1) := dk_42 (dk_at dksX16_is_0 18 rfl rfl)
theorem dX16_is_19 : decode cX16_is 19 = .ok (.getfield 13, 3) := dk_180 0 13 (dk_at dksX16_is_0 19 rfl rfl)
theorem dX16_is_22 : decode cX16_is 22 = .ok (.aload_n 1, 1) := dk_43 (dk_at dksX16_is_0 22 rfl rfl)
theorem dX16_is_23 : decode cX16_is 23 = .ok (.invokevirtual 20, 3) := dk_182 0 20 (dk_at dksX16_is_1 0 rfl rfl)
theorem dX16_is_26 : decode cX16_is 26 = .ok (.ifCond .eq 7, 3) := dk_153 0 7 (dk_at dksX16_is_1 3 rfl rfl)
theorem dX16_is_29 : decode cX16_is 29 = .ok (.iconst 1, 1) := dk_4 (dk_at dksX16_is_1 6 rfl rfl)
theorem dX16_is_30 : decode cX16_is 30 = .ok (.goto 34, 3) := dk_167 0 34 (dk_at dksX16_is_1 7 rfl rfl)
theorem dX16_is_33 : decode cX16_is 33 = .ok (.iconst 0, 1) := dk_3 (dk_at dksX16_is_1 10 rfl rfl)
theorem dX16_is_34 : decode cX16_is 34 = .ok (.goto 30, 3) := dk_167 0 30 (dk_at dksX16_is_1 11 rfl rfl)
theorem dX16_is_37 : decode cX16_is 37 = .ok (.aload_n 0, 1) := dk_42 (dk_at dksX16_is_1 14 rfl rfl)
theorem dX16_is_38 : decode cX16_is 38 = .ok (.getfield 7, 3) := dk_180 0 7 (dk_at dksX16_is_1 15 rfl rfl)
theorem dX16_is_41 : decode cX16_is 41 = .ok (.aload_n 1, 1) := dk_43 (dk_at dksX16_is_1 18 rfl rfl)
theorem dX16_is_42 : decode cX16_is 42 = .ok (.invokevirtual 20, 3) := dk_182 0 20 (dk_at dksX16_is_1 19 rfl rfl)
theorem dX16_is_45 : decode cX16_is 45 = .ok (.ifCond .eq 18, 3) := dk_153 0 18 (dk_at dksX16_is_2 0 rfl rfl)
theorem dX16_is_48 : decode cX16_is 48 = .ok (.aload_n 0, 1) := dk_42 (dk_at dksX16_is_2 3 rfl rfl)
theorem dX16_is_49 : decode cX16_is 49 = .ok (.getfield 13, 3) := dk_180 0 13 (dk_at dksX16_is_2 4 rfl rfl)
theorem dX16_is_52 : decode cX16_is 52 = .ok (.aload_n 1, 1) := dk_43 (dk_at dksX16_is_2 7 rfl rfl)
theorem dX16_is_53 : decode cX16_is 53 = .ok (.invokevirtual 20, 3) := dk_182 0 20 (dk_at dksX16_is_2 8 rfl rfl)
theorem dX16_is_56 : decode cX16_is 56 = .ok (.ifCond .eq 7, 3) := dk_153 0 7 (dk_at dksX16_is_2 11 rfl rfl)
theorem dX16_is_59 : decode cX16_is 59 = .ok (.iconst 1, 1) := dk_4 (dk_at dksX16_is_2 14 rfl rfl)
theorem dX16_is_60 : decode cX16_is 60 = .ok (.goto 4, 3) := dk_167 0 4 (dk_at dksX16_is_2 15 rfl rfl)
theorem dX16_is_63 : decode cX16_is 63 = .ok (.iconst 0, 1) := dk_3 (dk_at dksX16_is_2 18 rfl rfl)
theorem dX16_is_64 : decode cX16_is 64 = .ok (.ireturn, 1) := dk_172 (dk_at dksX16_is_2 19 rfl rfl)
theorem q158 : (Jvm.Cond.initialized "ConkerYard$Both") ∈ lw_all := lw_g (lw_at lw_m1 32 rfl) rfl
theorem q632 : (Jvm.Cond.selects "ConkerYard$Both" ({ cls := "java/lang/Object", name := "getClass", desc := "()Ljava/lang/Class;" } : Jvm.MethodName) ({ cls := "java/lang/Object", name := "getClass", desc := "()Ljava/lang/Class;" } : Jvm.MethodName)) ∈ lw_all := lw_g (lw_at lw_m3 26 rfl) rfl
theorem q826 : (Jvm.Cond.instantiable "ConkerYard$Both" (3 : Nat)) ∈ lw_all := lw_g (lw_at lw_m3 220 rfl) rfl
theorem q828 : (Jvm.Cond.instanceMethod ({ cls := "ConkerYard$Both", name := "<init>", desc := "(LConkerYard$Condition;LConkerYard$Condition;Z)V" } : Jvm.MethodName)) ∈ lw_all := lw_g (lw_at lw_m3 222 rfl) rfl
theorem q829 : (Jvm.Cond.code ({ cls := "ConkerYard$Both", name := "<init>", desc := "(LConkerYard$Condition;LConkerYard$Condition;Z)V" } : Jvm.MethodName) prog_3_method_1_code (4 : Nat) (Option.none : Option Jvm.ClassFile.FieldType)) ∈ lw_all := lw_g (lw_at lw_m3 223 rfl) rfl
theorem q830 : (Jvm.Cond.methodLinkNest "ConkerYard$Both" (1 : Nat) ({ cls := "ConkerYard$Condition", name := "<init>", desc := "()V" } : Jvm.MethodName) "ConkerYard") ∈ lw_tbl := lw_at lw_m3 224 rfl
theorem q831 : (Jvm.Cond.fieldLink "ConkerYard$Both" (7 : Nat) "ConkerYard$Both" "a" "LConkerYard$Condition;") ∈ lw_all := lw_g (lw_at lw_m3 225 rfl) rfl
theorem q832 : (Jvm.Cond.fieldLink "ConkerYard$Both" (13 : Nat) "ConkerYard$Both" "b" "LConkerYard$Condition;") ∈ lw_all := lw_g (lw_at lw_m3 226 rfl) rfl
theorem q833 : (Jvm.Cond.fieldLink "ConkerYard$Both" (16 : Nat) "ConkerYard$Both" "or" "Z") ∈ lw_all := lw_g (lw_at lw_m3 227 rfl) rfl
theorem q834 : (Jvm.Cond.laysFinal "ConkerYard$Both" "ConkerYard$Both" "a" "LConkerYard$Condition;") ∈ lw_all := lw_g (lw_at lw_m3 228 rfl) rfl
theorem q835 : (Jvm.Cond.soleField "ConkerYard$Both" "a") ∈ lw_all := lw_g (lw_at lw_m3 229 rfl) rfl
theorem q836 : (Jvm.Cond.laysFinal "ConkerYard$Both" "ConkerYard$Both" "b" "LConkerYard$Condition;") ∈ lw_all := lw_g (lw_at lw_m3 230 rfl) rfl
theorem q837 : (Jvm.Cond.soleField "ConkerYard$Both" "b") ∈ lw_all := lw_g (lw_at lw_m3 231 rfl) rfl
theorem q838 : (Jvm.Cond.laysFinal "ConkerYard$Both" "ConkerYard$Both" "or" "Z") ∈ lw_all := lw_g (lw_at lw_m3 232 rfl) rfl
theorem q839 : (Jvm.Cond.soleField "ConkerYard$Both" "or") ∈ lw_all := lw_g (lw_at lw_m3 233 rfl) rfl
theorem q840 : (Jvm.Cond.superclass "ConkerYard$Both" "ConkerYard$Condition") ∈ lw_all := lw_g (lw_at lw_m3 234 rfl) rfl
theorem q930 : (Jvm.Cond.selects "ConkerYard$Both" ({ cls := "ConkerYard$Condition", name := "is", desc := "([J)Z" } : Jvm.MethodName) ({ cls := "ConkerYard$Both", name := "is", desc := "([J)Z" } : Jvm.MethodName)) ∈ lw_all := lw_g (lw_at lw_m4 84 rfl) rfl
theorem q931 : (Jvm.Cond.instanceMethod ({ cls := "ConkerYard$Both", name := "is", desc := "([J)Z" } : Jvm.MethodName)) ∈ lw_all := lw_g (lw_at lw_m4 85 rfl) rfl
theorem q932 : (Jvm.Cond.code ({ cls := "ConkerYard$Both", name := "is", desc := "([J)Z" } : Jvm.MethodName) prog_3_method_2_code (2 : Nat) (Option.some Jvm.ClassFile.FieldType.boolean)) ∈ lw_all := lw_g (lw_at lw_m4 86 rfl) rfl
theorem q933 : (Jvm.Cond.methodLink "ConkerYard$Both" (20 : Nat) ({ cls := "ConkerYard$Condition", name := "is", desc := "([J)Z" } : Jvm.MethodName)) ∈ lw_all := lw_g (lw_at lw_m4 87 rfl) rfl
theorem q1897 : (Jvm.Cond.castable "ConkerYard$Both" "java/lang/Object") ∈ lw_tbl := lw_at lw_m8 91 rfl
theorem in_X16 : ∀ w ∈ wsX160, w ∈ lw_all := lw_in wsX160 [834, 836, 838] (by decide +kernel) (by decide +kernel)
/-! ConkerYard$Image -/
set_option maxRecDepth 100000
def RX17 : String := "ConkerYard$Image"
def TX17 : u_T := fun k => match k with
  | 0 => ("ConkerYard$Image", "its", "LConkerYard$Yard;", false)
  | 1 => ("ConkerYard$Image", "stood", "LConkerYard$State;", true)
  | 2 => ("ConkerYard$Image", "when", "[I", true)
  | 3 => ("ConkerYard$Image", "who", "[I", true)
  | 4 => ("ConkerYard$Image", "how", "[I", true)
  | 5 => ("ConkerYard$Image", "many", "I", false)
  | 6 => ("ConkerYard$Image", "force", "I", false)
  | 7 => ("ConkerYard$Image", "x", "I", false)
  | _ => ("ConkerYard$Image", "this$0", "LConkerYard;", true)
def tyX17 : Nat → FieldType := fun k => match k with
  | 0 => .object "ConkerYard$Yard"
  | 1 => .object "ConkerYard$State"
  | 2 => .array .int
  | 3 => .array .int
  | 4 => .array .int
  | 5 => .int
  | 6 => .int
  | 7 => .int
  | _ => .object "ConkerYard"
abbrev wsX170 : List Cond := u_ws RX17 TX17 9
theorem nmX17 : ∀ a, a < 9 → ∀ b, b < 9 → a ≠ b → (TX17 a).2.1 ≠ (TX17 b).2.1 := by decide +kernel
theorem tyX17_ok : ∀ k, k < 9 → parseFieldDescriptor (TX17 k).2.2.1 = some (tyX17 k) := by decide +kernel
abbrev cX17_init : ByteArray := prog_7_method_1_code
def yX17_init : MethodName := ⟨RX17, "<init>", "(LConkerYard;)V"⟩
def dkwX17_init_1 : List UInt8 := [188, 10, 181, 0, 22, 42, 16, 10, 188, 10, 181, 0, 26, 42, 16, 10, 188, 10, 181, 0, 29, 177]
abbrev dktX17_init_1 : List UInt8 := dkwX17_init_1 ++ []
def dkwX17_init_0 : List UInt8 := [42, 43, 181, 0, 3, 42, 183, 0, 9, 42, 187, 0, 15, 89, 183, 0, 17, 181, 0, 18, 42, 16, 10]
abbrev dktX17_init_0 : List UInt8 := dkwX17_init_0 ++ dktX17_init_1
theorem dksX17_init_0 : cX17_init.data.toList.drop 0 = dktX17_init_0 := by decide +kernel
theorem dksX17_init_1 : cX17_init.data.toList.drop 23 = dktX17_init_1 := dk_seg dksX17_init_0 23 rfl rfl
theorem dX17_init_0 : decode cX17_init 0 = .ok (.aload_n 0, 1) := dk_42 (dk_at dksX17_init_0 0 rfl rfl)
theorem dX17_init_1 : decode cX17_init 1 = .ok (.aload_n 1, 1) := dk_43 (dk_at dksX17_init_0 1 rfl rfl)
theorem dX17_init_2 : decode cX17_init 2 = .ok (.putfield 3, 3) := dk_181 0 3 (dk_at dksX17_init_0 2 rfl rfl)
theorem dX17_init_5 : decode cX17_init 5 = .ok (.aload_n 0, 1) := dk_42 (dk_at dksX17_init_0 5 rfl rfl)
theorem dX17_init_6 : decode cX17_init 6 = .ok (.invokespecial 9, 3) := dk_183 0 9 (dk_at dksX17_init_0 6 rfl rfl)
theorem dX17_init_9 : decode cX17_init 9 = .ok (.aload_n 0, 1) := dk_42 (dk_at dksX17_init_0 9 rfl rfl)
theorem dX17_init_10 : decode cX17_init 10 = .ok (.new 15, 3) := dk_187 0 15 (dk_at dksX17_init_0 10 rfl rfl)
theorem dX17_init_13 : decode cX17_init 13 = .ok (.dup, 1) := dk_89 (dk_at dksX17_init_0 13 rfl rfl)
theorem dX17_init_14 : decode cX17_init 14 = .ok (.invokespecial 17, 3) := dk_183 0 17 (dk_at dksX17_init_0 14 rfl rfl)
theorem dX17_init_17 : decode cX17_init 17 = .ok (.putfield 18, 3) := dk_181 0 18 (dk_at dksX17_init_0 17 rfl rfl)
theorem dX17_init_20 : decode cX17_init 20 = .ok (.aload_n 0, 1) := dk_42 (dk_at dksX17_init_0 20 rfl rfl)
theorem dX17_init_21 : decode cX17_init 21 = .ok (.bipush 10, 2) := dk_16 10 (dk_at dksX17_init_0 21 rfl rfl)
theorem dX17_init_23 : decode cX17_init 23 = .ok (.newarray .int, 2) := dk_188_10 (dk_at dksX17_init_1 0 rfl rfl)
theorem dX17_init_25 : decode cX17_init 25 = .ok (.putfield 22, 3) := dk_181 0 22 (dk_at dksX17_init_1 2 rfl rfl)
theorem dX17_init_28 : decode cX17_init 28 = .ok (.aload_n 0, 1) := dk_42 (dk_at dksX17_init_1 5 rfl rfl)
theorem dX17_init_29 : decode cX17_init 29 = .ok (.bipush 10, 2) := dk_16 10 (dk_at dksX17_init_1 6 rfl rfl)
theorem dX17_init_31 : decode cX17_init 31 = .ok (.newarray .int, 2) := dk_188_10 (dk_at dksX17_init_1 8 rfl rfl)
theorem dX17_init_33 : decode cX17_init 33 = .ok (.putfield 26, 3) := dk_181 0 26 (dk_at dksX17_init_1 10 rfl rfl)
theorem dX17_init_36 : decode cX17_init 36 = .ok (.aload_n 0, 1) := dk_42 (dk_at dksX17_init_1 13 rfl rfl)
theorem dX17_init_37 : decode cX17_init 37 = .ok (.bipush 10, 2) := dk_16 10 (dk_at dksX17_init_1 14 rfl rfl)
theorem dX17_init_39 : decode cX17_init 39 = .ok (.newarray .int, 2) := dk_188_10 (dk_at dksX17_init_1 16 rfl rfl)
theorem dX17_init_41 : decode cX17_init 41 = .ok (.putfield 29, 3) := dk_181 0 29 (dk_at dksX17_init_1 18 rfl rfl)
theorem dX17_init_44 : decode cX17_init 44 = .ok (.return_, 1) := dk_177 (dk_at dksX17_init_1 21 rfl rfl)
abbrev cX17_holds : ByteArray := prog_7_method_2_code
def yX17_holds : MethodName := ⟨RX17, "holds", "()V"⟩
def dkwX17_holds_5 : List UInt8 := [181, 0, 71, 177]
abbrev dktX17_holds_5 : List UInt8 := dkwX17_holds_5 ++ []
def dkwX17_holds_4 : List UInt8 := [181, 0, 59, 42, 42, 180, 0, 3, 180, 0, 62, 181, 0, 65, 42, 42, 180, 0, 3, 180, 0, 68]
abbrev dktX17_holds_4 : List UInt8 := dkwX17_holds_4 ++ dktX17_holds_5
def dkwX17_holds_3 : List UInt8 := [180, 0, 3, 180, 0, 52, 27, 46, 79, 132, 1, 1, 167, 255, 202, 42, 42, 180, 0, 3, 180, 0, 55]
abbrev dktX17_holds_3 : List UInt8 := dkwX17_holds_3 ++ dktX17_holds_4
def dkwX17_holds_2 : List UInt8 := [46, 79, 42, 180, 0, 26, 27, 42, 180, 0, 3, 180, 0, 49, 27, 46, 79, 42, 180, 0, 29, 27, 42]
abbrev dktX17_holds_2 : List UInt8 := dkwX17_holds_2 ++ dktX17_holds_3
def dkwX17_holds_1 : List UInt8 := [182, 0, 42, 3, 60, 27, 16, 10, 162, 0, 54, 42, 180, 0, 22, 27, 42, 180, 0, 3, 180, 0, 46, 27]
abbrev dktX17_holds_1 : List UInt8 := dkwX17_holds_1 ++ dktX17_holds_2
def dkwX17_holds_0 : List UInt8 := [42, 42, 180, 0, 3, 180, 0, 32, 181, 0, 36, 42, 180, 0, 18, 42, 180, 0, 3, 180, 0, 39]
abbrev dktX17_holds_0 : List UInt8 := dkwX17_holds_0 ++ dktX17_holds_1
theorem dksX17_holds_0 : cX17_holds.data.toList.drop 0 = dktX17_holds_0 := by decide +kernel
theorem dksX17_holds_1 : cX17_holds.data.toList.drop 22 = dktX17_holds_1 := dk_seg dksX17_holds_0 22 rfl rfl
theorem dksX17_holds_2 : cX17_holds.data.toList.drop 46 = dktX17_holds_2 := dk_seg dksX17_holds_1 24 rfl rfl
theorem dksX17_holds_3 : cX17_holds.data.toList.drop 69 = dktX17_holds_3 := dk_seg dksX17_holds_2 23 rfl rfl
theorem dksX17_holds_4 : cX17_holds.data.toList.drop 92 = dktX17_holds_4 := dk_seg dksX17_holds_3 23 rfl rfl
theorem dksX17_holds_5 : cX17_holds.data.toList.drop 114 = dktX17_holds_5 := dk_seg dksX17_holds_4 22 rfl rfl
theorem dX17_holds_0 : decode cX17_holds 0 = .ok (.aload_n 0, 1) := dk_42 (dk_at dksX17_holds_0 0 rfl rfl)
theorem dX17_holds_1 : decode cX17_holds 1 = .ok (.aload_n 0, 1) := dk_42 (dk_at dksX17_holds_0 1 rfl rfl)
theorem dX17_holds_2 : decode cX17_holds 2 = .ok (.getfield 3, 3) := dk_180 0 3 (dk_at dksX17_holds_0 2 rfl rfl)
theorem dX17_holds_5 : decode cX17_holds 5 = .ok (.getfield 32, 3) := dk_180 0 32 (dk_at dksX17_holds_0 5 rfl rfl)
theorem dX17_holds_8 : decode cX17_holds 8 = .ok (.putfield 36, 3) := dk_181 0 36 (dk_at dksX17_holds_0 8 rfl rfl)
theorem dX17_holds_11 : decode cX17_holds 11 = .ok (.aload_n 0, 1) := dk_42 (dk_at dksX17_holds_0 11 rfl rfl)
theorem dX17_holds_12 : decode cX17_holds 12 = .ok (.getfield 18, 3) := dk_180 0 18 (dk_at dksX17_holds_0 12 rfl rfl)
theorem dX17_holds_15 : decode cX17_holds 15 = .ok (.aload_n 0, 1) := dk_42 (dk_at dksX17_holds_0 15 rfl rfl)
theorem dX17_holds_16 : decode cX17_holds 16 = .ok (.getfield 3, 3) := dk_180 0 3 (dk_at dksX17_holds_0 16 rfl rfl)
theorem dX17_holds_19 : decode cX17_holds 19 = .ok (.getfield 39, 3) := dk_180 0 39 (dk_at dksX17_holds_0 19 rfl rfl)
theorem dX17_holds_22 : decode cX17_holds 22 = .ok (.invokevirtual 42, 3) := dk_182 0 42 (dk_at dksX17_holds_1 0 rfl rfl)
theorem dX17_holds_25 : decode cX17_holds 25 = .ok (.iconst 0, 1) := dk_3 (dk_at dksX17_holds_1 3 rfl rfl)
theorem dX17_holds_26 : decode cX17_holds 26 = .ok (.istore_n 1, 1) := dk_60 (dk_at dksX17_holds_1 4 rfl rfl)
theorem dX17_holds_27 : decode cX17_holds 27 = .ok (.iload_n 1, 1) := dk_27 (dk_at dksX17_holds_1 5 rfl rfl)
theorem dX17_holds_28 : decode cX17_holds 28 = .ok (.bipush 10, 2) := dk_16 10 (dk_at dksX17_holds_1 6 rfl rfl)
theorem dX17_holds_30 : decode cX17_holds 30 = .ok (.if_icmp .ge 54, 3) := dk_162 0 54 (dk_at dksX17_holds_1 8 rfl rfl)
theorem dX17_holds_33 : decode cX17_holds 33 = .ok (.aload_n 0, 1) := dk_42 (dk_at dksX17_holds_1 11 rfl rfl)
theorem dX17_holds_34 : decode cX17_holds 34 = .ok (.getfield 22, 3) := dk_180 0 22 (dk_at dksX17_holds_1 12 rfl rfl)
theorem dX17_holds_37 : decode cX17_holds 37 = .ok (.iload_n 1, 1) := dk_27 (dk_at dksX17_holds_1 15 rfl rfl)
theorem dX17_holds_38 : decode cX17_holds 38 = .ok (.aload_n 0, 1) := dk_42 (dk_at dksX17_holds_1 16 rfl rfl)
theorem dX17_holds_39 : decode cX17_holds 39 = .ok (.getfield 3, 3) := dk_180 0 3 (dk_at dksX17_holds_1 17 rfl rfl)
theorem dX17_holds_42 : decode cX17_holds 42 = .ok (.getfield 46, 3) := dk_180 0 46 (dk_at dksX17_holds_1 20 rfl rfl)
theorem dX17_holds_45 : decode cX17_holds 45 = .ok (.iload_n 1, 1) := dk_27 (dk_at dksX17_holds_1 23 rfl rfl)
theorem dX17_holds_46 : decode cX17_holds 46 = .ok (.iaload, 1) := dk_46 (dk_at dksX17_holds_2 0 rfl rfl)
theorem dX17_holds_47 : decode cX17_holds 47 = .ok (.iastore, 1) := dk_79 (dk_at dksX17_holds_2 1 rfl rfl)
theorem dX17_holds_48 : decode cX17_holds 48 = .ok (.aload_n 0, 1) := dk_42 (dk_at dksX17_holds_2 2 rfl rfl)
theorem dX17_holds_49 : decode cX17_holds 49 = .ok (.getfield 26, 3) := dk_180 0 26 (dk_at dksX17_holds_2 3 rfl rfl)
theorem dX17_holds_52 : decode cX17_holds 52 = .ok (.iload_n 1, 1) := dk_27 (dk_at dksX17_holds_2 6 rfl rfl)
theorem dX17_holds_53 : decode cX17_holds 53 = .ok (.aload_n 0, 1) := dk_42 (dk_at dksX17_holds_2 7 rfl rfl)
theorem dX17_holds_54 : decode cX17_holds 54 = .ok (.getfield 3, 3) := dk_180 0 3 (dk_at dksX17_holds_2 8 rfl rfl)
theorem dX17_holds_57 : decode cX17_holds 57 = .ok (.getfield 49, 3) := dk_180 0 49 (dk_at dksX17_holds_2 11 rfl rfl)
theorem dX17_holds_60 : decode cX17_holds 60 = .ok (.iload_n 1, 1) := dk_27 (dk_at dksX17_holds_2 14 rfl rfl)
theorem dX17_holds_61 : decode cX17_holds 61 = .ok (.iaload, 1) := dk_46 (dk_at dksX17_holds_2 15 rfl rfl)
theorem dX17_holds_62 : decode cX17_holds 62 = .ok (.iastore, 1) := dk_79 (dk_at dksX17_holds_2 16 rfl rfl)
theorem dX17_holds_63 : decode cX17_holds 63 = .ok (.aload_n 0, 1) := dk_42 (dk_at dksX17_holds_2 17 rfl rfl)
theorem dX17_holds_64 : decode cX17_holds 64 = .ok (.getfield 29, 3) := dk_180 0 29 (dk_at dksX17_holds_2 18 rfl rfl)
theorem dX17_holds_67 : decode cX17_holds 67 = .ok (.iload_n 1, 1) := dk_27 (dk_at dksX17_holds_2 21 rfl rfl)
theorem dX17_holds_68 : decode cX17_holds 68 = .ok (.aload_n 0, 1) := dk_42 (dk_at dksX17_holds_2 22 rfl rfl)
theorem dX17_holds_69 : decode cX17_holds 69 = .ok (.getfield 3, 3) := dk_180 0 3 (dk_at dksX17_holds_3 0 rfl rfl)
theorem dX17_holds_72 : decode cX17_holds 72 = .ok (.getfield 52, 3) := dk_180 0 52 (dk_at dksX17_holds_3 3 rfl rfl)
theorem dX17_holds_75 : decode cX17_holds 75 = .ok (.iload_n 1, 1) := dk_27 (dk_at dksX17_holds_3 6 rfl rfl)
theorem dX17_holds_76 : decode cX17_holds 76 = .ok (.iaload, 1) := dk_46 (dk_at dksX17_holds_3 7 rfl rfl)
theorem dX17_holds_77 : decode cX17_holds 77 = .ok (.iastore, 1) := dk_79 (dk_at dksX17_holds_3 8 rfl rfl)
theorem dX17_holds_78 : decode cX17_holds 78 = .ok (.iinc 1 1, 3) := dk_132 1 1 (dk_at dksX17_holds_3 9 rfl rfl)
theorem dX17_holds_81 : decode cX17_holds 81 = .ok (.goto (-54), 3) := dk_167 255 202 (dk_at dksX17_holds_3 12 rfl rfl)
theorem dX17_holds_84 : decode cX17_holds 84 = .ok (.aload_n 0, 1) := dk_42 (dk_at dksX17_holds_3 15 rfl rfl)
theorem dX17_holds_85 : decode cX17_holds 85 = .ok (.aload_n 0, 1) := dk_42 (dk_at dksX17_holds_3 16 rfl rfl)
theorem dX17_holds_86 : decode cX17_holds 86 = .ok (.getfield 3, 3) := dk_180 0 3 (dk_at dksX17_holds_3 17 rfl rfl)
theorem dX17_holds_89 : decode cX17_holds 89 = .ok (.getfield 55, 3) := dk_180 0 55 (dk_at dksX17_holds_3 20 rfl rfl)
theorem dX17_holds_92 : decode cX17_holds 92 = .ok (.putfield 59, 3) := dk_181 0 59 (dk_at dksX17_holds_4 0 rfl rfl)
theorem dX17_holds_95 : decode cX17_holds 95 = .ok (.aload_n 0, 1) := dk_42 (dk_at dksX17_holds_4 3 rfl rfl)
theorem dX17_holds_96 : decode cX17_holds 96 = .ok (.aload_n 0, 1) := dk_42 (dk_at dksX17_holds_4 4 rfl rfl)
theorem dX17_holds_97 : decode cX17_holds 97 = .ok (.getfield 3, 3) := dk_180 0 3 (dk_at dksX17_holds_4 5 rfl rfl)
theorem dX17_holds_100 : decode cX17_holds 100 = .ok (.getfield 62, 3) := dk_180 0 62 (dk_at dksX17_holds_4 8 rfl rfl)
theorem dX17_holds_103 : decode cX17_holds 103 = .ok (.putfield 65, 3) := dk_181 0 65 (dk_at dksX17_holds_4 11 rfl rfl)
theorem dX17_holds_106 : decode cX17_holds 106 = .ok (.aload_n 0, 1) := dk_42 (dk_at dksX17_holds_4 14 rfl rfl)
theorem dX17_holds_107 : decode cX17_holds 107 = .ok (.aload_n 0, 1) := dk_42 (dk_at dksX17_holds_4 15 rfl rfl)
theorem dX17_holds_108 : decode cX17_holds 108 = .ok (.getfield 3, 3) := dk_180 0 3 (dk_at dksX17_holds_4 16 rfl rfl)
theorem dX17_holds_111 : decode cX17_holds 111 = .ok (.getfield 68, 3) := dk_180 0 68 (dk_at dksX17_holds_4 19 rfl rfl)
theorem dX17_holds_114 : decode cX17_holds 114 = .ok (.putfield 71, 3) := dk_181 0 71 (dk_at dksX17_holds_5 0 rfl rfl)
theorem dX17_holds_117 : decode cX17_holds 117 = .ok (.return_, 1) := dk_177 (dk_at dksX17_holds_5 3 rfl rfl)
abbrev cX17_laysBack : ByteArray := prog_7_method_3_code
def yX17_laysBack : MethodName := ⟨RX17, "laysBack", "()V"⟩
def dkwX17_laysBack_5 : List UInt8 := [181, 0, 68, 42, 180, 0, 3, 3, 181, 0, 74, 177]
abbrev dktX17_laysBack_5 : List UInt8 := dkwX17_laysBack_5 ++ []
def dkwX17_laysBack_4 : List UInt8 := [181, 0, 55, 42, 180, 0, 3, 42, 180, 0, 65, 181, 0, 62, 42, 180, 0, 3, 42, 180, 0, 71]
abbrev dktX17_laysBack_4 : List UInt8 := dkwX17_laysBack_4 ++ dktX17_laysBack_5
def dkwX17_laysBack_3 : List UInt8 := [27, 42, 180, 0, 29, 27, 46, 79, 132, 1, 1, 167, 255, 202, 42, 180, 0, 3, 42, 180, 0, 59]
abbrev dktX17_laysBack_3 : List UInt8 := dkwX17_laysBack_3 ++ dktX17_laysBack_4
def dkwX17_laysBack_2 : List UInt8 := [46, 79, 42, 180, 0, 3, 180, 0, 49, 27, 42, 180, 0, 26, 27, 46, 79, 42, 180, 0, 3, 180, 0, 52]
abbrev dktX17_laysBack_2 : List UInt8 := dkwX17_laysBack_2 ++ dktX17_laysBack_3
def dkwX17_laysBack_1 : List UInt8 := [182, 0, 42, 3, 60, 27, 16, 10, 162, 0, 54, 42, 180, 0, 3, 180, 0, 46, 27, 42, 180, 0, 22, 27]
abbrev dktX17_laysBack_1 : List UInt8 := dkwX17_laysBack_1 ++ dktX17_laysBack_2
def dkwX17_laysBack_0 : List UInt8 := [42, 180, 0, 3, 42, 180, 0, 36, 181, 0, 32, 42, 180, 0, 3, 180, 0, 39, 42, 180, 0, 18]
abbrev dktX17_laysBack_0 : List UInt8 := dkwX17_laysBack_0 ++ dktX17_laysBack_1
theorem dksX17_laysBack_0 : cX17_laysBack.data.toList.drop 0 = dktX17_laysBack_0 := by decide +kernel
theorem dksX17_laysBack_1 : cX17_laysBack.data.toList.drop 22 = dktX17_laysBack_1 := dk_seg dksX17_laysBack_0 22 rfl rfl
theorem dksX17_laysBack_2 : cX17_laysBack.data.toList.drop 46 = dktX17_laysBack_2 := dk_seg dksX17_laysBack_1 24 rfl rfl
theorem dksX17_laysBack_3 : cX17_laysBack.data.toList.drop 70 = dktX17_laysBack_3 := dk_seg dksX17_laysBack_2 24 rfl rfl
theorem dksX17_laysBack_4 : cX17_laysBack.data.toList.drop 92 = dktX17_laysBack_4 := dk_seg dksX17_laysBack_3 22 rfl rfl
theorem dksX17_laysBack_5 : cX17_laysBack.data.toList.drop 114 = dktX17_laysBack_5 := dk_seg dksX17_laysBack_4 22 rfl rfl
theorem dX17_laysBack_0 : decode cX17_laysBack 0 = .ok (.aload_n 0, 1) := dk_42 (dk_at dksX17_laysBack_0 0 rfl rfl)
theorem dX17_laysBack_1 : decode cX17_laysBack 1 = .ok (.getfield 3, 3) := dk_180 0 3 (dk_at dksX17_laysBack_0 1 rfl rfl)
theorem dX17_laysBack_4 : decode cX17_laysBack 4 = .ok (.aload_n 0, 1) := dk_42 (dk_at dksX17_laysBack_0 4 rfl rfl)
theorem dX17_laysBack_5 : decode cX17_laysBack 5 = .ok (.getfield 36, 3) := dk_180 0 36 (dk_at dksX17_laysBack_0 5 rfl rfl)
theorem dX17_laysBack_8 : decode cX17_laysBack 8 = .ok (.putfield 32, 3) := dk_181 0 32 (dk_at dksX17_laysBack_0 8 rfl rfl)
theorem dX17_laysBack_11 : decode cX17_laysBack 11 = .ok (.aload_n 0, 1) := dk_42 (dk_at dksX17_laysBack_0 11 rfl rfl)
theorem dX17_laysBack_12 : decode cX17_laysBack 12 = .ok (.getfield 3, 3) := dk_180 0 3 (dk_at dksX17_laysBack_0 12 rfl rfl)
theorem dX17_laysBack_15 : decode cX17_laysBack 15 = .ok (.getfield 39, 3) := dk_180 0 39 (dk_at dksX17_laysBack_0 15 rfl rfl)
theorem dX17_laysBack_18 : decode cX17_laysBack 18 = .ok (.aload_n 0, 1) := dk_42 (dk_at dksX17_laysBack_0 18 rfl rfl)
theorem dX17_laysBack_19 : decode cX17_laysBack 19 = .ok (.getfield 18, 3) := dk_180 0 18 (dk_at dksX17_laysBack_0 19 rfl rfl)
theorem dX17_laysBack_22 : decode cX17_laysBack 22 = .ok (.invokevirtual 42, 3) := dk_182 0 42 (dk_at dksX17_laysBack_1 0 rfl rfl)
theorem dX17_laysBack_25 : decode cX17_laysBack 25 = .ok (.iconst 0, 1) := dk_3 (dk_at dksX17_laysBack_1 3 rfl rfl)
theorem dX17_laysBack_26 : decode cX17_laysBack 26 = .ok (.istore_n 1, 1) := dk_60 (dk_at dksX17_laysBack_1 4 rfl rfl)
theorem dX17_laysBack_27 : decode cX17_laysBack 27 = .ok (.iload_n 1, 1) := dk_27 (dk_at dksX17_laysBack_1 5 rfl rfl)
theorem dX17_laysBack_28 : decode cX17_laysBack 28 = .ok (.bipush 10, 2) := dk_16 10 (dk_at dksX17_laysBack_1 6 rfl rfl)
theorem dX17_laysBack_30 : decode cX17_laysBack 30 = .ok (.if_icmp .ge 54, 3) := dk_162 0 54 (dk_at dksX17_laysBack_1 8 rfl rfl)
theorem dX17_laysBack_33 : decode cX17_laysBack 33 = .ok (.aload_n 0, 1) := dk_42 (dk_at dksX17_laysBack_1 11 rfl rfl)
theorem dX17_laysBack_34 : decode cX17_laysBack 34 = .ok (.getfield 3, 3) := dk_180 0 3 (dk_at dksX17_laysBack_1 12 rfl rfl)
theorem dX17_laysBack_37 : decode cX17_laysBack 37 = .ok (.getfield 46, 3) := dk_180 0 46 (dk_at dksX17_laysBack_1 15 rfl rfl)
theorem dX17_laysBack_40 : decode cX17_laysBack 40 = .ok (.iload_n 1, 1) := dk_27 (dk_at dksX17_laysBack_1 18 rfl rfl)
theorem dX17_laysBack_41 : decode cX17_laysBack 41 = .ok (.aload_n 0, 1) := dk_42 (dk_at dksX17_laysBack_1 19 rfl rfl)
theorem dX17_laysBack_42 : decode cX17_laysBack 42 = .ok (.getfield 22, 3) := dk_180 0 22 (dk_at dksX17_laysBack_1 20 rfl rfl)
theorem dX17_laysBack_45 : decode cX17_laysBack 45 = .ok (.iload_n 1, 1) := dk_27 (dk_at dksX17_laysBack_1 23 rfl rfl)
theorem dX17_laysBack_46 : decode cX17_laysBack 46 = .ok (.iaload, 1) := dk_46 (dk_at dksX17_laysBack_2 0 rfl rfl)
theorem dX17_laysBack_47 : decode cX17_laysBack 47 = .ok (.iastore, 1) := dk_79 (dk_at dksX17_laysBack_2 1 rfl rfl)
theorem dX17_laysBack_48 : decode cX17_laysBack 48 = .ok (.aload_n 0, 1) := dk_42 (dk_at dksX17_laysBack_2 2 rfl rfl)
theorem dX17_laysBack_49 : decode cX17_laysBack 49 = .ok (.getfield 3, 3) := dk_180 0 3 (dk_at dksX17_laysBack_2 3 rfl rfl)
theorem dX17_laysBack_52 : decode cX17_laysBack 52 = .ok (.getfield 49, 3) := dk_180 0 49 (dk_at dksX17_laysBack_2 6 rfl rfl)
theorem dX17_laysBack_55 : decode cX17_laysBack 55 = .ok (.iload_n 1, 1) := dk_27 (dk_at dksX17_laysBack_2 9 rfl rfl)
theorem dX17_laysBack_56 : decode cX17_laysBack 56 = .ok (.aload_n 0, 1) := dk_42 (dk_at dksX17_laysBack_2 10 rfl rfl)
theorem dX17_laysBack_57 : decode cX17_laysBack 57 = .ok (.getfield 26, 3) := dk_180 0 26 (dk_at dksX17_laysBack_2 11 rfl rfl)
theorem dX17_laysBack_60 : decode cX17_laysBack 60 = .ok (.iload_n 1, 1) := dk_27 (dk_at dksX17_laysBack_2 14 rfl rfl)
theorem dX17_laysBack_61 : decode cX17_laysBack 61 = .ok (.iaload, 1) := dk_46 (dk_at dksX17_laysBack_2 15 rfl rfl)
theorem dX17_laysBack_62 : decode cX17_laysBack 62 = .ok (.iastore, 1) := dk_79 (dk_at dksX17_laysBack_2 16 rfl rfl)
theorem dX17_laysBack_63 : decode cX17_laysBack 63 = .ok (.aload_n 0, 1) := dk_42 (dk_at dksX17_laysBack_2 17 rfl rfl)
theorem dX17_laysBack_64 : decode cX17_laysBack 64 = .ok (.getfield 3, 3) := dk_180 0 3 (dk_at dksX17_laysBack_2 18 rfl rfl)
theorem dX17_laysBack_67 : decode cX17_laysBack 67 = .ok (.getfield 52, 3) := dk_180 0 52 (dk_at dksX17_laysBack_2 21 rfl rfl)
theorem dX17_laysBack_70 : decode cX17_laysBack 70 = .ok (.iload_n 1, 1) := dk_27 (dk_at dksX17_laysBack_3 0 rfl rfl)
theorem dX17_laysBack_71 : decode cX17_laysBack 71 = .ok (.aload_n 0, 1) := dk_42 (dk_at dksX17_laysBack_3 1 rfl rfl)
theorem dX17_laysBack_72 : decode cX17_laysBack 72 = .ok (.getfield 29, 3) := dk_180 0 29 (dk_at dksX17_laysBack_3 2 rfl rfl)
theorem dX17_laysBack_75 : decode cX17_laysBack 75 = .ok (.iload_n 1, 1) := dk_27 (dk_at dksX17_laysBack_3 5 rfl rfl)
theorem dX17_laysBack_76 : decode cX17_laysBack 76 = .ok (.iaload, 1) := dk_46 (dk_at dksX17_laysBack_3 6 rfl rfl)
theorem dX17_laysBack_77 : decode cX17_laysBack 77 = .ok (.iastore, 1) := dk_79 (dk_at dksX17_laysBack_3 7 rfl rfl)
theorem dX17_laysBack_78 : decode cX17_laysBack 78 = .ok (.iinc 1 1, 3) := dk_132 1 1 (dk_at dksX17_laysBack_3 8 rfl rfl)
theorem dX17_laysBack_81 : decode cX17_laysBack 81 = .ok (.goto (-54), 3) := dk_167 255 202 (dk_at dksX17_laysBack_3 11 rfl rfl)
theorem dX17_laysBack_84 : decode cX17_laysBack 84 = .ok (.aload_n 0, 1) := dk_42 (dk_at dksX17_laysBack_3 14 rfl rfl)
theorem dX17_laysBack_85 : decode cX17_laysBack 85 = .ok (.getfield 3, 3) := dk_180 0 3 (dk_at dksX17_laysBack_3 15 rfl rfl)
theorem dX17_laysBack_88 : decode cX17_laysBack 88 = .ok (.aload_n 0, 1) := dk_42 (dk_at dksX17_laysBack_3 18 rfl rfl)
theorem dX17_laysBack_89 : decode cX17_laysBack 89 = .ok (.getfield 59, 3) := dk_180 0 59 (dk_at dksX17_laysBack_3 19 rfl rfl)
theorem dX17_laysBack_92 : decode cX17_laysBack 92 = .ok (.putfield 55, 3) := dk_181 0 55 (dk_at dksX17_laysBack_4 0 rfl rfl)
theorem dX17_laysBack_95 : decode cX17_laysBack 95 = .ok (.aload_n 0, 1) := dk_42 (dk_at dksX17_laysBack_4 3 rfl rfl)
theorem dX17_laysBack_96 : decode cX17_laysBack 96 = .ok (.getfield 3, 3) := dk_180 0 3 (dk_at dksX17_laysBack_4 4 rfl rfl)
theorem dX17_laysBack_99 : decode cX17_laysBack 99 = .ok (.aload_n 0, 1) := dk_42 (dk_at dksX17_laysBack_4 7 rfl rfl)
theorem dX17_laysBack_100 : decode cX17_laysBack 100 = .ok (.getfield 65, 3) := dk_180 0 65 (dk_at dksX17_laysBack_4 8 rfl rfl)
theorem dX17_laysBack_103 : decode cX17_laysBack 103 = .ok (.putfield 62, 3) := dk_181 0 62 (dk_at dksX17_laysBack_4 11 rfl rfl)
theorem dX17_laysBack_106 : decode cX17_laysBack 106 = .ok (.aload_n 0, 1) := dk_42 (dk_at dksX17_laysBack_4 14 rfl rfl)
theorem dX17_laysBack_107 : decode cX17_laysBack 107 = .ok (.getfield 3, 3) := dk_180 0 3 (dk_at dksX17_laysBack_4 15 rfl rfl)
theorem dX17_laysBack_110 : decode cX17_laysBack 110 = .ok (.aload_n 0, 1) := dk_42 (dk_at dksX17_laysBack_4 18 rfl rfl)
theorem dX17_laysBack_111 : decode cX17_laysBack 111 = .ok (.getfield 71, 3) := dk_180 0 71 (dk_at dksX17_laysBack_4 19 rfl rfl)
theorem dX17_laysBack_114 : decode cX17_laysBack 114 = .ok (.putfield 68, 3) := dk_181 0 68 (dk_at dksX17_laysBack_5 0 rfl rfl)
theorem dX17_laysBack_117 : decode cX17_laysBack 117 = .ok (.aload_n 0, 1) := dk_42 (dk_at dksX17_laysBack_5 3 rfl rfl)
theorem dX17_laysBack_118 : decode cX17_laysBack 118 = .ok (.getfield 3, 3) := dk_180 0 3 (dk_at dksX17_laysBack_5 4 rfl rfl)
theorem dX17_laysBack_121 : decode cX17_laysBack 121 = .ok (.iconst 0, 1) := dk_3 (dk_at dksX17_laysBack_5 7 rfl rfl)
theorem dX17_laysBack_122 : decode cX17_laysBack 122 = .ok (.putfield 74, 3) := dk_181 0 74 (dk_at dksX17_laysBack_5 8 rfl rfl)
theorem dX17_laysBack_125 : decode cX17_laysBack 125 = .ok (.return_, 1) := dk_177 (dk_at dksX17_laysBack_5 11 rfl rfl)
theorem q160 : (Jvm.Cond.initialized "ConkerYard$Image") ∈ lw_all := lw_g (lw_at lw_m1 34 rfl) rfl
theorem q320 : (Jvm.Cond.fieldLinkNest "ConkerYard$Image" (32 : Nat) "ConkerYard" "yard" "LConkerYard$Yard;" "ConkerYard") ∈ lw_tbl := lw_at lw_m1 194 rfl
theorem q322 : (Jvm.Cond.fieldLinkNest "ConkerYard$Image" (39 : Nat) "ConkerYard" "state" "LConkerYard$State;" "ConkerYard") ∈ lw_tbl := lw_at lw_m1 196 rfl
theorem q327 : (Jvm.Cond.fieldLinkNest "ConkerYard$Image" (62 : Nat) "ConkerYard" "inForce" "I" "ConkerYard") ∈ lw_tbl := lw_at lw_m1 201 rfl
theorem q334 : (Jvm.Cond.fieldLinkNest "ConkerYard$Image" (46 : Nat) "ConkerYard" "noteWhen" "[I" "ConkerYard") ∈ lw_tbl := lw_at lw_m1 208 rfl
theorem q336 : (Jvm.Cond.fieldLinkNest "ConkerYard$Image" (49 : Nat) "ConkerYard" "noteWho" "[I" "ConkerYard") ∈ lw_tbl := lw_at lw_m1 210 rfl
theorem q338 : (Jvm.Cond.fieldLinkNest "ConkerYard$Image" (52 : Nat) "ConkerYard" "noteWhole" "[I" "ConkerYard") ∈ lw_tbl := lw_at lw_m1 212 rfl
theorem q340 : (Jvm.Cond.fieldLinkNest "ConkerYard$Image" (55 : Nat) "ConkerYard" "notes" "I" "ConkerYard") ∈ lw_tbl := lw_at lw_m1 214 rfl
theorem q342 : (Jvm.Cond.fieldLinkNest "ConkerYard$Image" (68 : Nat) "ConkerYard" "draw" "I" "ConkerYard") ∈ lw_tbl := lw_at lw_m1 216 rfl
theorem q346 : (Jvm.Cond.fieldLinkNest "ConkerYard$Image" (74 : Nat) "ConkerYard" "pastMany" "I" "ConkerYard") ∈ lw_tbl := lw_at lw_m1 220 rfl
theorem q635 : (Jvm.Cond.selects "ConkerYard$Image" ({ cls := "java/lang/Object", name := "getClass", desc := "()Ljava/lang/Class;" } : Jvm.MethodName) ({ cls := "java/lang/Object", name := "getClass", desc := "()Ljava/lang/Class;" } : Jvm.MethodName)) ∈ lw_all := lw_g (lw_at lw_m3 29 rfl) rfl
theorem q1185 : (Jvm.Cond.instantiable "ConkerYard$Image" (9 : Nat)) ∈ lw_all := lw_g (lw_at lw_m5 99 rfl) rfl
theorem q1187 : (Jvm.Cond.instanceMethod ({ cls := "ConkerYard$Image", name := "<init>", desc := "(LConkerYard;)V" } : Jvm.MethodName)) ∈ lw_all := lw_g (lw_at lw_m5 101 rfl) rfl
theorem q1188 : (Jvm.Cond.code ({ cls := "ConkerYard$Image", name := "<init>", desc := "(LConkerYard;)V" } : Jvm.MethodName) prog_7_method_1_code (2 : Nat) (Option.none : Option Jvm.ClassFile.FieldType)) ∈ lw_all := lw_g (lw_at lw_m5 102 rfl) rfl
theorem q1189 : (Jvm.Cond.methodLink "ConkerYard$Image" (9 : Nat) ({ cls := "java/lang/Object", name := "<init>", desc := "()V" } : Jvm.MethodName)) ∈ lw_all := lw_g (lw_at lw_m5 103 rfl) rfl
theorem q1190 : (Jvm.Cond.classLink "ConkerYard$Image" (15 : Nat) "ConkerYard$State") ∈ lw_all := lw_g (lw_at lw_m5 104 rfl) rfl
theorem q1191 : (Jvm.Cond.methodLinkNest "ConkerYard$Image" (17 : Nat) ({ cls := "ConkerYard$State", name := "<init>", desc := "()V" } : Jvm.MethodName) "ConkerYard") ∈ lw_tbl := lw_at lw_m5 105 rfl
theorem q1192 : (Jvm.Cond.fieldLink "ConkerYard$Image" (36 : Nat) "ConkerYard$Image" "its" "LConkerYard$Yard;") ∈ lw_all := lw_g (lw_at lw_m5 106 rfl) rfl
theorem q1193 : (Jvm.Cond.fieldLink "ConkerYard$Image" (18 : Nat) "ConkerYard$Image" "stood" "LConkerYard$State;") ∈ lw_all := lw_g (lw_at lw_m5 107 rfl) rfl
theorem q1194 : (Jvm.Cond.fieldLink "ConkerYard$Image" (22 : Nat) "ConkerYard$Image" "when" "[I") ∈ lw_all := lw_g (lw_at lw_m5 108 rfl) rfl
theorem q1195 : (Jvm.Cond.fieldLink "ConkerYard$Image" (26 : Nat) "ConkerYard$Image" "who" "[I") ∈ lw_all := lw_g (lw_at lw_m5 109 rfl) rfl
theorem q1196 : (Jvm.Cond.fieldLink "ConkerYard$Image" (29 : Nat) "ConkerYard$Image" "how" "[I") ∈ lw_all := lw_g (lw_at lw_m5 110 rfl) rfl
theorem q1197 : (Jvm.Cond.fieldLink "ConkerYard$Image" (59 : Nat) "ConkerYard$Image" "many" "I") ∈ lw_all := lw_g (lw_at lw_m5 111 rfl) rfl
theorem q1198 : (Jvm.Cond.fieldLink "ConkerYard$Image" (65 : Nat) "ConkerYard$Image" "force" "I") ∈ lw_all := lw_g (lw_at lw_m5 112 rfl) rfl
theorem q1199 : (Jvm.Cond.fieldLink "ConkerYard$Image" (71 : Nat) "ConkerYard$Image" "x" "I") ∈ lw_all := lw_g (lw_at lw_m5 113 rfl) rfl
theorem q1200 : (Jvm.Cond.fieldLink "ConkerYard$Image" (3 : Nat) "ConkerYard$Image" "this$0" "LConkerYard;") ∈ lw_all := lw_g (lw_at lw_m5 114 rfl) rfl
theorem q1201 : (Jvm.Cond.lays "ConkerYard$Image" "ConkerYard$Image" "its" "LConkerYard$Yard;") ∈ lw_all := lw_g (lw_at lw_m5 115 rfl) rfl
theorem q1202 : (Jvm.Cond.soleField "ConkerYard$Image" "its") ∈ lw_all := lw_g (lw_at lw_m5 116 rfl) rfl
theorem q1203 : (Jvm.Cond.laysFinal "ConkerYard$Image" "ConkerYard$Image" "stood" "LConkerYard$State;") ∈ lw_all := lw_g (lw_at lw_m5 117 rfl) rfl
theorem q1204 : (Jvm.Cond.soleField "ConkerYard$Image" "stood") ∈ lw_all := lw_g (lw_at lw_m5 118 rfl) rfl
theorem q1205 : (Jvm.Cond.laysFinal "ConkerYard$Image" "ConkerYard$Image" "when" "[I") ∈ lw_all := lw_g (lw_at lw_m5 119 rfl) rfl
theorem q1206 : (Jvm.Cond.soleField "ConkerYard$Image" "when") ∈ lw_all := lw_g (lw_at lw_m5 120 rfl) rfl
theorem q1207 : (Jvm.Cond.laysFinal "ConkerYard$Image" "ConkerYard$Image" "who" "[I") ∈ lw_all := lw_g (lw_at lw_m5 121 rfl) rfl
theorem q1208 : (Jvm.Cond.soleField "ConkerYard$Image" "who") ∈ lw_all := lw_g (lw_at lw_m5 122 rfl) rfl
theorem q1209 : (Jvm.Cond.laysFinal "ConkerYard$Image" "ConkerYard$Image" "how" "[I") ∈ lw_all := lw_g (lw_at lw_m5 123 rfl) rfl
theorem q1210 : (Jvm.Cond.soleField "ConkerYard$Image" "how") ∈ lw_all := lw_g (lw_at lw_m5 124 rfl) rfl
theorem q1211 : (Jvm.Cond.lays "ConkerYard$Image" "ConkerYard$Image" "many" "I") ∈ lw_all := lw_g (lw_at lw_m5 125 rfl) rfl
theorem q1212 : (Jvm.Cond.soleField "ConkerYard$Image" "many") ∈ lw_all := lw_g (lw_at lw_m5 126 rfl) rfl
theorem q1213 : (Jvm.Cond.lays "ConkerYard$Image" "ConkerYard$Image" "force" "I") ∈ lw_all := lw_g (lw_at lw_m5 127 rfl) rfl
theorem q1214 : (Jvm.Cond.soleField "ConkerYard$Image" "force") ∈ lw_all := lw_g (lw_at lw_m5 128 rfl) rfl
theorem q1215 : (Jvm.Cond.lays "ConkerYard$Image" "ConkerYard$Image" "x" "I") ∈ lw_all := lw_g (lw_at lw_m5 129 rfl) rfl
theorem q1216 : (Jvm.Cond.soleField "ConkerYard$Image" "x") ∈ lw_all := lw_g (lw_at lw_m5 130 rfl) rfl
theorem q1217 : (Jvm.Cond.laysFinal "ConkerYard$Image" "ConkerYard$Image" "this$0" "LConkerYard;") ∈ lw_all := lw_g (lw_at lw_m5 131 rfl) rfl
theorem q1218 : (Jvm.Cond.soleField "ConkerYard$Image" "this$0") ∈ lw_all := lw_g (lw_at lw_m5 132 rfl) rfl
theorem q1219 : (Jvm.Cond.superclass "ConkerYard$Image" "java/lang/Object") ∈ lw_all := lw_g (lw_at lw_m5 133 rfl) rfl
theorem q1221 : (Jvm.Cond.instanceMethod ({ cls := "ConkerYard$Image", name := "holds", desc := "()V" } : Jvm.MethodName)) ∈ lw_all := lw_g (lw_at lw_m5 135 rfl) rfl
theorem q1222 : (Jvm.Cond.selects "ConkerYard$Image" ({ cls := "ConkerYard$Image", name := "holds", desc := "()V" } : Jvm.MethodName) ({ cls := "ConkerYard$Image", name := "holds", desc := "()V" } : Jvm.MethodName)) ∈ lw_all := lw_g (lw_at lw_m5 136 rfl) rfl
theorem q1223 : (Jvm.Cond.code ({ cls := "ConkerYard$Image", name := "holds", desc := "()V" } : Jvm.MethodName) prog_7_method_2_code (2 : Nat) (Option.none : Option Jvm.ClassFile.FieldType)) ∈ lw_all := lw_g (lw_at lw_m5 137 rfl) rfl
theorem q1224 : (Jvm.Cond.methodLink "ConkerYard$Image" (42 : Nat) ({ cls := "ConkerYard$State", name := "copyFrom", desc := "(LConkerYard$State;)V" } : Jvm.MethodName)) ∈ lw_all := lw_g (lw_at lw_m5 138 rfl) rfl
theorem q1230 : (Jvm.Cond.instanceMethod ({ cls := "ConkerYard$Image", name := "laysBack", desc := "()V" } : Jvm.MethodName)) ∈ lw_all := lw_g (lw_at lw_m5 144 rfl) rfl
theorem q1231 : (Jvm.Cond.selects "ConkerYard$Image" ({ cls := "ConkerYard$Image", name := "laysBack", desc := "()V" } : Jvm.MethodName) ({ cls := "ConkerYard$Image", name := "laysBack", desc := "()V" } : Jvm.MethodName)) ∈ lw_all := lw_g (lw_at lw_m5 145 rfl) rfl
theorem q1232 : (Jvm.Cond.code ({ cls := "ConkerYard$Image", name := "laysBack", desc := "()V" } : Jvm.MethodName) prog_7_method_3_code (2 : Nat) (Option.none : Option Jvm.ClassFile.FieldType)) ∈ lw_all := lw_g (lw_at lw_m5 146 rfl) rfl
theorem q1881 : (Jvm.Cond.castable "ConkerYard$Image" "java/lang/Object") ∈ lw_tbl := lw_at lw_m8 75 rfl
theorem in_X17 : ∀ w ∈ wsX170, w ∈ lw_all := lw_in wsX170 [1201, 1203, 1205, 1207, 1209, 1211, 1213, 1215, 1217] (by decide +kernel) (by decide +kernel)
